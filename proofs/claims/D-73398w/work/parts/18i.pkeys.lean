/-! the pure law: which word it is -/
section KEYS
variable {w w' w0 : j_St} {P : pP} {n m k : Nat} {c : Nat → Nat}
/-- the literals' letters -/
def ln (j : Nat) : List Nat := (stB.getD j []).map fun x => x.toInt.toNat
theorem ln_lit {j : Nat} (hj : j < 13) : (stB.getD j []).length = (ln j).length ∧ ∀ i, i < (ln j).length → (stB.getD j []).getD i 0 = nI ((ln j).getD i 0) ∧ 97 ≤ (ln j).getD i 0 ∧ (ln j).getD i 0 ≤ 122 := by
  have hd : ∀ j : Fin 13, (stB.getD j.val []).length = (ln j.val).length ∧ ∀ i, i < (ln j.val).length → (stB.getD j.val []).getD i 0 = nI ((ln j.val).getD i 0) ∧ 97 ≤ (ln j.val).getD i 0 ∧ (ln j.val).getD i 0 ≤ 122 := by decide +kernel
  exact hd ⟨j, hj⟩
theorem ln_len {j : Nat} (hj : j < 13) : 1 ≤ (ln j).length ∧ (ln j).length ≤ 6 := by
  have hd : ∀ j : Fin 13, 1 ≤ (ln j.val).length ∧ (ln j.val).length ≤ 6 := by decide +kernel
  exact hd ⟨j, hj⟩
theorem wQ_ln {j : Nat} (hj : j < 13) (hc : ∀ i, i < k → c i < 128) : wQ k c (stB.getD j []) = true ↔ k = (ln j).length ∧ ∀ i, i < k → c i = (ln j).getD i 0 := by
  obtain ⟨l1, l2⟩ := ln_lit hj
  rw [wQ_iff, l1]
  constructor
  · intro ⟨e, h⟩
    refine ⟨e, fun i hi => ?_⟩
    have a := h i hi
    obtain ⟨b1, b2, b3⟩ := l2 i (by omega)
    rw [b1] at a
    have := hc i hi
    exact (nI_eq (by omega) (by omega)).mp a
  · intro ⟨e, h⟩
    refine ⟨e, fun i hi => ?_⟩
    rw [(l2 i (by omega)).1, h i hi]
/-- a literal's hash is what the class holds -/
theorem hs_lit {j : Nat} (hj : j < 13) (h : wQ k c (stB.getD j []) = true) : hs k (fun i => nI (c i)) = stH.getD j 0 := by
  obtain ⟨e, hi⟩ := wQ_iff.mp h
  have cong : ∀ cnt m (v : Int32) (f g : Nat → Int32), (∀ i, i < m + cnt → f i = g i) → pIt (fun i v => 31 * v + f i) cnt m v = pIt (fun i v => 31 * v + g i) cnt m v := by
    intro cnt
    induction cnt with
    | zero => intro m v f g _; rfl
    | succ cnt ih =>
      intro m v f g hfg
      show pIt _ cnt (m + 1) (31 * v + f m) = pIt _ cnt (m + 1) (31 * v + g m)
      rw [hfg m (by omega)]
      exact ih (m + 1) _ f g (fun i h => hfg i (by omega))
  have hd : ∀ j : Fin 13, hs (stB.getD j.val []).length (fun i => (stB.getD j.val []).getD i 0) = stH.getD j.val 0 := by decide +kernel
  have := hd ⟨j, hj⟩
  rw [← this]
  unfold hs
  rw [cong k 0 0 _ (fun i => (stB.getD j []).getD i 0) (fun i h => hi i (by omega)), e]
theorem wQ_one {i j : Nat} (hi : i < 13) (hj : j < 13) (h : wQ k c (stB.getD i []) = true) (g : wQ k c (stB.getD j []) = true) : i = j := by
  have a := hs_lit hi h
  have b := hs_lit hj g
  rw [a] at b
  have hd : ∀ i j : Fin 13, stH.getD i.val 0 = stH.getD j.val 0 → i.val = j.val := by decide +kernel
  exact hd ⟨i, hi⟩ ⟨j, hj⟩ b
/-! of the trace -/
def kT (k : Nat) (c : Nat → Nat) : Int32 := if wQ k c (stB.getD 0 []) = true then 0 else if wQ k c (stB.getD 1 []) = true then 1 else if wQ k c (stB.getD 2 []) = true then 2 else if wQ k c (stB.getD 3 []) = true then 3 else -1
theorem kT_is {j : Nat} (hj : j < 4) (h : wQ k c (stB.getD j []) = true) : kT k c = nI j := by
  have no : ∀ i, i < 13 → i ≠ j → ¬ wQ k c (stB.getD i []) = true := fun i hi hn z => hn (wQ_one hi (by omega) z h)
  unfold kT
  rcases (show j = 0 ∨ j = 1 ∨ j = 2 ∨ j = 3 by omega) with rfl | rfl | rfl | rfl
  · rw [if_pos h]; rfl
  · rw [if_neg (no 0 (by omega) (by omega)), if_pos h]; rfl
  · rw [if_neg (no 0 (by omega) (by omega)), if_neg (no 1 (by omega) (by omega)), if_pos h]; rfl
  · rw [if_neg (no 0 (by omega) (by omega)), if_neg (no 1 (by omega) (by omega)), if_neg (no 2 (by omega) (by omega)), if_pos h]; rfl
theorem kT_no (h : ∀ j, j < 4 → ¬ wQ k c (stB.getD j []) = true) : kT k c = -1 := by
  unfold kT
  rw [if_neg (h 0 (by omega)), if_neg (h 1 (by omega)), if_neg (h 2 (by omega)), if_neg (h 3 (by omega))]
/-- one place of the switch -/
theorem c_case {β : Type} {q j : Nat} {K : Int32 → j_St → Option β} {r : Int32} (h : pStr w q k c) (hL : cLit w) (hj : j < 13) (hk : k < 10000) : (jcb (f_J3_equals_a17 q j w) fun v10 w11 => if v10 = 0 then K (-1) w11 else K r w11) = K (if wQ k c (stB.getD j []) = true then r else -1) w := by
  rw [c_eq17 h hL hj hk, jcb_s2]
  by_cases e : wQ k c (stB.getD j []) = true
  · rw [if_pos e, if_neg n10, if_pos e]
  · rw [if_neg e, if_pos rfl, if_neg e]
theorem c_kT {β : Type} {v : Int32} {q : Nat} (hv : v = hs k (fun i => nI (c i))) (h : pStr w q k c) (hL : cLit w) (hk : k < 10000) (K : Int32 → j_St → Option β) : (if v = 3321844 then jcb (f_J3_equals_a17 q 3 w) fun v20 w21 => if v20 = 0 then K (-1) w21 else K 3 w21 else if v = 104998682 then jcb (f_J3_equals_a17 q 1 w) fun v23 w24 => if v23 = 0 then K (-1) w24 else K 1 w24 else if v = 108386675 then jcb (f_J3_equals_a17 q 2 w) fun v26 w27 => if v26 = 0 then K (-1) w27 else K 2 w27 else if v = 110620997 then jcb (f_J3_equals_a17 q 0 w) fun v29 w30 => if v29 = 0 then K (-1) w30 else K 0 w30 else K (-1) w) = K (kT k c) w := by
  have hh : ∀ j, j < 13 → wQ k c (stB.getD j []) = true → v = stH.getD j 0 := fun j hj z => hv.trans (hs_lit hj z)
  have st : ∀ j, j < 4 → v = stH.getD j 0 → (if wQ k c (stB.getD j []) = true then nI j else -1) = kT k c := fun j hj e => by
    by_cases z : wQ k c (stB.getD j []) = true
    · rw [if_pos z, kT_is hj z]
    · rw [if_neg z, kT_no fun i hi y => ?_]
      have a := hh i (by omega) y
      rw [e] at a
      have hd : ∀ i j : Fin 13, stH.getD j.val 0 = stH.getD i.val 0 → i.val = j.val := by decide +kernel
      have : i = j := hd ⟨i, by omega⟩ ⟨j, by omega⟩ a
      exact z (this ▸ y)
  by_cases e3 : v = 3321844
  · rw [if_pos e3, c_case h hL (by omega) hk]
    exact congrArg (fun x => K x w) (st 3 (by omega) e3)
  · rw [if_neg e3]
    by_cases e1 : v = 104998682
    · rw [if_pos e1, c_case h hL (by omega) hk]
      exact congrArg (fun x => K x w) (st 1 (by omega) e1)
    · rw [if_neg e1]
      by_cases e2 : v = 108386675
      · rw [if_pos e2, c_case h hL (by omega) hk]
        exact congrArg (fun x => K x w) (st 2 (by omega) e2)
      · rw [if_neg e2]
        by_cases e0 : v = 110620997
        · have := st 0 (by omega) e0
          rw [if_pos e0, c_case h hL (by omega) hk]
          exact congrArg (fun x => K x w) this
        · rw [if_neg e0, kT_no fun i hi y => ?_]
          have a := hh i (by omega) y
          rcases (show i = 0 ∨ i = 1 ∨ i = 2 ∨ i = 3 by omega) with rfl | rfl | rfl | rfl
          · exact e0 a
          · exact e1 a
          · exact e2 a
          · exact e3 a
/-! of scripts -/
def kI (i : Nat) : Nat := [4, 5, 6, 7, 8, 9, 10, 11, 1, 12].getD i 0
theorem kI_lt (i : Nat) : kI i < 13 := by
  unfold kI
  rcases Nat.lt_or_ge i 10 with h | h
  · have hd : ∀ i : Fin 10, [4, 5, 6, 7, 8, 9, 10, 11, 1, 12].getD i.val 0 < 13 := by decide
    exact hd ⟨i, h⟩
  · rw [List.getD_eq_getElem?_getD, List.getElem?_eq_none (by exact h)]
    decide
theorem kI_inj {i j : Nat} (hi : i < 10) (hj : j < 10) (h : kI i = kI j) : i = j := by
  have hd : ∀ i j : Fin 10, kI i.val = kI j.val → i.val = j.val := by decide +kernel
  exact hd ⟨i, hi⟩ ⟨j, hj⟩ h
def kS (k : Nat) (c : Nat → Nat) : Int32 := pIt (fun i v => if wQ k c (stB.getD (kI i) []) = true then nI i else v) 10 0 (-1)
theorem kS_it {j : Nat} : ∀ cnt m (v : Int32), (∀ i, i ≠ j → i < m + cnt → ¬ wQ k c (stB.getD (kI i) []) = true) → pIt (fun i v => if wQ k c (stB.getD (kI i) []) = true then nI i else v) cnt m v = if m ≤ j ∧ j < m + cnt ∧ wQ k c (stB.getD (kI j) []) = true then nI j else v := by
  intro cnt
  induction cnt with
  | zero => intro m v _; rw [if_neg (by omega)]; rfl
  | succ cnt ih =>
    intro m v h
    show pIt _ cnt (m + 1) (if wQ k c (stB.getD (kI m) []) = true then nI m else v) = _
    rw [ih (m + 1) _ (fun i a b => h i a (by omega))]
    by_cases e : m = j
    · subst e
      rw [if_neg (by omega)]
      by_cases z : wQ k c (stB.getD (kI m) []) = true
      · rw [if_pos z, if_pos ⟨Nat.le_refl _, by omega, z⟩]
      · rw [if_neg z, if_neg (fun y => z y.2.2)]
    · rw [if_neg (h m e (by omega))]
      by_cases z : m + 1 ≤ j ∧ j < m + 1 + cnt ∧ wQ k c (stB.getD (kI j) []) = true
      · rw [if_pos z, if_pos ⟨by omega, by omega, z.2.2⟩]
      · rw [if_neg z, if_neg (fun y => z ⟨by omega, by omega, y.2.2⟩)]
theorem kS_is {j : Nat} (hj : j < 10) (h : wQ k c (stB.getD (kI j) []) = true) : kS k c = nI j := by
  unfold kS
  rw [kS_it (j := j) 10 0 (-1) (fun i hn hi z => hn (kI_inj (by omega) hj (wQ_one (kI_lt _) (kI_lt _) z h))), if_pos ⟨Nat.zero_le _, by omega, h⟩]
theorem kS_no (h : ∀ j, j < 10 → ¬ wQ k c (stB.getD (kI j) []) = true) : kS k c = -1 := by
  unfold kS
  rw [kS_it (j := 0) 10 0 (-1) (fun i _ hi => h i (by omega)), if_neg (fun z => h 0 (by omega) z.2.2)]
theorem c_sortOf {g : Nat} (hB : pSB w0 w m k g c) (hg : g ≤ 5) (hc : ∀ i, i < k → c i < 128) (hL : cLit w) (hr : jgn w0 170 0 ≤ jgn w 170 0) : ∃ w', f_X1_sortOf m w = some (kS k c, w') ∧ pSame (KSt w) w w' ∧ jgn w' 115 0 = jgn w 115 0 + 1 ∧ jgn w' 170 0 = jgn w 170 0 + 1 := by
  have hk : k < 10000 := by
    obtain ⟨b, -, -, -, -, -, -, h7, -⟩ := hB
    have := capa_le hg
    omega
  obtain ⟨w1, e1, s1, p1, z2, z3, n1, n2⟩ := sb_str hB hg hc
  obtain ⟨w2, e2, s2⟩ := c_hash p1 z2 z3 hc hk
  have p2 : pStr w2 (jgn w 115 0) k c := by
    obtain ⟨b, b1, b2, b3, b4, b5, b6⟩ := p1
    exact ⟨b, by rw [s2.2.2.1 _ _ _ (by unfold KHs; omega)]; exact b1, by rw [s2.1 _ _ _ (by unfold KHs; omega)]; exact b2, by rw [s2.2.2.2 _ _ (by unfold KHs; omega)]; exact b3, fun i hi => by rw [s2.1 _ _ _ (by unfold KHs; omega)]; exact b4 i hi, by rw [s2.2.2.2 _ _ (by unfold KHs; omega)]; exact b5, by rw [s2.2.2.2 _ _ (by unfold KHs; omega)]; exact b6⟩
  have hL2 : cLit w2 := (hL.same s1 (fun κ i k h => by unfold KSt; omega)).same s2 (fun κ i k h => by unfold KHs; omega)
  refine ⟨w2, ?_, s1.trans (s2.mono fun κ i k y => by unfold KHs at y; unfold KSt; omega), by rw [s2.2.2.2 _ _ (by unfold KHs; omega)]; exact n1, by rw [s2.2.2.2 _ _ (by unfold KHs; omega)]; exact n2⟩
  rw [f_X1_sortOf, e1, jcb_s2, e2, jcb_s2]
  have hh : ∀ j, j < 13 → wQ k c (stB.getD j []) = true → hs k (fun i => nI (c i)) = stH.getD j 0 := fun j hj z => hs_lit hj z
  generalize hs k (fun i => nI (c i)) = v at hh
  have fin0 : ∀ x : Int32, x = kS k c → (if x = 0 then some ((0 : Int32), w2) else if x = 1 then some (1, w2) else if x = 2 then some (2, w2) else if x = 3 then some (3, w2) else if x = 4 then some (4, w2) else if x = 5 then some (5, w2) else if x = 6 then some (6, w2) else if x = 7 then some (7, w2) else if x = 8 then some (8, w2) else if x = 9 then some (9, w2) else some (-1, w2)) = some (kS k c, w2) := fun x hx => by
    rw [← hx]
    by_cases h : ∃ j, j < 10 ∧ wQ k c (stB.getD (kI j) []) = true
    · obtain ⟨j, hj, z⟩ := h
      rw [hx, kS_is hj z]
      have hd : ∀ j : Fin 10, ∀ w2 : j_St, (if nI j.val = 0 then some ((0 : Int32), w2) else if nI j.val = 1 then some (1, w2) else if nI j.val = 2 then some (2, w2) else if nI j.val = 3 then some (3, w2) else if nI j.val = 4 then some (4, w2) else if nI j.val = 5 then some (5, w2) else if nI j.val = 6 then some (6, w2) else if nI j.val = 7 then some (7, w2) else if nI j.val = 8 then some (8, w2) else if nI j.val = 9 then some (9, w2) else some (-1, w2)) = some (nI j.val, w2) := by
        intro j w2
        rcases j with ⟨j, hj⟩
        rcases (show j = 0 ∨ j = 1 ∨ j = 2 ∨ j = 3 ∨ j = 4 ∨ j = 5 ∨ j = 6 ∨ j = 7 ∨ j = 8 ∨ j = 9 by omega) with rfl | rfl | rfl | rfl | rfl | rfl | rfl | rfl | rfl | rfl <;> rfl
      exact hd ⟨j, hj⟩ w2
    · rw [hx, kS_no fun j hj z => h ⟨j, hj, z⟩]
      rfl
  generalize hK : (fun (v40 : Int32) (w41 : j_St) => if v40 = 0 then some ((0 : Int32), w41) else if v40 = 1 then some (1, w41) else if v40 = 2 then some (2, w41) else if v40 = 3 then some (3, w41) else if v40 = 4 then some (4, w41) else if v40 = 5 then some (5, w41) else if v40 = 6 then some (6, w41) else if v40 = 7 then some (7, w41) else if v40 = 8 then some (8, w41) else if v40 = 9 then some (9, w41) else some ((-1), w41)) = K
  have fin : ∀ x : Int32, x = kS k c → K x w2 = some (kS k c, w2) := fun x hx => by
    rw [← hK]
    exact fin0 x hx
  rw [jlt_eq]
  have st : ∀ j, j < 10 → v = stH.getD (kI j) 0 → (if wQ k c (stB.getD (kI j) []) = true then nI j else -1) = kS k c := fun j hj e => by
    by_cases z : wQ k c (stB.getD (kI j) []) = true
    · rw [if_pos z, kS_is hj z]
    · rw [if_neg z, kS_no fun i hi y => ?_]
      have a := hh (kI i) (kI_lt _) y
      rw [e] at a
      have hd : ∀ i j : Fin 13, stH.getD j.val 0 = stH.getD i.val 0 → i.val = j.val := by decide +kernel
      have : kI i = kI j := hd ⟨kI i, kI_lt _⟩ ⟨kI j, kI_lt _⟩ a
      exact z (this ▸ y)
  by_cases a1 : v = -1078031094
  · rw [if_pos a1, c_case p2 hL2 (by omega) hk]
    exact fin _ (st 1 (by omega) a1)
  rw [if_neg a1]
  by_cases a0 : v = -898533970
  · rw [if_pos a0, c_case p2 hL2 (by omega) hk]
    exact fin _ (st 0 (by omega) a0)
  rw [if_neg a0]
  by_cases a9 : v = 98882
  · rw [if_pos a9, c_case p2 hL2 (by omega) hk]
    exact fin _ (st 9 (by omega) a9)
  rw [if_neg a9]
  by_cases a7 : v = 113762
  · rw [if_pos a7, c_case p2 hL2 (by omega) hk]
    exact fin _ (st 7 (by omega) a7)
  rw [if_neg a7]
  by_cases a4 : v = 3056464
  · rw [if_pos a4, c_case p2 hL2 (by omega) hk]
    exact fin _ (st 4 (by omega) a4)
  rw [if_neg a4]
  by_cases a2 : v = 3145593
  · rw [if_pos a2, c_case p2 hL2 (by omega) hk]
    exact fin _ (st 2 (by omega) a2)
  rw [if_neg a2]
  by_cases a5 : v = 3321611
  · rw [if_pos a5, c_case p2 hL2 (by omega) hk]
    exact fin _ (st 5 (by omega) a5)
  rw [if_neg a5]
  by_cases a3 : v = 3571837
  · rw [if_pos a3, c_case p2 hL2 (by omega) hk]
    exact fin _ (st 3 (by omega) a3)
  rw [if_neg a3]
  by_cases a8 : v = 104998682
  · rw [if_pos a8, c_case p2 hL2 (by omega) hk]
    exact fin _ (st 8 (by omega) a8)
  rw [if_neg a8]
  by_cases a6 : v = 109250890
  · rw [if_pos a6, c_case p2 hL2 (by omega) hk]
    exact fin _ (st 6 (by omega) a6)
  rw [if_neg a6]
  refine fin (-1) (kS_no fun i hi y => ?_).symm
  have a := hh (kI i) (kI_lt _) y
  rcases (show i = 0 ∨ i = 1 ∨ i = 2 ∨ i = 3 ∨ i = 4 ∨ i = 5 ∨ i = 6 ∨ i = 7 ∨ i = 8 ∨ i = 9 by omega) with rfl | rfl | rfl | rfl | rfl | rfl | rfl | rfl | rfl | rfl
  · exact a0 a
  · exact a1 a
  · exact a2 a
  · exact a3 a
  · exact a4 a
  · exact a5 a
  · exact a6 a
  · exact a7 a
  · exact a8 a
  · exact a9 a
/-! the model's words -/
theorem pWord_s {a : Nat} {f : Nat → Nat} : pWord (a + 1) f = 27 * pWord a f + f a := pIt_last
theorem pWord_inj {f g : Nat → Nat} : ∀ a b, (∀ i, i < a → 1 ≤ f i ∧ f i ≤ 26) → (∀ i, i < b → 1 ≤ g i ∧ g i ≤ 26) → pWord a f = pWord b g → a = b ∧ ∀ i, i < a → f i = g i := by
  intro a
  induction a with
  | zero =>
    intro b _ hg h
    cases b with
    | zero => exact ⟨rfl, fun i hi => by omega⟩
    | succ b =>
      rw [pWord_s] at h
      have := hg b (by omega)
      have e : pWord 0 f = 0 := rfl
      omega
  | succ a ih =>
    intro b hf hg h
    cases b with
    | zero =>
      rw [pWord_s] at h
      have := hf a (by omega)
      have e : pWord 0 g = 0 := rfl
      omega
    | succ b =>
      rw [pWord_s, pWord_s] at h
      have h1 := hf a (by omega)
      have h2 := hg b (by omega)
      obtain ⟨e, r⟩ := ih b (fun i hi => hf i (by omega)) (fun i hi => hg i (by omega)) (by omega)
      subst e
      refine ⟨rfl, fun i hi => ?_⟩
      rcases Nat.lt_or_ge i a with z | z
      · exact r i z
      · rw [show i = a by omega]
        omega
theorem pWord_lt {f : Nat → Nat} : ∀ a, (∀ i, i < a → f i ≤ 26) → pWord a f < 27 ^ a := by
  intro a
  induction a with
  | zero => intro _; exact Nat.one_pos
  | succ a ih =>
    intro h
    have h1 := ih (fun i hi => h i (by omega))
    have h2 := h a (by omega)
    rw [pWord_s, Nat.pow_succ]
    omega
theorem lN_eq63 {a b : Nat} (ha : a < 2 ^ 63) (hb : b < 2 ^ 63) : lN a = lN b ↔ a = b := by
  rw [← Int64.toInt_inj]
  unfold lN
  rw [Int64.toInt_ofNat_of_lt ha, Int64.toInt_ofNat_of_lt hb]
  omega
theorem lg_cmp0 {x y : Int64} : lg_cmp x y = 0 ↔ x = y := by
  unfold lg_cmp
  by_cases h : x > y
  · rw [if_pos h]
    refine ⟨fun z => absurd z (by decide), fun z => ?_⟩
    rw [z] at h
    exact absurd h (Int64.lt_irrefl)
  · rw [if_neg h]
    by_cases e : x = y
    · rw [if_pos e]; exact ⟨fun _ => e, fun _ => rfl⟩
    · rw [if_neg e]; exact ⟨fun z => absurd z (by decide), fun z => absurd z e⟩
def lnV (j : Nat) : Nat := pWord (ln j).length (fun i => (ln j).getD i 0 - 96)
/-- the letters of the word there -/
def wl (P : pP) (st : Nat) : Nat := tE gL P st - st
def wc (P : pP) (st : Nat) : Nat → Nat := fun i => P.2 (st + i)
theorem wc_L {st i : Nat} (h : i < wl P st) : st + i < P.1 ∧ 97 ≤ wc P st i ∧ wc P st i ≤ 122 := by
  unfold wl at h
  have := tE_in (g := gL) (P := P) (p := st) (q := st + i) (by omega) (by omega)
  exact ⟨this.1, gL_iff.mp this.2⟩
theorem wl_0 {st : Nat} (h : ¬ tK P st = 1) : wl P st = 0 := by
  unfold wl
  refine Nat.sub_eq_zero_of_le (Nat.le_of_eq (tE_F fun z => h ?_))
  unfold tK
  rw [if_pos z.1, if_pos z.2]
theorem wl_pos {st : Nat} (h : tK P st = 1) : 0 < wl P st := by
  unfold tK at h
  by_cases c : st < P.1
  · rw [if_pos c] at h
    by_cases a : gL (P.2 st) = true
    · unfold wl
      have := tE_ge (g := gL) (P := P) (st + 1)
      rw [tE_T c a]
      omega
    · rw [if_neg a] at h
      split at h
      · split at h <;> omega
      · split at h <;> omega
  · rw [if_neg c] at h
    omega
theorem m_isWord {st j : Nat} (h : TkM P w st) (hj : j < 13) : f_X9_isWord (lN (lnV j)) w = some (if wQ (wl P st) (wc P st) (stB.getD j []) = true then 1 else 0, w) := by
  obtain ⟨h1, h2, h3, h4, h5, -⟩ := h
  have hc : ∀ i, i < wl P st → wc P st i < 128 := fun i hi => by have := wc_L hi; omega
  obtain ⟨l1, l2⟩ := ln_lit hj
  have l3 := ln_len hj
  have tk4 : tK P st ≤ 4 := by
    unfold tK
    repeat' split
    all_goals omega
  rw [f_X9_isWord, jlt_eq, h4]
  by_cases e : tK P st = 1
  · obtain ⟨k7, k9, -⟩ := h5 e
    rw [if_pos (show nI (tK P st) = 1 by rw [e]; rfl), jlt_eq, k9, show tE gL P st - st = wl P st from rfl]
    have fl : ∀ i, i < min 7 (wl P st) → 1 ≤ wc P st i - 96 ∧ wc P st i - 96 ≤ 26 := fun i hi => by have := wc_L (P := P) (st := st) (i := i) (by omega); omega
    have gl : ∀ i, i < (ln j).length → 1 ≤ (ln j).getD i 0 - 96 ∧ (ln j).getD i 0 - 96 ≤ 26 := fun i hi => by have := (l2 i hi).2; omega
    have b7 : (27 : Nat) ^ (min 7 (wl P st)) ≤ 27 ^ 7 := Nat.pow_le_pow_right (by decide) (by omega)
    have b6 : (27 : Nat) ^ (ln j).length ≤ 27 ^ 7 := Nat.pow_le_pow_right (by decide) (by omega)
    have v1 : wv P st (min 7 (wl P st)) < 27 ^ 7 := Nat.lt_of_lt_of_le (pWord_lt _ fun i hi => (fl i hi).2) b7
    have v2 : lnV j < 27 ^ 7 := Nat.lt_of_lt_of_le (pWord_lt _ fun i hi => (gl i hi).2) b6
    have eqv : lN (wv P st (min 7 (wl P st))) = lN (lnV j) ↔ wQ (wl P st) (wc P st) (stB.getD j []) = true := by
      rw [lN_eq63 (by omega) (by omega), wQ_ln hj hc]
      constructor
      · intro z
        obtain ⟨q1, q2⟩ := pWord_inj _ _ fl gl z
        refine ⟨by omega, fun i hi => ?_⟩
        have a := q2 i (by omega)
        have b := wc_L hi
        have d := (l2 i (by omega)).2
        omega
      · intro ⟨q1, q2⟩
        rw [show min 7 (wl P st) = wl P st by omega]
        unfold wv lnV
        rw [← q1]
        have cong : ∀ a (f g : Nat → Nat), (∀ i, i < a → f i = g i) → pWord a f = pWord a g := by
          intro a
          induction a with
          | zero => intro f g _; rfl
          | succ a ih =>
            intro f g hfg
            rw [pWord_s, pWord_s, ih f g (fun i hi => hfg i (by omega)), hfg a (by omega)]
        exact cong _ _ _ fun i hi => by
          have := q2 i hi
          show wc P st i - 96 = _
          rw [this]
    by_cases z : wQ (wl P st) (wc P st) (stB.getD j []) = true
    · rw [if_pos (lg_cmp0.mpr (eqv.mpr z)), if_pos z]
    · rw [if_neg (fun y => z (eqv.mp (lg_cmp0.mp y))), if_neg z]
  · rw [if_neg (show ¬ nI (tK P st) = 1 from fun y => e ((nI_eq (b := 1) (by omega) (by omega)).mp y))]
    have z : ¬ wQ (wl P st) (wc P st) (stB.getD j []) = true := fun y => by
      have := ((wQ_ln hj hc).mp y).1
      rw [wl_0 e] at this
      omega
    rw [if_neg z]
theorem lnV_is : lnV 0 = 10983929 ∧ lnV 1 = 7742498 ∧ lnV 2 = 9665171 ∧ lnV 3 = 243140 ∧ lnV 4 = 279844694 ∧ lnV 5 = 189278330 ∧ lnV 6 = 126893 ∧ lnV 7 = 409469 ∧ lnV 8 = 68056 ∧ lnV 9 = 242939 ∧ lnV 10 = 10157486 ∧ lnV 11 = 14006 ∧ lnV 12 = 2774 := by decide +kernel
end KEYS
