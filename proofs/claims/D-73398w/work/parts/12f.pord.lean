/-! the pure law: the order found by insertion is the order in which places come -/
section PP
variable {a : Nat → Int32}
/-- the first c places, in their order -/
def pSo (a : Nat → Int32) (c : Nat) (o : Nat → Nat) : Prop := (∀ k, k < c → o k < c) ∧ (∀ q, q < c → ∃ k, k < c ∧ o k = q) ∧ ∀ k l, k < l → l < c → pAh a (o k) (o l) = true
theorem pOm_iff {k q : Nat} (h : q < k) : pOm a k q = true ↔ pAh a k q = true := by
  rw [pAh_int]
  unfold pOm
  rw [Bool.not_eq_true', decide_eq_false_iff_not, Int32.le_iff_toInt_le]
  omega
theorem pOm_no {k q : Nat} (h : q < k) (hm : pOm a k q = false) : pAh a q k = true := by
  rcases pAh_tot (a := a) (p := q) (q := k) (by omega) with z | z
  · exact z
  · rw [← pOm_iff h, hm] at z
    cases z
theorem pSo_s {c : Nat} {f : Nat → Nat} (h : pSo a c f) : pSo a (c + 1) (up (pIns 0 (pOm a c) c f).2 (pIns 0 (pOm a c) c f).1 c) := by
  obtain ⟨g1, g2, g3⟩ := h
  obtain ⟨h1, h2, h3, h4, h5, h6⟩ := pIns_sh (l := 0) (mv := pOm a c) c f
  refine ⟨pIns_lt g1, ?_, ?_⟩
  all_goals generalize pIns 0 (pOm a c) c f = r at h1 h2 h3 h4 h5 h6
  · intro q hq
    by_cases e : q = c
    · exact ⟨r.1, by omega, by rw [up_same, e]⟩
    · obtain ⟨k, hk, hkq⟩ := g2 q (by omega)
      rcases Nat.lt_or_ge k r.1 with z | z
      · exact ⟨k, by omega, by rw [up_ne (by omega), h2 k z, hkq]⟩
      · exact ⟨k + 1, by omega, by rw [up_ne (by omega), h3 (k + 1) (by omega) (by omega), show k + 1 - 1 = k by omega, hkq]⟩
  · have val : ∀ j, j < c + 1 → up r.2 r.1 c j = if j < r.1 then f j else if j = r.1 then c else f (j - 1) := fun j hj => by
      by_cases e : j = r.1
      · rw [e, up_same, if_neg (by omega), if_pos rfl]
      · rw [up_ne e]
        rcases Nat.lt_or_ge j r.1 with z | z
        · rw [if_pos z, h2 j z]
        · rw [if_neg (by omega), if_neg e, h3 j (by omega) (by omega)]
    have lo : ∀ j, j < r.1 → pAh a (f j) c = true := fun j hj => by
      rcases h6 with z | z
      · omega
      · have last := pOm_no (g1 (r.1 - 1) (by omega)) z
        by_cases e : j = r.1 - 1
        · rw [e]; exact last
        · exact pAh_tr (g3 j (r.1 - 1) (by omega) (by omega)) last
    have hi : ∀ j, r.1 ≤ j → j < c → pAh a c (f j) = true := fun j hj hc => (pOm_iff (g1 j hc)).mp (h5 j hj hc)
    intro k l hkl hl
    rw [val k (by omega), val l hl]
    by_cases c1 : k < r.1
    · rw [if_pos c1]
      by_cases c2 : l < r.1
      · rw [if_pos c2]; exact g3 k l hkl (by omega)
      · rw [if_neg c2]
        by_cases c3 : l = r.1
        · rw [if_pos c3]; exact lo k c1
        · rw [if_neg c3]; exact g3 k (l - 1) (by omega) (by omega)
    · rw [if_neg c1, if_neg (show ¬ l < r.1 by omega), if_neg (show ¬ l = r.1 by omega)]
      by_cases c3 : k = r.1
      · rw [if_pos c3]; exact hi (l - 1) (by omega) (by omega)
      · rw [if_neg c3]; exact g3 (k - 1) (l - 1) (by omega) (by omega)
theorem pSo_L : ∀ (k c : Nat) (f : Nat → Nat), pSo a c f → pSo a (c + k) (pWh 0 (pOm a) k c f) := by
  intro k
  induction k with
  | zero => intro c f h; exact h
  | succ k ih =>
    intro c f h
    have := ih (c + 1) _ (pSo_s h)
    rw [show c + (k + 1) = c + 1 + k by omega]
    exact this
theorem pOrd_is {n : Nat} {f : Nat → Nat} : pOrd a n (pWh 0 (pOm a) n 0 f) := by
  have := pSo_L (a := a) n 0 f ⟨fun k h => by omega, fun q h => by omega, fun k l _ h => by omega⟩
  rw [Nat.zero_add] at this
  exact this
end PP
