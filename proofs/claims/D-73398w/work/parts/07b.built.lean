/-! states made by the way: they are built once their constructor is through -/
def jS5 (n : Nat) (κ i : Nat) : Prop := (κ = 5 ∧ i = n) ∨ (κ = 4 ∧ i = 2 * n + 1) ∨ (κ = 32 ∧ i = 2 * n + 1) ∨ (κ = 33 ∧ i = n)
theorem jS5_5 {n : Nat} : jS5 n 5 n := Or.inl ⟨rfl, rfl⟩
theorem j_hf {a b : Prop} (h : a ∧ b) : a ∧ True := ⟨h.1, trivial⟩
theorem jb_X8r {n : Nat} {w w1 : j_St} {r : Unit} (h : f_X8_init n w = some (r, w1)) : jgr w1 5 n 0 = some (2 * n + 1) ∧ jgr w1 5 n 1 = some n ∧ jgr w1 5 n 5 = some 0 ∧ jgr w1 4 (2 * n + 1) 0 = some (2 * n + 1) := by
  simp only [f_X8_init, f_X7_init, jlt, jcb, Option.some.injEq, Prod.mk.injEq] at h
  obtain ⟨-, rfl⟩ := h
  refine ⟨?_, ?_, ?_, ?_⟩ <;> simp [jgr, jsr, jnw, ju3]
theorem jfs5 {k : Nat} (h : jfs 5 k = 3) : k = 0 ∨ k = 1 ∨ k = 5 := by
  match k, h with
  | 0, _ => exact Or.inl rfl
  | 1, _ => exact Or.inr (Or.inl rfl)
  | 2, h => exact absurd h (by decide)
  | 3, h => exact absurd h (by decide)
  | 4, h => exact absurd h (by decide)
  | 5, _ => exact Or.inr (Or.inr rfl)
  | k + 6, h => exact absurd h (by show ¬ 0 = 3; decide)
theorem jfs4 {k : Nat} (h : jfs 4 k = 3) : k = 0 := by
  match k, h with
  | 0, _ => rfl
  | 1, h => exact absurd h (by decide)
  | k + 2, h => exact absurd h (by show ¬ 0 = 3; decide)
theorem jb_X8 {B0 B : j_B} {n : Nat} {w w1 : j_St} {r : Unit} (h : f_X8_init n w = some (r, w1)) (h5 : B.2.1 5 n ∧ True) (hp : jadd B0 [(4, (2 * n + 1)), (32, (2 * n + 1)), (33, n)] B) (h0 : B.2.1 0 0 ∧ B.2.2 0 0) :
    ∀ κ i, jS5 n κ i → B.2.1 κ i ∧ ∀ k, jfs κ k = 3 → jgr w1 κ i k = some (jci κ i k) ∧ (B.2.2 (jfk κ k) (jci κ i k) ∨ jS5 n (jfk κ k) (jci κ i k)) := by
  obtain ⟨r0, r1, r5, r4⟩ := jb_X8r h
  rintro κ i (⟨rfl, rfl⟩ | ⟨rfl, rfl⟩ | ⟨rfl, rfl⟩ | ⟨rfl, rfl⟩)
  · refine ⟨h5.1, fun k hk => ?_⟩
    rcases jfs5 hk with rfl | rfl | rfl
    · exact ⟨r0, Or.inr (Or.inr (Or.inl ⟨rfl, rfl⟩))⟩
    · exact ⟨r1, Or.inr (Or.inr (Or.inr (Or.inr ⟨rfl, rfl⟩)))⟩
    · exact ⟨r5, Or.inl h0.2⟩
  · refine ⟨hp.2.1 _ _ (by simp), fun k hk => ?_⟩
    rcases jfs4 hk with rfl
    exact ⟨r4, Or.inr (Or.inr (Or.inr (Or.inl ⟨rfl, rfl⟩)))⟩
  · exact ⟨hp.2.1 _ _ (by simp), fun k hk => absurd hk (by unfold jfs jfd; simp [jk0, jkt, jfi])⟩
  · exact ⟨hp.2.1 _ _ (by simp), fun k hk => absurd hk (by unfold jfs jfd; simp [jk0, jkt, jfi])⟩
