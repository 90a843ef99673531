/-! what is left to compute, taken apart -/
theorem jbd_some {β : Type} {j : Int32} {n : Nat} {f : Nat → Option β} {x : β} (h : jbd j n f = some x) : (0 ≤ j.toInt ∧ j.toInt < (n : Int)) ∧ f j.toInt.toNat = some x := by
  unfold jbd at h
  split at h
  · next hb => exact ⟨hb, h⟩
  · cases h
theorem job_some {β : Type} {r : Option Nat} {f : Nat → Option β} {x : β} (h : job r f = some x) : ∃ q, r = some q ∧ f q = some x := by
  cases r with
  | none => cases h
  | some q => exact ⟨q, rfl, h⟩
theorem jcb_some {α β : Type} {o : Option (α × j_St)} {k : α → j_St → Option β} {x : β} (h : jcb o k = some x) : ∃ r w1, o = some (r, w1) ∧ k r w1 = some x := by
  cases o with
  | none => cases h
  | some p => exact ⟨p.1, p.2, rfl, h⟩
theorem jcs_some {β : Type} {r : Option Nat} {e : Option β} {f : Nat → Option β} {x : β} (h : jcs r e f = some x) : (r = none ∧ e = some x) ∨ ∃ q, r = some q ∧ f q = some x := by
  cases r with
  | none => exact Or.inl ⟨rfl, h⟩
  | some q => exact Or.inr ⟨q, rfl, h⟩
theorem jlt_eq {α β : Type} (x : α) (k : α → β) : jlt x k = k x := rfl
theorem va_re_cat (ad : Nat → Nat) (v : Option Nat) : (va_re ad v).category = 1 := by cases v <;> rfl
theorem jct_i (x : Int32) : (Value.int x).category = 1 := rfl
theorem jct_l (x : Int64) : (Value.long x).category = 2 := rfl
theorem jct_r (x : Nat) : (Value.ref x).category = 1 := rfl
theorem jct_n : Value.null.category = 1 := rfl
theorem j_sm {B : j_B} {κ e : Nat} (h : B.2.1 κ e ∧ B.2.2 κ e) : ∀ q, some e = some q → B.2.1 κ q ∧ B.2.2 κ q := fun q z => Option.some.inj z ▸ h
theorem j_nn {B : j_B} {κ : Nat} : ∀ q, (none : Option Nat) = some q → B.2.1 κ q ∧ B.2.2 κ q := fun q z => by cases z
