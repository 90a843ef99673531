/-! the pure law: the component's peaks, their typed state -/
/-- a place in the book of Peaks i0 -/
def pQ (i0 : Nat) (x : Option Nat) : Option Nat := x.map fun c => 48 * i0 + c
def pB (b : Bool) : Int32 := if b = true then 1 else 0
/-- Peaks i0: the samples looked at, order, row, place, valley, death, parent, whose, many; came, height, isKept, kept -/
def mkP (i0 : Nat) (w : j_St) (i1 : Nat) (od : Nat → Nat) (rw : Nat → Option Nat) (pl : Nat → Nat) (va : Nat → Option Nat) (de : Nat → Int32) (pa be : Nat → Option Nat) (cm : Nat) (ca : Nat → Nat) (he : Nat → Int32) (kt : Nat → Bool) (kp : Nat) : j_St :=
  (fun x y k => if x = 3 ∧ 48 * i0 ≤ y ∧ y < 48 * i0 + 48 then (if k = 0 then nI (pl (y - 48 * i0)) else if k = 1 then he (y - 48 * i0) else if k = 2 then pOI (va (y - 48 * i0)) else if k = 3 then de (y - 48 * i0) else if k = 4 then nI (ca (y - 48 * i0)) else if k = 6 then pB (kt (y - 48 * i0)) else w.1 x y k)
    else if x = 29 ∧ y = i0 then nI (od k) else if x = 2 ∧ y = i0 ∧ k = 5 then nI cm else if x = 2 ∧ y = i0 ∧ k = 6 then nI kp else w.1 x y k,
   w.2.1,
   fun x y k => if x = 3 ∧ 48 * i0 ≤ y ∧ y < 48 * i0 + 48 then (if k = 5 then pQ i0 (pa (y - 48 * i0)) else w.2.2.1 x y k)
    else if x = 27 ∧ y = i0 then pQ i0 (rw k) else if x = 28 ∧ y = i0 then pQ i0 (be k) else if x = 2 ∧ y = i0 ∧ k = 4 then some i1 else w.2.2.1 x y k,
   w.2.2.2)
section MP
variable {i0 : Nat} {w : j_St} {i1 : Nat} {od : Nat → Nat} {rw : Nat → Option Nat} {pl : Nat → Nat} {va : Nat → Option Nat} {de : Nat → Int32} {pa be : Nat → Option Nat} {cm : Nat} {ca : Nat → Nat} {he : Nat → Int32} {kt : Nat → Bool} {kp c k : Nat}
theorem mkP_0 (hc : c < 48) : jgi (mkP i0 w i1 od rw pl va de pa be cm ca he kt kp) 3 (48 * i0 + c) 0 = nI (pl c) := by
  show (if 3 = 3 ∧ 48 * i0 ≤ 48 * i0 + c ∧ 48 * i0 + c < 48 * i0 + 48 then _ else _) = _
  rw [if_pos ⟨rfl, by omega, by omega⟩, Nat.add_sub_cancel_left]
  rfl
theorem mkP_s0 (hc : c < 48) {v : Nat} : jsi (mkP i0 w i1 od rw pl va de pa be cm ca he kt kp) 3 (48 * i0 + c) 0 (nI v) = (mkP i0 w i1 od rw (up pl c v) va de pa be cm ca he kt kp) := Prod.ext (funext fun x => funext fun y => funext fun j => by
  show (if x = 3 ∧ y = 48 * i0 + c ∧ j = 0 then nI v else (mkP i0 w i1 od rw pl va de pa be cm ca he kt kp).1 x y j) = _
  by_cases h : x = 3 ∧ 48 * i0 ≤ y ∧ y < 48 * i0 + 48
  · obtain ⟨rfl, h1, h2⟩ := h
    by_cases hj : j = 0
    · subst hj
      by_cases hy : y = 48 * i0 + c
      · subst hy
        simp [mkP, up, hc]
      · have : y - 48 * i0 ≠ c := by omega
        simp [mkP, up, h1, h2, hy, this]
    · simp [mkP, h1, h2, hj]
  · have : ¬ (x = 3 ∧ y = 48 * i0 + c ∧ j = 0) := by omega
    simp [mkP, h, this]) rfl
theorem mkP_1 (hc : c < 48) : jgi (mkP i0 w i1 od rw pl va de pa be cm ca he kt kp) 3 (48 * i0 + c) 1 =  (he c) := by
  show (if 3 = 3 ∧ 48 * i0 ≤ 48 * i0 + c ∧ 48 * i0 + c < 48 * i0 + 48 then _ else _) = _
  rw [if_pos ⟨rfl, by omega, by omega⟩, Nat.add_sub_cancel_left]
  rfl
theorem mkP_s1 (hc : c < 48) {v : Int32} : jsi (mkP i0 w i1 od rw pl va de pa be cm ca he kt kp) 3 (48 * i0 + c) 1 ( v) = (mkP i0 w i1 od rw pl va de pa be cm ca (up he c v) kt kp) := Prod.ext (funext fun x => funext fun y => funext fun j => by
  show (if x = 3 ∧ y = 48 * i0 + c ∧ j = 1 then  v else (mkP i0 w i1 od rw pl va de pa be cm ca he kt kp).1 x y j) = _
  by_cases h : x = 3 ∧ 48 * i0 ≤ y ∧ y < 48 * i0 + 48
  · obtain ⟨rfl, h1, h2⟩ := h
    by_cases hj : j = 1
    · subst hj
      by_cases hy : y = 48 * i0 + c
      · subst hy
        simp [mkP, up, hc]
      · have : y - 48 * i0 ≠ c := by omega
        simp [mkP, up, h1, h2, hy, this]
    · simp [mkP, h1, h2, hj]
  · have : ¬ (x = 3 ∧ y = 48 * i0 + c ∧ j = 1) := by omega
    simp [mkP, h, this]) rfl
theorem mkP_2 (hc : c < 48) : jgi (mkP i0 w i1 od rw pl va de pa be cm ca he kt kp) 3 (48 * i0 + c) 2 = pOI (va c) := by
  show (if 3 = 3 ∧ 48 * i0 ≤ 48 * i0 + c ∧ 48 * i0 + c < 48 * i0 + 48 then _ else _) = _
  rw [if_pos ⟨rfl, by omega, by omega⟩, Nat.add_sub_cancel_left]
  rfl
theorem mkP_s2 (hc : c < 48) {v : Option Nat} : jsi (mkP i0 w i1 od rw pl va de pa be cm ca he kt kp) 3 (48 * i0 + c) 2 (pOI v) = (mkP i0 w i1 od rw pl (up va c v) de pa be cm ca he kt kp) := Prod.ext (funext fun x => funext fun y => funext fun j => by
  show (if x = 3 ∧ y = 48 * i0 + c ∧ j = 2 then pOI v else (mkP i0 w i1 od rw pl va de pa be cm ca he kt kp).1 x y j) = _
  by_cases h : x = 3 ∧ 48 * i0 ≤ y ∧ y < 48 * i0 + 48
  · obtain ⟨rfl, h1, h2⟩ := h
    by_cases hj : j = 2
    · subst hj
      by_cases hy : y = 48 * i0 + c
      · subst hy
        simp [mkP, up, hc]
      · have : y - 48 * i0 ≠ c := by omega
        simp [mkP, up, h1, h2, hy, this]
    · simp [mkP, h1, h2, hj]
  · have : ¬ (x = 3 ∧ y = 48 * i0 + c ∧ j = 2) := by omega
    simp [mkP, h, this]) rfl
theorem mkP_3 (hc : c < 48) : jgi (mkP i0 w i1 od rw pl va de pa be cm ca he kt kp) 3 (48 * i0 + c) 3 =  (de c) := by
  show (if 3 = 3 ∧ 48 * i0 ≤ 48 * i0 + c ∧ 48 * i0 + c < 48 * i0 + 48 then _ else _) = _
  rw [if_pos ⟨rfl, by omega, by omega⟩, Nat.add_sub_cancel_left]
  rfl
theorem mkP_s3 (hc : c < 48) {v : Int32} : jsi (mkP i0 w i1 od rw pl va de pa be cm ca he kt kp) 3 (48 * i0 + c) 3 ( v) = (mkP i0 w i1 od rw pl va (up de c v) pa be cm ca he kt kp) := Prod.ext (funext fun x => funext fun y => funext fun j => by
  show (if x = 3 ∧ y = 48 * i0 + c ∧ j = 3 then  v else (mkP i0 w i1 od rw pl va de pa be cm ca he kt kp).1 x y j) = _
  by_cases h : x = 3 ∧ 48 * i0 ≤ y ∧ y < 48 * i0 + 48
  · obtain ⟨rfl, h1, h2⟩ := h
    by_cases hj : j = 3
    · subst hj
      by_cases hy : y = 48 * i0 + c
      · subst hy
        simp [mkP, up, hc]
      · have : y - 48 * i0 ≠ c := by omega
        simp [mkP, up, h1, h2, hy, this]
    · simp [mkP, h1, h2, hj]
  · have : ¬ (x = 3 ∧ y = 48 * i0 + c ∧ j = 3) := by omega
    simp [mkP, h, this]) rfl
theorem mkP_4 (hc : c < 48) : jgi (mkP i0 w i1 od rw pl va de pa be cm ca he kt kp) 3 (48 * i0 + c) 4 = nI (ca c) := by
  show (if 3 = 3 ∧ 48 * i0 ≤ 48 * i0 + c ∧ 48 * i0 + c < 48 * i0 + 48 then _ else _) = _
  rw [if_pos ⟨rfl, by omega, by omega⟩, Nat.add_sub_cancel_left]
  rfl
theorem mkP_s4 (hc : c < 48) {v : Nat} : jsi (mkP i0 w i1 od rw pl va de pa be cm ca he kt kp) 3 (48 * i0 + c) 4 (nI v) = (mkP i0 w i1 od rw pl va de pa be cm (up ca c v) he kt kp) := Prod.ext (funext fun x => funext fun y => funext fun j => by
  show (if x = 3 ∧ y = 48 * i0 + c ∧ j = 4 then nI v else (mkP i0 w i1 od rw pl va de pa be cm ca he kt kp).1 x y j) = _
  by_cases h : x = 3 ∧ 48 * i0 ≤ y ∧ y < 48 * i0 + 48
  · obtain ⟨rfl, h1, h2⟩ := h
    by_cases hj : j = 4
    · subst hj
      by_cases hy : y = 48 * i0 + c
      · subst hy
        simp [mkP, up, hc]
      · have : y - 48 * i0 ≠ c := by omega
        simp [mkP, up, h1, h2, hy, this]
    · simp [mkP, h1, h2, hj]
  · have : ¬ (x = 3 ∧ y = 48 * i0 + c ∧ j = 4) := by omega
    simp [mkP, h, this]) rfl
theorem mkP_6 (hc : c < 48) : jgi (mkP i0 w i1 od rw pl va de pa be cm ca he kt kp) 3 (48 * i0 + c) 6 = pB (kt c) := by
  show (if 3 = 3 ∧ 48 * i0 ≤ 48 * i0 + c ∧ 48 * i0 + c < 48 * i0 + 48 then _ else _) = _
  rw [if_pos ⟨rfl, by omega, by omega⟩, Nat.add_sub_cancel_left]
  rfl
theorem mkP_s6 (hc : c < 48) {v : Bool} : jsi (mkP i0 w i1 od rw pl va de pa be cm ca he kt kp) 3 (48 * i0 + c) 6 (pB v) = (mkP i0 w i1 od rw pl va de pa be cm ca he (up kt c v) kp) := Prod.ext (funext fun x => funext fun y => funext fun j => by
  show (if x = 3 ∧ y = 48 * i0 + c ∧ j = 6 then pB v else (mkP i0 w i1 od rw pl va de pa be cm ca he kt kp).1 x y j) = _
  by_cases h : x = 3 ∧ 48 * i0 ≤ y ∧ y < 48 * i0 + 48
  · obtain ⟨rfl, h1, h2⟩ := h
    by_cases hj : j = 6
    · subst hj
      by_cases hy : y = 48 * i0 + c
      · subst hy
        simp [mkP, up, hc]
      · have : y - 48 * i0 ≠ c := by omega
        simp [mkP, up, h1, h2, hy, this]
    · simp [mkP, h1, h2, hj]
  · have : ¬ (x = 3 ∧ y = 48 * i0 + c ∧ j = 6) := by omega
    simp [mkP, h, this]) rfl
theorem mkP_5 (hc : c < 48) : jgr (mkP i0 w i1 od rw pl va de pa be cm ca he kt kp) 3 (48 * i0 + c) 5 = pQ i0 (pa c) := by
  show (if 3 = 3 ∧ 48 * i0 ≤ 48 * i0 + c ∧ 48 * i0 + c < 48 * i0 + 48 then _ else _) = _
  rw [if_pos ⟨rfl, by omega, by omega⟩, Nat.add_sub_cancel_left]
  rfl
theorem mkP_s5 (hc : c < 48) {v : Option Nat} : jsr (mkP i0 w i1 od rw pl va de pa be cm ca he kt kp) 3 (48 * i0 + c) 5 (pQ i0 v) = (mkP i0 w i1 od rw pl va de (up pa c v) be cm ca he kt kp) := Prod.ext rfl (Prod.ext rfl (Prod.ext (funext fun x => funext fun y => funext fun j => by
  show (if x = 3 ∧ y = 48 * i0 + c ∧ j = 5 then pQ i0 v else (mkP i0 w i1 od rw pl va de pa be cm ca he kt kp).2.2.1 x y j) = _
  by_cases h : x = 3 ∧ 48 * i0 ≤ y ∧ y < 48 * i0 + 48
  · obtain ⟨rfl, h1, h2⟩ := h
    by_cases hj : j = 5
    · subst hj
      by_cases hy : y = 48 * i0 + c
      · subst hy
        simp [mkP, up, hc]
      · have : y - 48 * i0 ≠ c := by omega
        simp [mkP, up, h1, h2, hy, this]
    · simp [mkP, h1, h2, hj]
  · have : ¬ (x = 3 ∧ y = 48 * i0 + c ∧ j = 5) := by omega
    simp [mkP, h, this]) rfl))
theorem mkP_27 : jgr (mkP i0 w i1 od rw pl va de pa be cm ca he kt kp) 27 i0 k = pQ i0 (rw k) := by simp [mkP, jgr]
theorem mkP_s27 {v : Option Nat} : jsr (mkP i0 w i1 od rw pl va de pa be cm ca he kt kp) 27 i0 k (pQ i0 v) = (mkP i0 w i1 od (up rw k v) pl va de pa be cm ca he kt kp) := Prod.ext rfl (Prod.ext rfl (Prod.ext (funext fun x => funext fun y => funext fun j => by
  show (if x = 27 ∧ y = i0 ∧ j = k then pQ i0 v else (mkP i0 w i1 od rw pl va de pa be cm ca he kt kp).2.2.1 x y j) = _
  by_cases hx : x = 27
  · subst hx
    by_cases hy : y = i0
    · subst hy
      by_cases hj : j = k <;> simp [mkP, up, hj]
    · simp [mkP, hy]
  · simp [mkP, hx]) rfl))
theorem mkP_28 : jgr (mkP i0 w i1 od rw pl va de pa be cm ca he kt kp) 28 i0 k = pQ i0 (be k) := by simp [mkP, jgr]
theorem mkP_s28 {v : Option Nat} : jsr (mkP i0 w i1 od rw pl va de pa be cm ca he kt kp) 28 i0 k (pQ i0 v) = (mkP i0 w i1 od rw pl va de pa (up be k v) cm ca he kt kp) := Prod.ext rfl (Prod.ext rfl (Prod.ext (funext fun x => funext fun y => funext fun j => by
  show (if x = 28 ∧ y = i0 ∧ j = k then pQ i0 v else (mkP i0 w i1 od rw pl va de pa be cm ca he kt kp).2.2.1 x y j) = _
  by_cases hx : x = 28
  · subst hx
    by_cases hy : y = i0
    · subst hy
      by_cases hj : j = k <;> simp [mkP, up, hj]
    · simp [mkP, hy]
  · simp [mkP, hx]) rfl))
theorem mkP_29 : jgi (mkP i0 w i1 od rw pl va de pa be cm ca he kt kp) 29 i0 k = nI (od k) := by simp [mkP, jgi]
theorem mkP_s29 {v : Nat} : jsi (mkP i0 w i1 od rw pl va de pa be cm ca he kt kp) 29 i0 k (nI v) = (mkP i0 w i1 (up od k v) rw pl va de pa be cm ca he kt kp) := Prod.ext (funext fun x => funext fun y => funext fun j => by
  show (if x = 29 ∧ y = i0 ∧ j = k then nI v else (mkP i0 w i1 od rw pl va de pa be cm ca he kt kp).1 x y j) = _
  by_cases hx : x = 29
  · subst hx
    by_cases hy : y = i0
    · subst hy
      by_cases hj : j = k <;> simp [mkP, up, hj]
    · simp [mkP, hy]
  · simp [mkP, hx]) rfl
theorem mkP_2cm : jgi (mkP i0 w i1 od rw pl va de pa be cm ca he kt kp) 2 i0 5 = nI cm := by simp [mkP, jgi]
theorem mkP_s2cm {v : Nat} : jsi (mkP i0 w i1 od rw pl va de pa be cm ca he kt kp) 2 i0 5 (nI v) = (mkP i0 w i1 od rw pl va de pa be v ca he kt kp) := Prod.ext (funext fun x => funext fun y => funext fun j => by
  show (if x = 2 ∧ y = i0 ∧ j = 5 then nI v else (mkP i0 w i1 od rw pl va de pa be cm ca he kt kp).1 x y j) = _
  by_cases hx : x = 2
  · subst hx
    by_cases hy : y = i0
    · subst hy
      by_cases hj : j = 5 <;> simp [mkP, hj]
    · simp [mkP, hy]
  · simp [mkP, hx]) rfl
theorem mkP_2kp : jgi (mkP i0 w i1 od rw pl va de pa be cm ca he kt kp) 2 i0 6 = nI kp := by simp [mkP, jgi]
theorem mkP_s2kp {v : Nat} : jsi (mkP i0 w i1 od rw pl va de pa be cm ca he kt kp) 2 i0 6 (nI v) = (mkP i0 w i1 od rw pl va de pa be cm ca he kt v) := Prod.ext (funext fun x => funext fun y => funext fun j => by
  show (if x = 2 ∧ y = i0 ∧ j = 6 then nI v else (mkP i0 w i1 od rw pl va de pa be cm ca he kt kp).1 x y j) = _
  by_cases hx : x = 2
  · subst hx
    by_cases hy : y = i0
    · subst hy
      by_cases hj : j = 6 <;> simp [mkP, hj]
    · simp [mkP, hy]
  · simp [mkP, hx]) rfl
theorem mkP_24 : jgr (mkP i0 w i1 od rw pl va de pa be cm ca he kt kp) 2 i0 4 = some i1 := by simp [mkP, jgr]
theorem mkP_s24 {v : Nat} : jsr (mkP i0 w i1 od rw pl va de pa be cm ca he kt kp) 2 i0 4 (some v) = (mkP i0 w v od rw pl va de pa be cm ca he kt kp) := Prod.ext rfl (Prod.ext rfl (Prod.ext (funext fun x => funext fun y => funext fun j => by
  show (if x = 2 ∧ y = i0 ∧ j = 4 then some v else (mkP i0 w i1 od rw pl va de pa be cm ca he kt kp).2.2.1 x y j) = _
  by_cases hx : x = 2
  · subst hx
    by_cases hy : y = i0
    · subst hy
      by_cases hj : j = 4 <;> simp [mkP, hj]
    · simp [mkP, hy]
  · simp [mkP, hx]) rfl))
theorem mkP_S4 {y : Nat} : jgi (mkP i0 w i1 od rw pl va de pa be cm ca he kt kp) 4 y k = jgi w 4 y k := by simp [mkP, jgi]
theorem mkP_S32 {y : Nat} : jgi (mkP i0 w i1 od rw pl va de pa be cm ca he kt kp) 32 y k = jgi w 32 y k := by simp [mkP, jgi]
end MP
