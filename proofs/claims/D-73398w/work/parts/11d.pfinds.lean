/-! the pure law: the model's peaks by their numbers -/
/-- which, numberOf, kept -/
def mk2 (u : j_St) (wh nu : Nat → Nat) (kp : Nat) : j_St := (fun x y k => if y = 0 then (if x = 57 then nI (wh k) else if x = 58 then nI (nu k) else if x = 1 ∧ k = 38 then nI kp else u.1 x y k) else u.1 x y k, u.2)
/-- lineOf, takenBy, taken -/
def mk3 (u : j_St) (lo tk : Nat → Option Nat) (tn : Nat) : j_St := (fun x y k => if y = 0 then (if x = 59 then pOI (lo k) else if x = 60 then pOI (tk k) else if x = 1 ∧ k = 41 then nI tn else u.1 x y k) else u.1 x y k, u.2)
section MK2
variable {w u : j_St} {S : pS} {wh nu : Nat → Nat} {kp k : Nat} {lo tk : Nat → Option Nat} {tn : Nat} {a : Nat → Int32} {n : Nat} {z : Int32}
theorem mkS_out {x : Nat} {v : Int32} (h1 : ¬ (52 ≤ x ∧ x ≤ 56)) (h2 : ¬ (x = 1 ∧ k = 35)) : jsi (mkS w S) x 0 k v = mkS (jsi w x 0 k v) S := Prod.ext (funext fun x' => funext fun y => funext fun j => by
  show (if x' = x ∧ y = 0 ∧ j = k then v else (mkS w S).1 x' y j) = (if y = 0 then (if x' = 52 then _ else if x' = 53 then _ else if x' = 54 then _ else if x' = 55 then _ else if x' = 56 then _ else if x' = 1 ∧ j = 35 then _ else (if x' = x ∧ y = 0 ∧ j = k then v else w.1 x' y j)) else (if x' = x ∧ y = 0 ∧ j = k then v else w.1 x' y j))
  by_cases hc : x' = x ∧ y = 0 ∧ j = k
  · obtain ⟨rfl, rfl, rfl⟩ := hc
    rw [if_pos ⟨rfl, rfl, rfl⟩, if_pos rfl, if_neg (by omega), if_neg (by omega), if_neg (by omega), if_neg (by omega), if_neg (by omega), if_neg h2]
    simp
  · rw [if_neg hc, if_neg hc]
    rfl) rfl
theorem mk2_out {x : Nat} {v : Int32} (h1 : ¬ (57 ≤ x ∧ x ≤ 58)) (h2 : ¬ (x = 1 ∧ k = 38)) : jsi (mk2 u wh nu kp) x 0 k v = mk2 (jsi u x 0 k v) wh nu kp := Prod.ext (funext fun x' => funext fun y => funext fun j => by
  show (if x' = x ∧ y = 0 ∧ j = k then v else (mk2 u wh nu kp).1 x' y j) = (if y = 0 then (if x' = 57 then _ else if x' = 58 then _ else if x' = 1 ∧ j = 38 then _ else (if x' = x ∧ y = 0 ∧ j = k then v else u.1 x' y j)) else (if x' = x ∧ y = 0 ∧ j = k then v else u.1 x' y j))
  by_cases hc : x' = x ∧ y = 0 ∧ j = k
  · obtain ⟨rfl, rfl, rfl⟩ := hc
    rw [if_pos ⟨rfl, rfl, rfl⟩, if_pos rfl, if_neg (by omega), if_neg (by omega), if_neg h2]
    simp
  · rw [if_neg hc, if_neg hc]
    rfl) rfl
theorem mk2_s57 {v : Nat} : jsi (mk2 u wh nu kp) 57 0 k (nI v) = mk2 u (up wh k v) nu kp := Prod.ext (funext fun x => funext fun y => funext fun j => by
  show (if x = 57 ∧ y = 0 ∧ j = k then nI v else _) = _
  by_cases hy : y = 0 <;> by_cases hx : x = 57 <;> by_cases hj : j = k <;> simp [mk2, up, hy, hx, hj]) rfl
theorem mk2_s58 {v : Nat} : jsi (mk2 u wh nu kp) 58 0 k (nI v) = mk2 u wh (up nu k v) kp := Prod.ext (funext fun x => funext fun y => funext fun j => by
  show (if x = 58 ∧ y = 0 ∧ j = k then nI v else _) = _
  by_cases hy : y = 0 <;> by_cases hx : x = 58 <;> by_cases hj : j = k <;> simp [mk2, up, hy, hx, hj]) rfl
theorem mk2_sk {v : Nat} : jsi (mk2 u wh nu kp) 1 0 38 (nI v) = mk2 u wh nu v := Prod.ext (funext fun x => funext fun y => funext fun j => by
  show (if x = 1 ∧ y = 0 ∧ j = 38 then nI v else _) = _
  by_cases hy : y = 0 <;> by_cases hx : x = 1 <;> by_cases hj : j = 38 <;> simp [mk2, hy, hx, hj]) rfl
theorem mk3_s59 {v : Option Nat} : jsi (mk3 u lo tk tn) 59 0 k (pOI v) = mk3 u (up lo k v) tk tn := Prod.ext (funext fun x => funext fun y => funext fun j => by
  show (if x = 59 ∧ y = 0 ∧ j = k then pOI v else _) = _
  by_cases hy : y = 0 <;> by_cases hx : x = 59 <;> by_cases hj : j = k <;> simp [mk3, up, hy, hx, hj]) rfl
theorem mk3_s60 {v : Option Nat} : jsi (mk3 u lo tk tn) 60 0 k (pOI v) = mk3 u lo (up tk k v) tn := Prod.ext (funext fun x => funext fun y => funext fun j => by
  show (if x = 60 ∧ y = 0 ∧ j = k then pOI v else _) = _
  by_cases hy : y = 0 <;> by_cases hx : x = 60 <;> by_cases hj : j = k <;> simp [mk3, up, hy, hx, hj]) rfl
theorem mk3_st {v : Nat} : jsi (mk3 u lo tk tn) 1 0 41 (nI v) = mk3 u lo tk v := Prod.ext (funext fun x => funext fun y => funext fun j => by
  show (if x = 1 ∧ y = 0 ∧ j = 41 then nI v else _) = _
  by_cases hy : y = 0 <;> by_cases hx : x = 1 <;> by_cases hj : j = 41 <;> simp [mk3, hy, hx, hj]) rfl
/-- the whole state of the model's peaks -/
abbrev pN : Type := (Nat → Nat) × (Nat → Nat) × Nat
abbrev pM : Type := (Nat → Option Nat) × (Nat → Option Nat) × Nat
def mkA (w : j_St) (S : pS) (N : pN) (M : pM) : j_St := mkS (mk2 (mk3 w M.1 M.2.1 M.2.2) N.1 N.2.1 N.2.2) S
variable {N : pN} {M : pM}
theorem mkA_Mn : pMn (mkA w S N M) a n z ↔ pMn w a n z := Iff.rfl
theorem mkA_52 : jgi (mkA w S N M) 52 0 k = nI (S.1 k) := rfl
theorem mkA_53 : jgi (mkA w S N M) 53 0 k = pOI (S.2.1 k) := rfl
theorem mkA_54 : jgi (mkA w S N M) 54 0 k = S.2.2.1 k := rfl
theorem mkA_55 : jgi (mkA w S N M) 55 0 k = pOI (S.2.2.2.1 k) := rfl
theorem mkA_57 : jgi (mkA w S N M) 57 0 k = nI (N.1 k) := rfl
theorem mkA_58 : jgi (mkA w S N M) 58 0 k = nI (N.2.1 k) := rfl
theorem mkA_59 : jgi (mkA w S N M) 59 0 k = pOI (M.1 k) := rfl
theorem mkA_60 : jgi (mkA w S N M) 60 0 k = pOI (M.2.1 k) := rfl
theorem mkA_47 : jgi (mkA w S N M) 47 0 k = jgi w 47 0 k := rfl
theorem mkA_49 : jgi (mkA w S N M) 49 0 k = jgi w 49 0 k := rfl
theorem mkA_c : jgi (mkA w S N M) 1 0 35 = nI S.2.2.2.2.2 := rfl
theorem mkA_k : jgi (mkA w S N M) 1 0 38 = nI N.2.2 := rfl
theorem mkA_t : jgi (mkA w S N M) 1 0 41 = nI M.2.2 := rfl
theorem mkA_27 : jgi (mkA w S N M) 1 0 27 = jgi w 1 0 27 := rfl
theorem mkA_28 : jgi (mkA w S N M) 1 0 28 = jgi w 1 0 28 := rfl
theorem mkA_s57 {v : Nat} : jsi (mkA w S N M) 57 0 k (nI v) = mkA w S (up N.1 k v, N.2.1, N.2.2) M := by
  unfold mkA
  rw [mkS_out (by omega) (by omega), mk2_s57]
theorem mkA_s58 {v : Nat} : jsi (mkA w S N M) 58 0 k (nI v) = mkA w S (N.1, up N.2.1 k v, N.2.2) M := by
  unfold mkA
  rw [mkS_out (by omega) (by omega), mk2_s58]
theorem mkA_sk {v : Nat} : jsi (mkA w S N M) 1 0 38 (nI v) = mkA w S (N.1, N.2.1, v) M := by
  unfold mkA
  rw [mkS_out (by omega) (by omega), mk2_sk]
theorem mkA_s59 {v : Option Nat} : jsi (mkA w S N M) 59 0 k (pOI v) = mkA w S N (up M.1 k v, M.2.1, M.2.2) := by
  unfold mkA
  rw [mkS_out (by omega) (by omega), mk2_out (by omega) (by omega), mk3_s59]
theorem mkA_s60 {v : Option Nat} : jsi (mkA w S N M) 60 0 k (pOI v) = mkA w S N (M.1, up M.2.1 k v, M.2.2) := by
  unfold mkA
  rw [mkS_out (by omega) (by omega), mk2_out (by omega) (by omega), mk3_s60]
theorem mkA_st {v : Nat} : jsi (mkA w S N M) 1 0 41 (nI v) = mkA w S N (M.1, M.2.1, v) := by
  unfold mkA
  rw [mkS_out (by omega) (by omega), mk2_out (by omega) (by omega), mk3_st]
/-- how long a peak lives -/
def pLf (a : Nat → Int32) (S : pS) (c : Nat) : Int32 := a (S.1 c) - S.2.2.1 c
theorem sp_lifeOf (h : pMn w a n z) {c : Nat} (hc : c < 48) (hp : S.1 c < n) : f_X9_lifeOf (nI c) (mkA w S N M) = some (pLf a S c, mkA w S N M) := by
  have hn := h.2.2.2
  simp (disch := omega) only [f_X9_lifeOf, jbd_nI, jlt_eq, mkA_52, mkA_47, mkA_54, h.2.2.1 _ hp]
  rfl
/-- whether a peak is to give way -/
def pMv (a : Nat → Int32) (S : pS) (c q : Nat) : Bool := decide (pLf a S q < pLf a S c) || (decide (pLf a S q = pLf a S c) && decide (S.1 c < S.1 q))
/-- one is put in its place from behind -/
def pIns (l : Nat) (mv : Nat → Bool) : Nat → (Nat → Nat) → Nat × (Nat → Nat)
  | 0, f => (0, f)
  | i + 1, f => if i + 1 ≤ l then (i + 1, f) else if mv (f i) = true then pIns l mv i (up f (i + 1) (f i)) else (i + 1, f)
theorem sp_finds_L16 (h : pMn w a n z) {c : Nat} (hc : c < 48) (hpc : S.1 c < n) (hp : ∀ q, q < 48 → S.1 q < n ∨ 48 ≤ n ∨ True) {kk : Int32 → j_St → Option (Unit × j_St)} : ∀ (i f : Nat) (wh : Nat → Nat), i < 48 → (∀ j, j < i → wh j < 48 ∧ S.1 (wh j) < n) → i < f → f_X9_finds_L16 (nI c) kk f (nI i) (mkA w S (wh, N.2.1, N.2.2) M) = kk (nI (pIns 1 (pMv a S c) i wh).1) (mkA w S ((pIns 1 (pMv a S c) i wh).2, N.2.1, N.2.2) M) := by
  intro i
  induction i with
  | zero =>
    intro f wh hi hw hf
    obtain ⟨f, rfl⟩ : ∃ f', f = f' + 1 := ⟨f - 1, by omega⟩
    rw [f_X9_finds_L16, if_pos (show nI 0 ≤ 1 by decide)]
    rfl
  | succ i ih =>
    intro f wh hi hw hf
    obtain ⟨f, rfl⟩ : ∃ f', f = f' + 1 := ⟨f - 1, by omega⟩
    obtain ⟨w1, w2⟩ := hw i (by omega)
    have e1 : nI (i + 1) - 1 = nI i := nI_pred i
    have e2 : nI (i + 1) + (-1) = nI i := nI_m1' (by omega)
    have l1 := sp_lifeOf (S := S) (N := (wh, N.2.1, N.2.2)) (M := M) h w1 w2
    have l2 := sp_lifeOf (S := S) (N := (wh, N.2.1, N.2.2)) (M := M) h hc hpc
    have nx := ih f (up wh (i + 1) (wh i)) (by omega) (fun j hj => by
      rw [up_ne (by omega)]
      exact hw j (by omega)) (by omega)
    have sw : jsi (mkA w S (wh, N.2.1, N.2.2) M) 57 0 (i + 1) (nI (wh i)) = mkA w S (up wh (i + 1) (wh i), N.2.1, N.2.2) M := mkA_s57
    by_cases hle : i + 1 ≤ 1
    · rw [f_X9_finds_L16, if_pos (show nI (i + 1) ≤ (1 : Int32) from (nI_leI (b := 1) (by omega) (by decide)).mpr hle)]
      simp only [pIns, hle, if_true]
    · rw [f_X9_finds_L16, if_neg (show ¬ nI (i + 1) ≤ (1 : Int32) from fun z => hle ((nI_leI (b := 1) (by omega) (by decide)).mp z)), e1, e2]
      have mv : pMv a S c (wh i) = (decide (pLf a S (wh i) < pLf a S c) || (decide (pLf a S (wh i) = pLf a S c) && decide (S.1 c < S.1 (wh i)))) := rfl
      simp (disch := omega) only [pIns, hle, if_false, jbd_nI, ↓jlt_eq, mkA_57, l1, l2, jcb_some', sw, mkA_52]
      by_cases h1 : pLf a S (wh i) < pLf a S c
      · have m1 : pMv a S c (wh i) = true := by rw [mv]; simp [h1]
        simp only [h1, m1, if_true]
        exact nx
      · by_cases h2 : pLf a S (wh i) = pLf a S c
        · by_cases h3 : S.1 c < S.1 (wh i)
          · have m1 : pMv a S c (wh i) = true := by rw [mv]; simp [h2, h3]
            have h4 : ¬ nI (S.1 (wh i)) ≤ nI (S.1 c) := fun z => absurd ((nI_leI (by have := h.2.2.2; omega) (by have := h.2.2.2; omega)).mp z) (by omega)
            simp only [h1, h2, h4, m1, if_true, if_false, Int32.lt_irrefl]
            exact nx
          · have m1 : pMv a S c (wh i) = false := by rw [mv]; simp [h2, h3]
            have h4 : nI (S.1 (wh i)) ≤ nI (S.1 c) := (nI_leI (by have := h.2.2.2; omega) (by have := h.2.2.2; omega)).mpr (by omega)
            simp only [h1, h2, h4, m1, if_true, if_false, Int32.lt_irrefl, Bool.false_eq_true]
        · have m1 : pMv a S c (wh i) = false := by rw [mv]; simp [h1, h2]
          simp only [h1, h2, m1, if_false, Bool.false_eq_true]
end MK2
