/-! the pure law: the component's peaks as they come -/
/-- Samples i1 hold a, n of them -/
def pCn (w : j_St) (i1 : Nat) (a : Nat → Int32) (n : Nat) : Prop := jgi w 4 i1 1 = nI n ∧ (∀ k, k < n → jgi w 32 i1 k = a k) ∧ n ≤ 48
theorem pQ_some {i0 c : Nat} : pQ i0 (some c) = some (48 * i0 + c) := rfl
theorem pQ_none {i0 : Nat} : pQ i0 none = none := rfl
theorem pQ_eq {i0 g : Nat} {x : Option Nat} : (pQ i0 x = some (48 * i0 + g)) = (x = some g) := propext (by
  cases x with
  | none => simp [pQ]
  | some c => simp [pQ])
theorem up_self {α : Type} {f : Nat → α} {k : Nat} : up f k (f k) = f := by
  funext j
  unfold up
  by_cases e : j = k
  · rw [if_pos e, e]
  · rw [if_neg e]
theorem job_some' {β : Type} {q : Nat} {f : Nat → Option β} : job (some q) f = f q := rfl
theorem jcs_s' {β : Type} {q : Nat} {e : β} {f : Nat → β} : jcs (some q) e f = f q := rfl
theorem jcs_n' {β : Type} {e : β} {f : Nat → β} : jcs none e f = e := rfl
theorem nI_neg {p : Nat} (h : p < 2 ^ 31) : (nI p < (0 : Int32)) = False := eq_false (nI_pos h)
section PC
variable {i0 : Nat} {w : j_St} {i1 : Nat} {od : Nat → Nat} {rw : Nat → Option Nat} {pl : Nat → Nat} {va : Nat → Option Nat} {de : Nat → Int32} {pa be : Nat → Option Nat} {cm : Nat} {ca : Nat → Nat} {he : Nat → Int32} {kt : Nat → Bool} {kp c k : Nat} {a : Nat → Int32} {n : Nat}
theorem sp_cbeside (h : pCn w i1 a n) {p : Nat} (hp : p ≤ n) : f_X5_beside i0 (nI p) (mkP i0 w i1 od rw pl va de pa be cm ca he kt kp) = some (pQ i0 (if p < n then be p else none), mkP i0 w i1 od rw pl va de pa be cm ca he kt kp) := by
  have hn := h.2.2
  rw [f_X5_beside]
  by_cases hh : p < n
  · simp (disch := omega) only [↓jlt_eq, nI_neg, if_false, mkP_24, job_some', mkP_S4, h.1, nI_leI, show ¬ n ≤ p by omega, jbd_nI, mkP_28, hh, if_true]
  · simp (disch := omega) only [↓jlt_eq, nI_neg, if_false, mkP_24, job_some', mkP_S4, h.1, nI_leI, show n ≤ p by omega, hh, if_true, pQ_none]
theorem sp_cbesideL (h : pCn w i1 a n) {p : Nat} (hp : p < n) : f_X5_beside i0 (nI p - 1) (mkP i0 w i1 od rw pl va de pa be cm ca he kt kp) = some (pQ i0 (if 0 < p then be (p - 1) else none), mkP i0 w i1 od rw pl va de pa be cm ca he kt kp) := by
  by_cases h0 : 0 < p
  · rw [nI_m1 h0, sp_cbeside h (by omega), if_pos h0, if_pos (by omega)]
  · have : p = 0 := by omega
    subst this
    rw [nI_00, f_X5_beside, if_pos (by decide)]
    rfl
theorem sp_cbesideR (h : pCn w i1 a n) {p : Nat} (hp : p < n) : f_X5_beside i0 (nI p + 1) (mkP i0 w i1 od rw pl va de pa be cm ca he kt kp) = some (pQ i0 (if p + 1 < n then be (p + 1) else none), mkP i0 w i1 od rw pl va de pa be cm ca he kt kp) := by
  rw [nI_1, sp_cbeside h (by omega)]
theorem sp_cjoins_L (h : pCn w i1 a n) {l g : Nat} : ∀ (c f m : Nat) (be : Nat → Option Nat), m + c = n → c < f → f_X5_joins_L64 i0 (48 * i0 + l) (48 * i0 + g) f (nI m) (mkP i0 w i1 od rw pl va de pa be cm ca he kt kp) = some ((), mkP i0 w i1 od rw pl va de pa (pJn l g c m be) cm ca he kt kp) := by
  have hn := h.2.2
  intro c
  induction c with
  | zero =>
    intro f m be hm hf
    obtain ⟨f, rfl⟩ : ∃ f', f = f' + 1 := ⟨f - 1, by omega⟩
    have e : m = n := by omega
    subst e
    simp (disch := omega) only [f_X5_joins_L64, ↓jlt_eq, mkP_24, job_some', mkP_S4, h.1, nI_leI, Nat.le_refl, if_true, pJn]
  | succ c ih =>
    intro f m be hm hf
    obtain ⟨f, rfl⟩ : ∃ f', f = f' + 1 := ⟨f - 1, by omega⟩
    have s1 : jsr (mkP i0 w i1 od rw pl va de pa be cm ca he kt kp) 28 i0 m (some (48 * i0 + l)) = mkP i0 w i1 od rw pl va de pa (up be m (some l)) cm ca he kt kp := mkP_s28 (v := some l)
    by_cases e2 : be m = some g
    · have c2 : (pQ i0 (be m) = some (48 * i0 + g)) = True := by rw [pQ_eq]; exact eq_true e2
      have e3 : pJn l g (c + 1) m be = pJn l g c (m + 1) (up be m (some l)) := by simp only [pJn, e2, if_true]
      have nx := ih f (m + 1) (up be m (some l)) (by omega) (by omega)
      simp (disch := omega) only [f_X5_joins_L64, ↓jlt_eq, mkP_24, job_some', mkP_S4, h.1, nI_leI, show ¬ n ≤ m by omega, if_false, if_true, jbd_nI, mkP_28, c2, s1, nI_1, nx, e3]
    · have c2 : (pQ i0 (be m) = some (48 * i0 + g)) = False := by rw [pQ_eq]; exact eq_false e2
      have e3 : pJn l g (c + 1) m be = pJn l g c (m + 1) be := by simp only [pJn, e2, if_false, up_self]
      have nx := ih f (m + 1) be (by omega) (by omega)
      simp (disch := omega) only [f_X5_joins_L64, ↓jlt_eq, mkP_24, job_some', mkP_S4, h.1, nI_leI, show ¬ n ≤ m by omega, if_false, jbd_nI, mkP_28, c2, nI_1, nx, e3]
theorem sp_dies {l g : Nat} (hg : g < 48) {p : Nat} {v : Int32} : f_X6_dies (48 * i0 + g) (nI p) v (some (48 * i0 + l)) (mkP i0 w i1 od rw pl va de pa be cm ca he kt kp) = some ((), mkP i0 w i1 od rw pl (up va g (some p)) (up de g v) (up pa g (some l)) be cm ca he kt kp) := by
  have s1 : jsi (mkP i0 w i1 od rw pl va de pa be cm ca he kt kp) 3 (48 * i0 + g) 2 (nI p) = mkP i0 w i1 od rw pl (up va g (some p)) de pa be cm ca he kt kp := mkP_s2 hg (v := some p)
  have s3 : jsr (mkP i0 w i1 od rw pl (up va g (some p)) (up de g v) pa be cm ca he kt kp) 3 (48 * i0 + g) 5 (some (48 * i0 + l)) = mkP i0 w i1 od rw pl (up va g (some p)) (up de g v) (up pa g (some l)) be cm ca he kt kp := mkP_s5 hg (v := some l)
  rw [f_X6_dies, jlt_eq, s1, jlt_eq, mkP_s3 hg, jlt_eq, s3]
theorem sp_begins {p t : Nat} {v : Int32} (hc : c < 48) : f_X6_begins (48 * i0 + c) (nI p) v (nI t) (mkP i0 w i1 od rw pl va de pa be cm ca he kt kp) = some ((), mkP i0 w i1 od rw (up pl c p) (up va c none) de (up pa c none) be cm (up ca c t) (up he c v) kt kp) := by
  rw [f_X6_begins, jlt_eq, mkP_s0 hc, jlt_eq, mkP_s1 hc, jlt_eq, mkP_s4 hc, jlt_eq, show (-1 : Int32) = pOI none from rfl, mkP_s2 hc, jlt_eq, show (none : Option Nat) = pQ i0 none from rfl, mkP_s5 hc]
  rfl
theorem sp_cjoins (h : pCn w i1 a n) {x y p : Nat} (hx : x < 48) (hy : y < 48) (hp : p < n) (hxy : x ≠ y) (hca : ca y ≤ ca x ↔ y ≤ x) (hcx : ca x < 2 ^ 31) (hcy : ca y < 2 ^ 31) : f_X5_joins i0 (nI p) (some (48 * i0 + x)) (some (48 * i0 + y)) (mkP i0 w i1 od rw pl va de pa be cm ca he kt kp) = some ((), mkP i0 w i1 od rw pl (up va (max x y) (some p)) (up de (max x y) (a p)) (up pa (max x y) (some (min x y))) (pJn (min x y) (max x y) n 0 (up be p (some (min x y)))) cm ca he kt kp) := by
  have hn := h.2.2
  have hm : max x y < 48 := by omega
  have fin : ∀ l g, g < 48 → (jlt (jgr (mkP i0 w i1 od rw pl va de pa be cm ca he kt kp) 2 i0 4) fun v15 => job v15 fun y17 => jbd (nI p) 48 fun a20 => jlt (jgi (mkP i0 w i1 od rw pl va de pa be cm ca he kt kp) 32 y17 a20) fun v21 => jcb (f_X6_dies (48 * i0 + g) (nI p) v21 (some (48 * i0 + l)) (mkP i0 w i1 od rw pl va de pa be cm ca he kt kp)) fun _ w23 => jbd (nI p) 48 fun a27 => jlt (jsr w23 28 i0 a27 (some (48 * i0 + l))) fun w26 => f_X5_joins_L64 i0 (48 * i0 + l) (48 * i0 + g) jFU 0 w26) = some ((), mkP i0 w i1 od rw pl (up va g (some p)) (up de g (a p)) (up pa g (some l)) (pJn l g n 0 (up be p (some l))) cm ca he kt kp) := fun l g hg => by
    have s1 : jsr (mkP i0 w i1 od rw pl (up va g (some p)) (up de g (a p)) (up pa g (some l)) be cm ca he kt kp) 28 i0 p (some (48 * i0 + l)) = mkP i0 w i1 od rw pl (up va g (some p)) (up de g (a p)) (up pa g (some l)) (up be p (some l)) cm ca he kt kp := mkP_s28 (v := some l)
    simp (disch := omega) only [↓jlt_eq, mkP_24, job_some', jbd_nI, mkP_S32, h.2.1 p hp, sp_dies hg, jcb_some', s1]
    exact sp_cjoins_L h n jFU 0 _ (by omega) (jFU_gt (by omega))
  rw [f_X5_joins]
  by_cases hyx : y ≤ x
  · have c1 : (nI (ca y) ≤ nI (ca x)) = True := eq_true ((nI_leI hcy hcx).mpr (hca.mpr hyx))
    have e1 : min x y = y := by omega
    have e2 : max x y = x := by omega
    rw [e1, e2]
    rw [job_some', jlt_eq, mkP_4 hx, job_some', jlt_eq, mkP_4 hy]
    simp only [↓jlt_eq, c1, if_true, mkP_4 hx, mkP_4 hy]
    exact fin y x hx
  · have c1 : (nI (ca y) ≤ nI (ca x)) = False := eq_false (fun z => hyx (hca.mp ((nI_leI hcy hcx).mp z)))
    have e1 : min x y = x := by omega
    have e2 : max x y = y := by omega
    rw [e1, e2]
    rw [job_some', jlt_eq, mkP_4 hx, job_some', jlt_eq, mkP_4 hy]
    simp only [↓jlt_eq, c1, if_false, mkP_4 hx, mkP_4 hy]
    exact fin x y hy
/-- what a step does to when peaks came, how high they are -/
def pLc (n p t : Nat) (S : pS) (ca : Nat → Nat) : Nat → Nat := if (if 0 < p then S.2.2.2.2.1 (p - 1) else none) = none ∧ (if p + 1 < n then S.2.2.2.2.1 (p + 1) else none) = none then up ca S.2.2.2.2.2 t else ca
def pLh (a : Nat → Int32) (n p : Nat) (S : pS) (he : Nat → Int32) : Nat → Int32 := if (if 0 < p then S.2.2.2.2.1 (p - 1) else none) = none ∧ (if p + 1 < n then S.2.2.2.2.1 (p + 1) else none) = none then up he S.2.2.2.2.2 (a p) else he
/-- the component's peaks, by the pure state -/
def mkQ (i0 : Nat) (w : j_St) (i1 : Nat) (od : Nat → Nat) (rw : Nat → Option Nat) (S : pS) (ca : Nat → Nat) (he : Nat → Int32) (kt : Nat → Bool) (kp : Nat) : j_St := mkP i0 w i1 od rw S.1 S.2.1 S.2.2.1 S.2.2.2.1 S.2.2.2.2.1 S.2.2.2.2.2 ca he kt kp
end PC
