/-! the pure law: the peaks by their numbers, over naturals -/
/-- what is not touched stays -/
def pSame (K : Nat → Nat → Nat → Prop) (w w' : j_St) : Prop := (∀ κ i k, ¬ K κ i k → jgi w' κ i k = jgi w κ i k) ∧ (∀ κ i k, ¬ K κ i k → jgl w' κ i k = jgl w κ i k) ∧ (∀ κ i k, ¬ K κ i k → jgr w' κ i k = jgr w κ i k) ∧ ∀ κ i, ¬ K κ i 0 → jgn w' κ i = jgn w κ i
theorem pSame.refl {K : Nat → Nat → Nat → Prop} {w : j_St} : pSame K w w := ⟨fun _ _ _ _ => rfl, fun _ _ _ _ => rfl, fun _ _ _ _ => rfl, fun _ _ _ => rfl⟩
theorem pSame.trans {K : Nat → Nat → Nat → Prop} {w u v : j_St} (h : pSame K w u) (g : pSame K u v) : pSame K w v :=
  ⟨fun κ i k z => (g.1 κ i k z).trans (h.1 κ i k z), fun κ i k z => (g.2.1 κ i k z).trans (h.2.1 κ i k z), fun κ i k z => (g.2.2.1 κ i k z).trans (h.2.2.1 κ i k z), fun κ i z => (g.2.2.2 κ i z).trans (h.2.2.2 κ i z)⟩
theorem pSame.mono {K K' : Nat → Nat → Nat → Prop} {w u : j_St} (h : pSame K w u) (hk : ∀ κ i k, K κ i k → K' κ i k) : pSame K' w u :=
  ⟨fun κ i k z => h.1 κ i k fun y => z (hk _ _ _ y), fun κ i k z => h.2.1 κ i k fun y => z (hk _ _ _ y), fun κ i k z => h.2.2.1 κ i k fun y => z (hk _ _ _ y), fun κ i z => h.2.2.2 κ i fun y => z (hk _ _ _ y)⟩
theorem pSame.jsi {K : Nat → Nat → Nat → Prop} {w : j_St} {κ i k : Nat} {v : Int32} (h : K κ i k) : pSame K w (jsi w κ i k v) :=
  ⟨fun κ' i' k' z => jgi_ne fun e => z (by obtain ⟨rfl, rfl, rfl⟩ := e; exact h), fun _ _ _ _ => rfl, fun _ _ _ _ => rfl, fun _ _ _ => rfl⟩
theorem pSame.jsr {K : Nat → Nat → Nat → Prop} {w : j_St} {κ i k : Nat} {v : Option Nat} (h : K κ i k) : pSame K w (jsr w κ i k v) :=
  ⟨fun _ _ _ _ => rfl, fun _ _ _ _ => rfl, fun κ' i' k' z => by
    show (if κ' = κ ∧ i' = i ∧ k' = k then v else _) = _
    rw [if_neg]
    · rfl
    · intro e
      obtain ⟨rfl, rfl, rfl⟩ := e
      exact z h, fun _ _ _ => rfl⟩
theorem pSame.jsl {K : Nat → Nat → Nat → Prop} {w : j_St} {κ i k : Nat} {v : Int64} (h : K κ i k) : pSame K w (jsl w κ i k v) :=
  ⟨fun _ _ _ _ => rfl, fun κ' i' k' z => by
    show (if κ' = κ ∧ i' = i ∧ k' = k then v else _) = _
    rw [if_neg]
    · rfl
    · intro e
      obtain ⟨rfl, rfl, rfl⟩ := e
      exact z h, fun _ _ _ _ => rfl, fun _ _ _ => rfl⟩
/-- samples as naturals -/
def sI (s : Nat → Nat) : Nat → Int32 := fun k => nI (s k)
def pMin (s : Nat → Nat) : Nat → Nat → Nat → Nat
  | 0, _, v => v
  | c + 1, m, v => pMin s c (m + 1) (min v (s m))
theorem pMin_le {s : Nat → Nat} : ∀ (c m v : Nat), pMin s c m v ≤ v := by
  intro c
  induction c with
  | zero => intro m v; exact Nat.le_refl _
  | succ c ih =>
    intro m v
    have := ih (m + 1) (min v (s m))
    show pMin s c (m + 1) (min v (s m)) ≤ v
    omega
theorem pLst_nI {s : Nat → Nat} {n : Nat} (hs : ∀ k, k < n → s k ≤ 999) : ∀ (c m v : Nat), m + c ≤ n → v ≤ 999 → pLst (sI s) c m (nI v) = nI (pMin s c m v) := by
  intro c
  induction c with
  | zero => intro m v _ _; rfl
  | succ c ih =>
    intro m v hm hv
    have := hs m (by omega)
    show pLst (sI s) c (m + 1) (jmin (nI v) (nI (s m))) = nI (pMin s c (m + 1) (min v (s m)))
    rw [jmin_nI (by omega) (by omega)]
    exact ih (m + 1) _ (by omega) (by omega)
/-- the least of the samples -/
def cMin (s : Nat → Nat) (n : Nat) : Nat := pMin s (n - 1) 1 (s 0)
theorem pMin_lt {s : Nat → Nat} : ∀ (c m v k : Nat), m ≤ k → k < m + c → pMin s c m v ≤ s k := by
  intro c
  induction c with
  | zero => intro m v k h1 h2; omega
  | succ c ih =>
    intro m v k h1 h2
    show pMin s c (m + 1) (min v (s m)) ≤ s k
    by_cases e : k = m
    · have := pMin_le (s := s) c (m + 1) (min v (s m))
      rw [e]; omega
    · exact ih (m + 1) _ k (by omega) (by omega)
theorem cMin_le {s : Nat → Nat} {n k : Nat} (hk : k < n) : cMin s n ≤ s k := by
  unfold cMin
  by_cases e : k = 0
  · subst e; exact pMin_le _ _ _
  · exact pMin_lt _ _ _ _ (by omega) (by omega)
/-- how many peaks, the place, valley, parent of each as it came; its death, how long it lives -/
def cM (s : Nat → Nat) (n : Nat) : Nat := (cS (sI s) n).2.2.2.2.2
def cPl (s : Nat → Nat) (n : Nat) : Nat → Nat := (cS (sI s) n).1
def cVa (s : Nat → Nat) (n : Nat) : Nat → Option Nat := (cS (sI s) n).2.1
def cPa (s : Nat → Nat) (n : Nat) : Nat → Option Nat := (cS (sI s) n).2.2.2.1
def cDn (s : Nat → Nat) (n : Nat) (c : Nat) : Nat := match cVa s n c with
  | some p => s p
  | none => cMin s n
def cLf (s : Nat → Nat) (n : Nat) (c : Nat) : Nat := s (cPl s n c) - cDn s n c
def cAh (s : Nat → Nat) (n : Nat) (c q : Nat) : Bool := decide (cLf s n q < cLf s n c) || (decide (cLf s n q = cLf s n c) && decide (cPl s n c < cPl s n q))
/-- which came as the k-th in order -/
def cW (s : Nat → Nat) (n : Nat) : Nat → Nat := pWh 1 (cAh s n) (cM s n) 0 (fun _ => 0)
def cKt (s : Nat → Nat) (n z : Nat) (k : Nat) : Bool := decide (k = 0) || decide (z < cLf s n (cW s n k))
/-- how many are kept -/
def cK (s : Nat → Nat) (n z : Nat) : Nat := pKp (cKt s n z) (cM s n) 0 0
/-- by numbers: place, death, life -/
def cP (s : Nat → Nat) (n k : Nat) : Nat := cPl s n (cW s n k)
def cD (s : Nat → Nat) (n k : Nat) : Nat := cDn s n (cW s n k)
def cL (s : Nat → Nat) (n k : Nat) : Nat := cLf s n (cW s n k)
section CN
variable {s : Nat → Nat} {n : Nat}
theorem sI_le {p q : Nat} (hs : ∀ k, k < n → s k ≤ 999) (hp : p < n) (hq : q < n) (h : pAh (sI s) p q = true) : s q ≤ s p := by
  rw [pAh_int] at h
  have e1 : (sI s p).toInt = (s p : Int) := nI_toInt (by have := hs p hp; omega)
  have e2 : (sI s q).toInt = (s q : Int) := nI_toInt (by have := hs q hq; omega)
  omega
theorem cM_le (h0 : 0 < n) : cM s n ≤ n := (cS_ok (a := sI s) h0).1
theorem cM_pos (h0 : 0 < n) : 0 < cM s n := (cS_ok (a := sI s) h0).2.1
theorem cPl_lt (h0 : 0 < n) {c : Nat} (hc : c < cM s n) : cPl s n c < n := (cS_ok (a := sI s) h0).2.2.2.2.2.2.2.1 c hc
theorem cPl_ne (h0 : 0 < n) {c d : Nat} (hc : c < cM s n) (hd : d < cM s n) (h : c ≠ d) : cPl s n c ≠ cPl s n d := fun e => by
  have h9 := (cS_ok (a := sI s) h0).2.2.2.2.2.2.2.2
  rcases Nat.lt_or_gt_of_ne h with z | z
  · have := h9 c d z hd
    rw [show (cS (sI s) n).1 c = (cS (sI s) n).1 d from e] at this
    exact pAh_irr this
  · have := h9 d c z hc
    rw [show (cS (sI s) n).1 c = (cS (sI s) n).1 d from e] at this
    exact pAh_irr this
theorem cVa_0 (h0 : 0 < n) : cVa s n 0 = none := (cS_ok (a := sI s) h0).2.2.1
theorem cPa_0 (h0 : 0 < n) : cPa s n 0 = none := (cS_ok (a := sI s) h0).2.2.2.1
theorem cVa_s (h0 : 0 < n) {c : Nat} (hc0 : 0 < c) (hc : c < cM s n) : ∃ p l, cVa s n c = some p ∧ p < n ∧ cPa s n c = some l ∧ l < c := by
  obtain ⟨p, l, h1, h2, h3, h4, h5, h6⟩ := (cS_ok (a := sI s) h0).2.2.2.2.2.2.1 c hc0 hc
  exact ⟨p, l, h1, h2, h5, h6⟩
theorem cDn_le (hs : ∀ k, k < n → s k ≤ 999) (h0 : 0 < n) {c : Nat} (hc : c < cM s n) : cDn s n c ≤ s (cPl s n c) := by
  by_cases e : c = 0
  · subst e
    unfold cDn
    rw [cVa_0 h0]
    exact cMin_le (cPl_lt h0 hc)
  · obtain ⟨p, l, h1, h2, h3, h4, h5, h6⟩ := (cS_ok (a := sI s) h0).2.2.2.2.2.2.1 c (by omega) hc
    unfold cDn
    rw [show cVa s n c = some p from h1]
    exact sI_le hs (cPl_lt h0 hc) h2 h4
theorem cDn_is (hs : ∀ k, k < n → s k ≤ 999) (h0 : 0 < n) {c : Nat} (hc : c < cM s n) : (cS (sI s) n).2.2.1 c = nI (cDn s n c) := by
  by_cases e : c = 0
  · subst e
    unfold cDn
    rw [cVa_0 h0, (cS_ok (a := sI s) h0).2.2.2.2.2.1]
    exact pLst_nI hs _ _ _ (by omega) (hs 0 h0)
  · obtain ⟨p, l, h1, h2, h3, h4, h5, h6⟩ := (cS_ok (a := sI s) h0).2.2.2.2.2.2.1 c (by omega) hc
    unfold cDn
    rw [show cVa s n c = some p from h1]
    exact h3
theorem cLf_is (hs : ∀ k, k < n → s k ≤ 999) (h0 : 0 < n) {c : Nat} (hc : c < cM s n) : pLf (sI s) (cS (sI s) n) c = nI (cLf s n c) := by
  unfold pLf
  rw [cDn_is hs h0 hc]
  exact nI_sub (cDn_le hs h0 hc)
theorem cLf_le (hs : ∀ k, k < n → s k ≤ 999) (h0 : 0 < n) {c : Nat} (hc : c < cM s n) : cLf s n c ≤ 999 := by
  have := hs _ (cPl_lt h0 hc)
  unfold cLf
  omega
theorem cAh_iff {c q : Nat} : cAh s n c q = true ↔ (cLf s n q < cLf s n c ∨ (cLf s n q = cLf s n c ∧ cPl s n c < cPl s n q)) := by simp [cAh]
theorem cAh_is (hs : ∀ k, k < n → s k ≤ 999) (h0 : 0 < n) {S : pS} (hF : pF S (cS (sI s) n)) {c q : Nat} (hc : c < cM s n) (hq : q < cM s n) : pMv (sI s) S c q = cAh s n c q := by
  obtain ⟨f1, f2⟩ := hF
  have hc' : c < S.2.2.2.2.2 := by rw [f1]; exact hc
  have hq' : q < S.2.2.2.2.2 := by rw [f1]; exact hq
  obtain ⟨a1, a2, a3, a4⟩ := f2 c hc'
  obtain ⟨b1, b2, b3, b4⟩ := f2 q hq'
  have e1 : pLf (sI s) S c = nI (cLf s n c) := by rw [← cLf_is hs h0 hc]; unfold pLf; rw [a1, a3]
  have e2 : pLf (sI s) S q = nI (cLf s n q) := by rw [← cLf_is hs h0 hq]; unfold pLf; rw [b1, b3]
  have l1 := cLf_le hs h0 hc
  have l2 := cLf_le hs h0 hq
  have d1 : (nI (cLf s n q) < nI (cLf s n c)) = (cLf s n q < cLf s n c) := propext (nI_ltI (by omega) (by omega))
  have d2 : (nI (cLf s n q) = nI (cLf s n c)) = (cLf s n q = cLf s n c) := propext (nI_eq (by omega) (by omega))
  rw [Bool.eq_iff_iff]
  unfold pMv cAh
  rw [e1, e2, a1, b1]
  simp only [d1, d2]
  exact Iff.rfl
theorem cAh_tr {x y z : Nat} (h1 : cAh s n x y = true) (h2 : cAh s n y z = true) : cAh s n x z = true := by
  rw [cAh_iff] at *
  omega
theorem cAh_tot (h0 : 0 < n) {x y : Nat} (hx : x < cM s n) (hy : y < cM s n) (h : x ≠ y) : cAh s n x y = true ∨ cAh s n y x = true := by
  have := cPl_ne h0 hx hy h
  rw [cAh_iff, cAh_iff]
  omega
theorem cW_Q (h0 : 0 < n) : pQo 1 (cAh s n) (cM s n) (cW s n) := by
  have := pQo_L (l := 1) (N := cM s n) (mv := cAh s n) (fun x y z _ _ _ => cAh_tr) (fun x y hx hy => cAh_tot h0 hx hy) (cM s n) 0 (fun _ => 0) (by omega) ⟨fun k hk => by omega, fun q hq => by omega, fun k j _ hj => by omega, fun k _ hk => by omega, fun k j _ _ hj => by omega⟩
  rw [Nat.zero_add] at this
  exact this
theorem cW_lt (h0 : 0 < n) {k : Nat} (hk : k < cM s n) : cW s n k < cM s n := (cW_Q h0).1 k hk
theorem cW_0 (h0 : 0 < n) : cW s n 0 = 0 := (cW_Q h0).2.2.2.1 0 (by omega) (cM_pos h0)
theorem cW_ne (h0 : 0 < n) {k j : Nat} (hk : k < cM s n) (hj : j < cM s n) (h : k ≠ j) : cW s n k ≠ cW s n j := by
  rcases Nat.lt_or_gt_of_ne h with z | z
  · exact (cW_Q h0).2.2.1 k j z hj
  · exact ((cW_Q h0).2.2.1 j k z hk).symm
theorem cW_sur (h0 : 0 < n) {q : Nat} (hq : q < cM s n) : ∃ k, k < cM s n ∧ cW s n k = q := (cW_Q h0).2.1 q hq
theorem cW_ord (h0 : 0 < n) {k j : Nat} (hk : 1 ≤ k) (hkj : k < j) (hj : j < cM s n) : cL s n j ≤ cL s n k := by
  have := (cW_Q h0).2.2.2.2 k j hk hkj hj
  rw [cAh_iff] at this
  unfold cL
  omega
theorem cP_lt (h0 : 0 < n) {k : Nat} (hk : k < cM s n) : cP s n k < n := cPl_lt h0 (cW_lt h0 hk)
theorem cP_ne (h0 : 0 < n) {k j : Nat} (hk : k < cM s n) (hj : j < cM s n) (h : k ≠ j) : cP s n k ≠ cP s n j := cPl_ne h0 (cW_lt h0 hk) (cW_lt h0 hj) (cW_ne h0 hk hj h)
theorem cL_le (hs : ∀ k, k < n → s k ≤ 999) (h0 : 0 < n) {k : Nat} (hk : k < cM s n) : cL s n k ≤ 999 := cLf_le hs h0 (cW_lt h0 hk)
theorem cD_le (hs : ∀ k, k < n → s k ≤ 999) (h0 : 0 < n) {k : Nat} (hk : k < cM s n) : cD s n k ≤ s (cP s n k) := cDn_le hs h0 (cW_lt h0 hk)
theorem cL_is {k : Nat} : cL s n k = s (cP s n k) - cD s n k := rfl
theorem cKt_pre (h0 : 0 < n) {z i j : Nat} (hij : i ≤ j) (hj : j < cM s n) (h : cKt s n z j = true) : cKt s n z i = true := by
  unfold cKt at *
  by_cases e : i = 0
  · simp [e]
  · by_cases e2 : i = j
    · subst e2; exact h
    · have := cW_ord h0 (k := i) (j := j) (by omega) (by omega) hj
      unfold cL at this
      simp only [Bool.or_eq_true, decide_eq_true_eq] at *
      omega
theorem cK_iff (h0 : 0 < n) {z k : Nat} (hk : k < cM s n) : cKt s n z k = true ↔ k < cK s n z := by
  have := pKp_pre (kt := cKt s n z) (cM s n) 0 0 (fun i j _ hij hj h => cKt_pre h0 hij (by omega) h) k (Nat.zero_le _) (by omega)
  rw [this]
  unfold cK
  omega
theorem cK_le {z : Nat} : cK s n z ≤ cM s n := by
  have := pKp_le (kt := cKt s n z) (cM s n) 0 0
  unfold cK
  omega
theorem cK_pos (h0 : 0 < n) {z : Nat} : 0 < cK s n z := (cK_iff h0 (cM_pos h0)).mp (by simp [cKt])
/-- kept: the first, and those that live longer than the noise -/
theorem cK_L (h0 : 0 < n) {z k : Nat} (hk : k < cM s n) : k < cK s n z ↔ (k = 0 ∨ z < cL s n k) := by
  rw [← cK_iff h0 hk]
  simp [cKt, cL]
end CN
