/-! the pure law: all places come, in the component; the least -/
section PCM
variable {i0 : Nat} {w : j_St} {i1 : Nat} {od : Nat → Nat} {rw : Nat → Option Nat} {kt : Nat → Bool} {kp : Nat} {a : Nat → Int32} {n : Nat}
theorem sp_of_L96 (h : pCn w i1 a n) (hod : ∀ k, k < n → od k < n) {kk : j_St → Option (Unit × j_St)} : ∀ (c f m : Nat) (S : pS) (ca : Nat → Nat) (he : Nat → Int32), pI2 a n m S ca he → m + c = n → c < f →
    ∃ ca' he', pI2 a n n (pLets a n od c m S) ca' he' ∧ f_X5_of_L96 i0 i1 kk f (nI m) (mkQ i0 w i1 od rw S ca he kt kp) = kk (mkQ i0 w i1 od rw (pLets a n od c m S) ca' he' kt kp) := by
  have hn := h.2.2
  intro c
  induction c with
  | zero =>
    intro f m S ca he hI hm hf
    obtain ⟨f, rfl⟩ : ∃ f', f = f' + 1 := ⟨f - 1, by omega⟩
    have e : m = n := by omega
    subst e
    refine ⟨ca, he, hI, ?_⟩
    rw [f_X5_of_L96, jlt_eq, mkQ, mkP_S4, h.1, if_pos ((nI_leI (by omega) (by omega)).mpr (Nat.le_refl _))]
    rfl
  | succ c ih =>
    intro f m S ca he hI hm hf
    obtain ⟨f, rfl⟩ : ∃ f', f = f' + 1 := ⟨f - 1, by omega⟩
    have hk : m < n := by omega
    obtain ⟨ca', he', g1, g2⟩ := ih f (m + 1) _ _ _ (pI2_s hI (by omega) (hod m hk)) (by omega) (by omega)
    refine ⟨ca', he', g1, ?_⟩
    have hcm : S.2.2.2.2.2 ≤ m := hI.1.2
    have hc := sp_comes (i0 := i0) (od := od) (rw := rw) (he := he) (kt := kt) (kp := kp) (t := m) h (hod m hk) ⟨hI.1.1, by omega⟩ (by omega) hI.2.1 (pI2_ca hI) (fun x hx => by have := hI.2.2.1 x hx; omega)
    rw [f_X5_of_L96, jlt_eq]
    rw [show jgi (mkQ i0 w i1 od rw S ca he kt kp) 4 i1 1 = nI n by rw [mkQ, mkP_S4, h.1], if_neg (fun z => absurd ((nI_leI (by omega) (by omega)).mp z) (by omega)), jbd_nI (by omega) (by decide), jlt_eq]
    rw [show jgi (mkQ i0 w i1 od rw S ca he kt kp) 29 i0 m = nI (od m) by rw [mkQ, mkP_29], hc, jcb_some', jlt_eq, nI_1]
    exact g2
theorem sp_cat (h : pCn w i1 a n) {k : Nat} (hk : k < n) : f_X7_at i1 (nI k) w = some (a k, w) := by
  have hn := h.2.2
  simp (disch := omega) only [f_X7_at, jbd_nI, ↓jlt_e2, h.2.1 k hk]
theorem sp_cmany (h : pCn w i1 a n) : f_X7_many i1 w = some (nI n, w) := by
  simp only [f_X7_many, ↓jlt_e2, h.1]
theorem sp_cleast_L (h : pCn w i1 a n) : ∀ (c f m : Nat) (v : Int32), m + c = n → c < f → f_X3_least_k4_L10 i1 f v (nI m) w = some (pLst a c m v, w) := by
  have hn := h.2.2
  intro c
  induction c with
  | zero =>
    intro f m v hm hf
    obtain ⟨f, rfl⟩ : ∃ f', f = f' + 1 := ⟨f - 1, by omega⟩
    have e : m = n := by omega
    subst e
    rw [f_X3_least_k4_L10, sp_cmany h, jcb_some', if_pos ((nI_leI (by omega) (by omega)).mpr (Nat.le_refl _))]
    rfl
  | succ c ih =>
    intro f m v hm hf
    obtain ⟨f, rfl⟩ : ∃ f', f = f' + 1 := ⟨f - 1, by omega⟩
    rw [f_X3_least_k4_L10, sp_cmany h, jcb_some', if_neg (fun z => absurd ((nI_leI (by omega) (by omega)).mp z) (by omega)), sp_cat h (by omega), jcb_some', jlt_eq, jlt_eq, nI_1]
    exact ih f (m + 1) _ (by omega) (by omega)
theorem sp_cleast (h : pCn w i1 a n) (h0 : 0 < n) : f_X3_least_k4 i1 w = some (pLst a (n - 1) 1 (a 0), w) := by
  have hn := h.2.2
  rw [f_X3_least_k4, show (0 : Int32) = nI 0 from rfl, sp_cat h h0, jcb_some']
  exact sp_cleast_L h (n - 1) jFU 1 (a 0) (by omega) (jFU_gt (by omega))
end PCM
/-! the pure law: peaks are put in order, in the component -/
/-- a row's entry: from 48 on it is none -/
def eN (x : Nat) : Option Nat := if x < 48 then some x else none
theorem eN_lt {x : Nat} (h : x < 48) : eN x = some x := if_pos h
section PEN
variable {i0 : Nat} {w : j_St} {i1 : Nat} {od : Nat → Nat} {pl : Nat → Nat} {va : Nat → Option Nat} {de : Nat → Int32} {pa be : Nat → Option Nat} {cm : Nat} {ca : Nat → Nat} {he : Nat → Int32} {kt : Nat → Bool} {kp : Nat} {a : Nat → Int32} {n : Nat} {rw : Nat → Option Nat}
theorem job_s2 {β : Type} {q : Nat} {f : Nat → Option β} : job (some q) f = f q := id rfl
theorem jcb_s2 {α β : Type} {r : α} {w : j_St} {k : α → j_St → Option β} : jcb (some (r, w)) k = k r w := id rfl
theorem mkP_Cn : pCn (mkP i0 w i1 od rw pl va de pa be cm ca he kt kp) i1 a n ↔ pCn w i1 a n := by
  unfold pCn
  simp only [mkP_S4, mkP_S32]
theorem up_eN {r : Nat → Nat} {k c : Nat} (hc : c < 48) : up (fun j => eN (r j)) k (some c) = fun j => eN (up r k c j) := by
  funext j
  unfold up
  by_cases e : j = k
  · rw [if_pos e, if_pos e, eN_lt hc]
  · rw [if_neg e, if_neg e]
/-- whether one is ahead of another -/
theorem sp_isAhead6 {c q : Nat} (hc : c < 48) (hq : q < 48) (hvc : va c ≠ none) (hvc2 : pSm (va c)) (hvq : pSm (va q)) (hpc : pl c < 2 ^ 31) (hpq : pl q < 2 ^ 31) :
    f_X6_isAhead (48 * i0 + c) (some (48 * i0 + q)) (mkP i0 w i1 od rw pl va de pa be cm ca he kt kp) = some (if va q ≠ none ∧ (he q - de q < he c - de c ∨ (he q - de q = he c - de c ∧ pl c < pl q)) then 1 else 0, mkP i0 w i1 od rw pl va de pa be cm ca he kt kp) := by
  have e1 := pOI_m1 hvc2
  have e2 := pOI_m1 hvq
  have e3 : (va c = none) = False := eq_false hvc
  have p1 : ∀ x, x < 48 → f_X6_persistence (48 * i0 + x) (mkP i0 w i1 od rw pl va de pa be cm ca he kt kp) = some (he x - de x, mkP i0 w i1 od rw pl va de pa be cm ca he kt kp) := fun x hx => by
    simp only [f_X6_persistence, ↓jlt_e2, mkP_1 hx, mkP_3 hx]
  by_cases v : va q = none
  · have e4 : (va q = none) = True := eq_true v
    simp only [f_X6_isAhead, ↓jlt_e2, mkP_2 hc, mkP_2 hq, e1, e2, e3, e4, if_true, if_false, job_s2, ne_eq, not_true, false_and]
  · have e4 : (va q = none) = False := eq_false v
    by_cases c1 : he c - de c = he q - de q
    · have i1' : (he q - de q < he c - de c) = False := by rw [c1]; exact eq_false Int32.lt_irrefl
      by_cases c2 : pl q ≤ pl c
      · have c3 : (nI (pl q) ≤ nI (pl c)) = True := eq_true ((nI_leI hpq hpc).mpr c2)
        have c4 : (pl c < pl q) = False := eq_false (by omega)
        simp only [f_X6_isAhead, ↓jlt_e2, mkP_2 hc, mkP_2 hq, e1, e2, e3, e4, if_true, if_false, job_s2, p1 c hc, p1 q hq, jcb_s2, c1, mkP_0 hc, mkP_0 hq, c3, c4, Int32.lt_irrefl, and_false, or_false]
      · have c3 : (nI (pl q) ≤ nI (pl c)) = False := eq_false (fun z => c2 ((nI_leI hpq hpc).mp z))
        have c4 : (pl c < pl q) = True := eq_true (by omega)
        simp only [f_X6_isAhead, ↓jlt_e2, mkP_2 hc, mkP_2 hq, e1, e2, e3, e4, if_true, if_false, job_s2, p1 c hc, p1 q hq, jcb_s2, c1, mkP_0 hc, mkP_0 hq, c3, c4, and_true, or_true, ne_eq, not_false_eq_true]
    · have e5 : (he c - de c = he q - de q) = False := eq_false c1
      have e6 : (he q - de q = he c - de c) = False := eq_false (fun z => c1 z.symm)
      by_cases c2 : he c - de c ≤ he q - de q
      · have c3 : (he c - de c ≤ he q - de q) = True := eq_true c2
        have c4 : (he q - de q < he c - de c) = False := eq_false (Int32.not_lt.mpr c2)
        simp only [f_X6_isAhead, ↓jlt_e2, mkP_2 hc, mkP_2 hq, e1, e2, e3, e4, if_true, if_false, job_s2, p1 c hc, p1 q hq, jcb_s2, e5, e6, c3, c4, false_and, or_false, and_false]
      · have c3 : (he c - de c ≤ he q - de q) = False := eq_false c2
        have c4 : (he q - de q < he c - de c) = True := eq_true (Int32.not_le.mp c2)
        simp only [f_X6_isAhead, ↓jlt_e2, mkP_2 hc, mkP_2 hq, e1, e2, e3, e4, if_true, if_false, job_s2, p1 c hc, p1 q hq, jcb_s2, e5, e6, c3, c4, true_or, and_true, ne_eq, not_false_eq_true]
theorem sp_ends_L37 {c : Nat} (hc : c < cm) (hcm : cm ≤ 48) (hv : ∀ x, x < cm → (va x = none ↔ x = 0)) (hvs : ∀ x, x < cm → pSm (va x)) (hpl : ∀ x, x < cm → pl x < 2 ^ 31) (hhe : ∀ x, x < cm → he x = a (pl x)) (hc0 : c ≠ 0) {kk : Int32 → j_St → Option (Unit × j_St)} : ∀ (i f : Nat) (r : Nat → Nat), i < 48 → (∀ j, j < i → r j < cm) → (0 < i → r 0 = 0) → (∀ j, 0 < j → j < i → r j ≠ 0) → i < f →
    f_X5_ends_L37 i0 (48 * i0 + c) kk f (nI i) (mkP i0 w i1 od (fun j => eN (r j)) pl va de pa be cm ca he kt kp) = kk (nI (pIns 1 (pMv a (pl, va, de, pa, be, cm) c) i r).1) (mkP i0 w i1 od (fun j => eN ((pIns 1 (pMv a (pl, va, de, pa, be, cm) c) i r).2 j)) pl va de pa be cm ca he kt kp) := by
  intro i
  induction i with
  | zero =>
    intro f r hi h1 h2 h3 hf
    obtain ⟨f, rfl⟩ : ∃ f', f = f' + 1 := ⟨f - 1, by omega⟩
    rw [f_X5_ends_L37, if_pos (show nI 0 ≤ 0 by decide)]
    rfl
  | succ i ih =>
    intro f r hi h1 h2 h3 hf
    obtain ⟨f, rfl⟩ : ∃ f', f = f' + 1 := ⟨f - 1, by omega⟩
    have hri := h1 i (by omega)
    have e1 : nI (i + 1) - 1 = nI i := nI_pred i
    have e2 : nI (i + 1) + (-1) = nI i := nI_m1' (by omega)
    have c0 : (nI (i + 1) ≤ 0) = False := eq_false (nI_nle (by omega) (by omega))
    have g27 : jgr (mkP i0 w i1 od (fun j => eN (r j)) pl va de pa be cm ca he kt kp) 27 i0 i = some (48 * i0 + r i) := by rw [mkP_27, eN_lt (by omega)]; rfl
    have hh := sp_isAhead6 (i0 := i0) (w := w) (i1 := i1) (od := od) (rw := fun j => eN (r j)) (de := de) (pa := pa) (be := be) (cm := cm) (ca := ca) (he := he) (kt := kt) (kp := kp) (show c < 48 by omega) (show r i < 48 by omega) (fun z => hc0 ((hv c hc).mp z)) (hvs c hc) (hvs _ hri) (hpl c hc) (hpl _ hri)
    have s1 : jsr (mkP i0 w i1 od (fun j => eN (r j)) pl va de pa be cm ca he kt kp) 27 i0 (i + 1) (some (48 * i0 + r i)) = mkP i0 w i1 od (fun j => eN (up r (i + 1) (r i) j)) pl va de pa be cm ca he kt kp := by
      have := mkP_s27 (i0 := i0) (w := w) (i1 := i1) (od := od) (rw := fun j => eN (r j)) (pl := pl) (va := va) (de := de) (pa := pa) (be := be) (cm := cm) (ca := ca) (he := he) (kt := kt) (kp := kp) (k := i + 1) (v := some (r i))
      rw [up_eN (by omega)] at this
      exact this
    rw [f_X5_ends_L37]
    simp (disch := omega) only [c0, if_false, e1, e2, jbd_nI, ↓jlt_e2, g27, hh, jcb_some', s1]
    by_cases hle : i + 1 ≤ 1
    · have hi0 : i = 0 := by omega
      subst hi0
      have r0 := h2 (by omega)
      have hvr : va (r 0) = none := (hv _ hri).mpr r0
      have cF : (va (r 0) ≠ none ∧ (he (r 0) - de (r 0) < he c - de c ∨ (he (r 0) - de (r 0) = he c - de c ∧ pl c < pl (r 0)))) = False := eq_false (fun z => z.1 hvr)
      simp only [cF, if_false, if_true, pIns, hle]
    · have ri0 := h3 i (by omega) (by omega)
      have hvr : va (r i) ≠ none := fun z => ri0 ((hv _ hri).mp z)
      have mv : pMv a (pl, va, de, pa, be, cm) c (r i) = true ↔ (he (r i) - de (r i) < he c - de c ∨ (he (r i) - de (r i) = he c - de c ∧ pl c < pl (r i))) := by
        unfold pMv pLf
        rw [hhe _ hri, hhe c hc]
        simp
      by_cases m1 : pMv a (pl, va, de, pa, be, cm) c (r i) = true
      · have cT : (va (r i) ≠ none ∧ (he (r i) - de (r i) < he c - de c ∨ (he (r i) - de (r i) = he c - de c ∧ pl c < pl (r i)))) = True := eq_true ⟨hvr, mv.mp m1⟩
        have one0 : ((1 : Int32) = 0) = False := eq_false (by decide)
        have nx := ih f (up r (i + 1) (r i)) (by omega) (fun j hj => by rw [up_ne (by omega)]; exact h1 j (by omega)) (fun hz => by rw [up_ne (by omega)]; exact h2 (by omega)) (fun j a1 a2 => by rw [up_ne (by omega)]; exact h3 j a1 (by omega)) (by omega)
        simp only [cT, if_true, one0, if_false, pIns, hle, m1]
        exact nx
      · have cF : (va (r i) ≠ none ∧ (he (r i) - de (r i) < he c - de c ∨ (he (r i) - de (r i) = he c - de c ∧ pl c < pl (r i)))) = False := eq_false (fun z => m1 (mv.mpr z.2))
        simp only [cF, if_false, if_true, pIns, hle, m1, Bool.false_eq_true]
theorem sp_ends_L2 (hcm : cm ≤ 48) (hv : ∀ x, x < cm → (va x = none ↔ x = 0)) (hvs : ∀ x, x < cm → pSm (va x)) (hpl : ∀ x, x < cm → pl x < 2 ^ 31) (hhe : ∀ x, x < cm → he x = a (pl x)) (hpa : ∀ x, x < cm → x ≠ 0 → ∃ l, pa x = some l) : ∀ (k f c : Nat) (r : Nat → Nat), 0 < c → c + k = cm → (∀ j, j < c → r j < c) → r 0 = 0 → (∀ j, 0 < j → j < c → r j ≠ 0) → k < f →
    f_X5_ends_L2 i0 f (nI c) (mkP i0 w i1 od (fun j => eN (r j)) pl va de pa be cm ca he kt kp) = some ((), mkP i0 w i1 od (fun j => eN (pWh 1 (pMv a (pl, va, de, pa, be, cm)) k c r j)) pl va de pa be cm ca he kt kp) := by
  intro k
  induction k with
  | zero =>
    intro f c r h0 hc h1 h2 h3 hf
    obtain ⟨f, rfl⟩ : ∃ f', f = f' + 1 := ⟨f - 1, by omega⟩
    rw [f_X5_ends_L2, jlt_eq, mkP_2cm, if_pos ((nI_leI (by omega) (by omega)).mpr (by omega))]
    rfl
  | succ k ih =>
    intro f c r h0 hc h1 h2 h3 hf
    obtain ⟨f, rfl⟩ : ∃ f', f = f' + 1 := ⟨f - 1, by omega⟩
    obtain ⟨l, hl⟩ := hpa c (by omega) (by omega)
    have hi := sp_ends_L37 (i0 := i0) (w := w) (i1 := i1) (od := od) (de := de) (pa := pa) (be := be) (ca := ca) (kt := kt) (kp := kp) (a := a) (c := c) (by omega) hcm hv hvs hpl hhe (by omega) (kk := fun (v39 : Int32) (w40 : j_St) => jbd v39 48 fun a43 => jlt (jsr w40 27 i0 a43 (some (48 * i0 + c))) fun w42 => jlt (nI c + 1) fun v44 => f_X5_ends_L2 i0 f v44 w42) c jFU r (by omega) (fun j hj => by have := h1 j hj; omega) (fun _ => h2) h3 (jFU_gt (by omega))
    obtain ⟨i1', -⟩ := pIns_sh (l := 1) (mv := pMv a (pl, va, de, pa, be, cm) c) c r
    have lo := pIns_lo (l := 1) (mv := pMv a (pl, va, de, pa, be, cm) c) c r
    have val := pIns_val (l := 1) (mv := pMv a (pl, va, de, pa, be, cm) c) (c := c) (f := r)
    have lt := pIns_lt (l := 1) (mv := pMv a (pl, va, de, pa, be, cm) c) h1
    rw [f_X5_ends_L2, jlt_eq, mkP_2cm, if_neg (fun z => absurd ((nI_leI (by omega) (by omega)).mp z) (by omega)), jbd_nI (by omega) (by decide), jlt_eq, jlt_eq, mkP_5 (by omega), hl, pQ_some, jlt_eq, jcs_s2]
    dsimp only
    rw [hi]
    have hu : pWh 1 (pMv a (pl, va, de, pa, be, cm)) (k + 1) c r = pWh 1 (pMv a (pl, va, de, pa, be, cm)) k (c + 1) (up (pIns 1 (pMv a (pl, va, de, pa, be, cm) c) c r).2 (pIns 1 (pMv a (pl, va, de, pa, be, cm) c) c r).1 c) := rfl
    rw [hu]
    generalize pIns 1 (pMv a (pl, va, de, pa, be, cm) c) c r = t at i1' lo val lt
    rw [jbd_nI (by omega) (by decide), jlt_eq, show (some (48 * i0 + c) : Option Nat) = pQ i0 (some c) from rfl, mkP_s27, up_eN (by omega), jlt_eq, nI_1]
    refine ih f (c + 1) _ (by omega) (by omega) lt ?_ (fun j a1 a2 => ?_) (by omega)
    · rw [val 0 (by omega), if_pos (by omega)]; exact h2
    · rw [val j (by omega)]
      by_cases c1 : j < t.1
      · rw [if_pos c1]; exact h3 j a1 (by omega)
      · rw [if_neg c1]
        by_cases c2 : j = t.1
        · rw [if_pos c2]; omega
        · rw [if_neg c2]; exact h3 (j - 1) (by omega) (by omega)
theorem sp_ends (h : pCn w i1 a n) (h0 : 0 < n) (hcm : cm ≤ 48) (hcm0 : 0 < cm) (hv : ∀ x, x < cm → (va x = none ↔ x = 0)) (hvs : ∀ x, x < cm → pSm (va x)) (hpl : ∀ x, x < cm → pl x < 2 ^ 31) (hhe : ∀ x, x < cm → he x = a (pl x)) (hpa : ∀ x, x < cm → x ≠ 0 → ∃ l, pa x = some l) (hpa0 : pa 0 = none) {r : Nat → Nat} :
    f_X5_ends i0 (mkP i0 w i1 od (fun j => eN (r j)) pl va de pa be cm ca he kt kp) = some ((), mkP i0 w i1 od (fun j => eN (pWh 1 (pMv a (pl, va, up de 0 (pLst a (n - 1) 1 (a 0)), pa, be, cm)) cm 0 r j)) pl va (up de 0 (pLst a (n - 1) 1 (a 0))) pa be cm ca he kt kp) := by
  obtain ⟨k, rfl⟩ : ∃ k, cm = k + 1 := ⟨cm - 1, by omega⟩
  have hl := sp_cleast (mkP_Cn (i0 := i0) (od := od) (rw := fun j => eN (r j)) (pl := pl) (va := va) (de := de) (pa := pa) (be := be) (cm := k + 1) (ca := ca) (he := he) (kt := kt) (kp := kp).mpr h) h0
  have g0 := mkP_5 (i0 := i0) (w := w) (i1 := i1) (od := od) (rw := fun j => eN (r j)) (pl := pl) (va := va) (de := de) (pa := pa) (be := be) (cm := k + 1) (ca := ca) (he := he) (kt := kt) (kp := kp) (c := 0) (by omega)
  rw [hpa0] at g0
  have s3 := fun v => mkP_s3 (i0 := i0) (w := w) (i1 := i1) (od := od) (rw := fun j => eN (r j)) (pl := pl) (va := va) (de := de) (pa := pa) (be := be) (cm := k + 1) (ca := ca) (he := he) (kt := kt) (kp := kp) (c := 0) (v := v) (by omega)
  unfold f_X5_ends
  rw [show jFU = 19999 + 1 from rfl, f_X5_ends_L2, jlt_eq, mkP_2cm, if_neg (nI_nle (by omega) (by omega)), jbd_k0 (by decide) (by decide), jlt_eq, jlt_eq, g0, jlt_eq]
  rw [show pQ i0 none = none from rfl, jcs_n2, jlt_eq, mkP_24, job_some', hl, jcb_some', jlt_eq, s3]
  dsimp only
  rw [show jFU = 19999 + 1 from rfl, f_X5_ends_L37, if_pos (by decide), show (0 : Int32) = nI 0 from rfl, jbd_nI (by decide) (by decide), jlt_eq]
  rw [show (some (48 * i0 + 0) : Option Nat) = pQ i0 (some 0) from rfl, mkP_s27, up_eN (by decide), jlt_eq, nI_1]
  exact sp_ends_L2 (a := a) hcm hv hvs hpl hhe hpa k 19999 1 (up r 0 0) (by omega) (by omega) (fun j hj => by have : j = 0 := by omega
                                                                                                              rw [this, up_same]; omega) up_same (fun j a1 a2 => by omega) (by omega)
end PEN
