/-! the pure law: the model's peaks, whole -/
section PL2
variable {w : j_St} {a : Nat → Int32} {n : Nat} {z : Int32} {o : Nat → Nat}
def pLets (a : Nat → Int32) (n : Nat) (o : Nat → Nat) : Nat → Nat → pS → pS
  | 0, _, S => S
  | c + 1, m, S => pLets a n o c (m + 1) (pLS a n (o m) S)
/-- what holds of a state when m places have come -/
def pI0 (m : Nat) (S : pS) : Prop := (∀ q, pSm (S.2.2.2.2.1 q)) ∧ S.2.2.2.2.2 ≤ m
theorem pSm_up {f : Nat → Option Nat} {k : Nat} {v : Option Nat} (hf : ∀ q, pSm (f q)) (hv : pSm v) : ∀ q, pSm (up f k v q) := fun q => by
  by_cases e : q = k
  · subst e; rw [up_same]; exact hv
  · rw [up_ne e]; exact hf q
theorem pI0_s {S : pS} {m p : Nat} (h : pI0 m S) (hm : m < 48) : pI0 (m + 1) (pLS a n p S) := by
  obtain ⟨pl, va, de, pa, be, cm⟩ := S
  obtain ⟨h1, h2⟩ := h
  have h1 : ∀ q, pSm (be q) := h1
  have h2 : cm ≤ m := h2
  have sL : pSm (if 0 < p then be (p - 1) else none) := by split <;> first | exact h1 _ | exact pSm_none
  have sR : pSm (if p + 1 < n then be (p + 1) else none) := by split <;> first | exact h1 _ | exact pSm_none
  unfold pLS
  simp only []
  generalize (if 0 < p then be (p - 1) else none) = x at sL
  generalize (if p + 1 < n then be (p + 1) else none) = y at sR
  cases x with
  | none =>
    cases y with
    | none => exact ⟨pSm_up h1 (pSm_some (by omega)), by show cm + 1 ≤ m + 1; omega⟩
    | some y => exact ⟨pSm_up h1 sR, by show cm ≤ m + 1; omega⟩
  | some x =>
    cases y with
    | none => exact ⟨pSm_up h1 sL, by show cm ≤ m + 1; omega⟩
    | some y =>
      simp only []
      have hx := sL x rfl
      have hy := sR y rfl
      by_cases hxy : x = y
      · rw [if_pos hxy]
        exact ⟨pSm_up h1 sL, by show cm ≤ m + 1; omega⟩
      · rw [if_neg hxy]
        refine ⟨pSm_up (fun q => ?_) (pSm_some (by omega)), by show cm ≤ m + 1; omega⟩
        rw [pJn_eq]
        show pSm (if _ then _ else _)
        split
        · exact pSm_some (by omega)
        · exact h1 q
theorem sp_lets_L (h : pMn w a n z) (ho : pOrd a n o) {kk : j_St → Option (Unit × j_St)} : ∀ (c f m : Nat) (S : pS), pI0 m S → m + c = n → c < f → f_X9_lets_L36 kk f (pOI (pOn n o m)) (nI m) (mkS w S) = kk (mkS w (pLets a n o c m S)) := by
  have hn := h.2.2.2
  intro c
  induction c with
  | zero =>
    intro f m S hS hm hf
    obtain ⟨f, rfl⟩ : ∃ f', f = f' + 1 := ⟨f - 1, by omega⟩
    have e : m = n := by omega
    subst e
    rw [f_X9_lets_L36, mkS, sp_many (mk1_Mn.mpr h), jcb_some', if_pos ((nI_leI (by omega) (by omega)).mpr (Nat.le_refl _))]
    rfl
  | succ c ih =>
    intro f m S hS hm hf
    obtain ⟨f, rfl⟩ : ∃ f', f = f' + 1 := ⟨f - 1, by omega⟩
    have hk : m < n := by omega
    have hp := ho.1 m hk
    have e1 : pOn n o m = some (o m) := if_pos hk
    have e2 := pNB_next ho hk
    rw [e1, show pOI (some (o m)) = nI (o m) from rfl, sp_lets_s h hp ⟨hS.1, by have := hS.2; omega⟩ (by have := hS.2; omega) hk (fun q e => by
      rw [e2] at e
      unfold pOn at e
      split at e
      · cases e; exact ho.1 _ (by assumption)
      · cases e), e2, ih f (m + 1) _ (pI0_s hS (by omega)) (by omega) (by omega)]
    rfl
/-- the least of the samples -/
def pLst (a : Nat → Int32) : Nat → Nat → Int32 → Int32
  | 0, _, v => v
  | c + 1, m, v => pLst a c (m + 1) (jmin v (a m))
theorem sp_least_L (h : pMn w a n z) : ∀ (c f m : Nat) (v : Int32), m + c = n → c < f → f_X9_least_L9 f v (nI m) w = some (pLst a c m v, w) := by
  have hn := h.2.2.2
  intro c
  induction c with
  | zero =>
    intro f m v hm hf
    obtain ⟨f, rfl⟩ : ∃ f', f = f' + 1 := ⟨f - 1, by omega⟩
    have e : m = n := by omega
    subst e
    rw [f_X9_least_L9, sp_many h, jcb_some', if_pos ((nI_leI (by omega) (by omega)).mpr (Nat.le_refl _))]
    rfl
  | succ c ih =>
    intro f m v hm hf
    obtain ⟨f, rfl⟩ : ∃ f', f = f' + 1 := ⟨f - 1, by omega⟩
    have := ih f (m + 1) (jmin v (a m)) (by omega) (by omega)
    simp (disch := omega) only [f_X9_least_L9, sp_many h, jcb_some', nI_leI, show ¬ n ≤ m by omega, if_false, jbd_nI, ↓jlt_eq, h.2.2.1 m (by omega), nI_1, pLst, this]
theorem sp_least (h : pMn w a n z) (h0 : 0 < n) : f_X9_least w = some (pLst a (n - 1) 1 (a 0), w) := by
  have hn := h.2.2.2
  simp (disch := omega) only [f_X9_least, jbd_k0, ↓jlt_eq, h.2.2.1 0 h0]
  exact sp_least_L h (n - 1) jFU 1 (a 0) (by omega) (jFU_gt (by omega))
/-- none has come yet -/
def pBe0 (n : Nat) (be : Nat → Option Nat) : Nat → Option Nat := fun q => if q < n then none else be q
theorem sp_lets_L7 (h : pMn w a n z) {kk : j_St → Option (Unit × j_St)} {pl : Nat → Nat} {va : Nat → Option Nat} {de : Nat → Int32} {pa be : Nat → Option Nat} {cm : Nat} : ∀ (c f m : Nat), m + c = n → c < f → f_X9_lets_L7 kk f (nI m) (mk1 w pl va de pa (pBe0 m be) cm) = kk (mk1 w pl va de pa (pBe0 n be) cm) := by
  have hn := h.2.2.2
  intro c
  induction c with
  | zero =>
    intro f m hm hf
    obtain ⟨f, rfl⟩ : ∃ f', f = f' + 1 := ⟨f - 1, by omega⟩
    have e : m = n := by omega
    subst e
    rw [f_X9_lets_L7, sp_many (mk1_Mn.mpr h), jcb_some', if_pos ((nI_leI (by omega) (by omega)).mpr (Nat.le_refl _))]
  | succ c ih =>
    intro f m hm hf
    obtain ⟨f, rfl⟩ : ∃ f', f = f' + 1 := ⟨f - 1, by omega⟩
    have e : up (pBe0 m be) m none = pBe0 (m + 1) be := by
      funext q
      unfold up pBe0
      by_cases e : q = m
      · subst e; simp
      · rw [if_neg e]
        by_cases e2 : q < m
        · rw [if_pos e2, if_pos (by omega)]
        · rw [if_neg e2, if_neg (by omega)]
    have := ih f (m + 1) (by omega) (by omega)
    rw [← e] at this
    simp (disch := omega) only [f_X9_lets_L7, sp_many (mk1_Mn.mpr h), jcb_some', nI_leI, show ¬ n ≤ m by omega, if_false, jbd_nI, ↓jlt_eq, mk1_s56n, nI_1, this]
/-- the model's peaks of some samples, by the order in which places come -/
def pLet (a : Nat → Int32) (n : Nat) (o : Nat → Nat) (S : pS) : pS :=
  let T := pLets a n o n 0 (S.1, S.2.1, S.2.2.1, S.2.2.2.1, pBe0 n S.2.2.2.2.1, 0)
  (T.1, T.2.1, up T.2.2.1 0 (pLst a (n - 1) 1 (a 0)), T.2.2.2.1, T.2.2.2.2.1, T.2.2.2.2.2)
theorem mkS_Mn {S : pS} : pMn (mkS w S) a n z ↔ pMn w a n z := Iff.rfl
theorem sp_lets (h : pMn w a n z) (h0 : 0 < n) (ho : pOrd a n o) {S : pS} (hS : ∀ q, pSm (S.2.2.2.2.1 q)) : f_X9_lets (mkS w S) = some ((), mkS w (pLet a n o S)) := by
  have hn := h.2.2.2
  obtain ⟨pl, va, de, pa, be, cm⟩ := S
  have e0 : pBe0 0 be = be := by funext q; unfold pBe0; rw [if_neg (by omega)]
  have e7 := sp_lets_L7 (pl := pl) (va := va) (de := de) (pa := pa) (be := be) (cm := 0) h (kk := fun w11 => jcb (f_X9_nextBehind (-1) w11) fun v12 w13 => f_X9_lets_L36 (fun (w45 : j_St) => jcb (f_X9_least w45) fun v47 w48 => jbd 0 48 fun a51 => jlt (jsi w48 54 0 a51 v47) fun w50 => some ((), w50)) jFU v12 0 w13) n jFU 0 (by omega) (jFU_gt (by omega))
  rw [e0] at e7
  show f_X9_lets (mk1 w pl va de pa be cm) = _
  unfold f_X9_lets
  rw [jlt_eq, show (0 : Int32) = nI 0 from rfl, mk1_sc]
  refine e7.trans ?_
  have nb := sp_nextBehind (w := mk1 w pl va de pa (pBe0 n be) 0) (mk1_Mn.mpr h) (p := none) (fun q e => by cases e)
  rw [pNB_first ho] at nb
  rw [show (-1 : Int32) = pOI none from rfl, nb, jcb_some', show (0 : Int32) = nI 0 from rfl]
  refine (sp_lets_L h ho n jFU 0 (pl, va, de, pa, pBe0 n be, 0) ⟨fun q => ?_, Nat.le_refl _⟩ (by omega) (jFU_gt (by omega))).trans ?_
  · show pSm (if q < n then none else be q)
    split
    · exact pSm_none
    · exact hS q
  · rw [sp_least (mkS_Mn.mpr h) h0, jcb_some', jbd_lit (m := 0) rfl (by decide) (by decide), jlt_eq, mkS, mk1_s54]
    rfl
end PL2
