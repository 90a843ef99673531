/-! the pure law: the model's peaks as they come -/
theorem jmin_nI {x y : Nat} (hx : x < 2 ^ 31) (hy : y < 2 ^ 31) : jmin (nI x) (nI y) = nI (min x y) := by
  unfold jmin
  by_cases h : y < x
  · rw [if_pos ((nI_ltI hy hx).mpr h), Nat.min_eq_right (by omega)]
  · rw [if_neg (fun z => h ((nI_ltI hy hx).mp z)), Nat.min_eq_left (by omega)]
theorem jmax_nI {x y : Nat} (hx : x < 2 ^ 31) (hy : y < 2 ^ 31) : jmax (nI x) (nI y) = nI (max x y) := by
  unfold jmax
  by_cases h : x < y
  · rw [if_pos ((nI_ltI hx hy).mpr h), Nat.max_eq_right (by omega)]
  · rw [if_neg (fun z => h ((nI_ltI hx hy).mp z)), Nat.max_eq_left (by omega)]
/-- small: what is held by a reference or a number -/
def pSm (x : Option Nat) : Prop := ∀ b, x = some b → b < 48
theorem pSm_none : pSm none := fun b e => by cases e
theorem pSm_some {b : Nat} (h : b < 48) : pSm (some b) := fun c e => by cases e; exact h
theorem pOI_m1 {x : Option Nat} (h : pSm x) : (pOI x = -1) = (x = none) := propext (by
  cases x with
  | none => exact ⟨fun _ => rfl, fun _ => rfl⟩
  | some b => exact ⟨fun e => absurd e (nI_ne1 (by have := h b rfl; omega)), fun e => by cases e⟩)
theorem pOI_nI {x : Option Nat} {g : Nat} (h : pSm x) (hg : g < 48) : (pOI x = nI g) = (x = some g) := propext (by
  cases x with
  | none => exact ⟨fun e => absurd e.symm (nI_ne1 (by omega)), fun e => by cases e⟩
  | some b =>
    have := h b rfl
    exact ⟨fun e => congrArg some ((nI_eq (by omega) (by omega)).mp e), fun e => by cases e; rfl⟩)
theorem pOI_inj {x y : Option Nat} (hx : pSm x) (hy : pSm y) : (pOI x = pOI y) = (x = y) := propext (by
  cases y with
  | none => exact ⟨fun e => (pOI_m1 hx).mp e, fun e => by rw [e]⟩
  | some b => exact ⟨fun e => (pOI_nI hx (hy b rfl)).mp e, fun e => by rw [e]⟩)
theorem nI_0le {q : Nat} (h : q < 2 ^ 31) : ((0 : Int32) ≤ nI q) = True := eq_true (nI_pos' h)
theorem nI_00 : nI 0 - 1 = (-1 : Int32) := by decide
section PL
variable {w : j_St} {pl : Nat → Nat} {va : Nat → Option Nat} {de : Nat → Int32} {pa be : Nat → Option Nat} {cm k : Nat} {a : Nat → Int32} {n : Nat} {z : Int32}
theorem mk1_s53n : jsi (mk1 w pl va de pa be cm) 53 0 k (-1) = mk1 w pl (up va k none) de pa be cm := mk1_s53 (v := none)
theorem mk1_s55n : jsi (mk1 w pl va de pa be cm) 55 0 k (-1) = mk1 w pl va de (up pa k none) be cm := mk1_s55 (v := none)
theorem mk1_s56n : jsi (mk1 w pl va de pa be cm) 56 0 k (-1) = mk1 w pl va de pa (up be k none) cm := mk1_s56 (v := none)
theorem mk1_s53i {v : Nat} : jsi (mk1 w pl va de pa be cm) 53 0 k (nI v) = mk1 w pl (up va k (some v)) de pa be cm := mk1_s53 (v := some v)
theorem mk1_s55i {v : Nat} : jsi (mk1 w pl va de pa be cm) 55 0 k (nI v) = mk1 w pl va de (up pa k (some v)) be cm := mk1_s55 (v := some v)
theorem mk1_s56i {v : Nat} : jsi (mk1 w pl va de pa be cm) 56 0 k (nI v) = mk1 w pl va de pa (up be k (some v)) cm := mk1_s56 (v := some v)
theorem sp_belongsAt {p : Nat} (h : pMn w a n z) (hn0 : 0 < n) (hp : p ≤ n) : f_X9_belongsAt (nI p) (mk1 w pl va de pa be cm) = some (pOI (if p < n then be p else none), mk1 w pl va de pa be cm) := by
  have hn := h.2.2.2
  simp (disch := omega) only [f_X9_belongsAt, sp_many (mk1_Mn.mpr h), jcb_some', sp_in, nI_m1, nI_0le, nI_leI, true_and]
  by_cases hh : p < n
  · simp (disch := omega) [show p ≤ n - 1 by omega, hh, jbd_nI, mk1_56, jlt_eq]
  · simp [show ¬ p ≤ n - 1 by omega, hh, pOI]
theorem sp_belongsAt0 (h : pMn w a n z) (hn0 : 0 < n) : f_X9_belongsAt (-1) (mk1 w pl va de pa be cm) = some (-1, mk1 w pl va de pa be cm) := by
  have hn := h.2.2.2
  simp (disch := omega) only [f_X9_belongsAt, sp_many (mk1_Mn.mpr h), jcb_some', sp_in]
  simp [show ¬ ((0 : Int32) ≤ -1) by decide]
theorem sp_besideL {p : Nat} (h : pMn w a n z) (hp : p < n) : f_X9_belongsAt (nI p - 1) (mk1 w pl va de pa be cm) = some (pOI (if 0 < p then be (p - 1) else none), mk1 w pl va de pa be cm) := by
  by_cases h0 : 0 < p
  · rw [nI_m1 h0, sp_belongsAt h (by omega) (by omega), if_pos h0, if_pos (by omega)]
  · have : p = 0 := by omega
    subst this
    rw [nI_00, sp_belongsAt0 h (by omega)]
    rfl
theorem sp_besideR {p : Nat} (h : pMn w a n z) (hp : p < n) : f_X9_belongsAt (nI p + 1) (mk1 w pl va de pa be cm) = some (pOI (if p + 1 < n then be (p + 1) else none), mk1 w pl va de pa be cm) := by
  rw [nI_1, sp_belongsAt h (by omega) (by omega)]
theorem sp_beginsAt {p : Nat} (hp : p < 48) (hc : cm < 48) : f_X9_beginsAt (nI p) (mk1 w pl va de pa be cm) = some ((), mk1 w (up pl cm p) (up va cm none) de (up pa cm none) (up be p (some cm)) (cm + 1)) := by
  simp (disch := omega) only [f_X9_beginsAt, jlt_eq, mk1_c, jbd_nI, mk1_s52, mk1_s53n, mk1_s55n, mk1_s56i, nI_1, mk1_sc]
/-- those that belonged to what is gone -/
def pJn (l g : Nat) : Nat → Nat → (Nat → Option Nat) → Nat → Option Nat
  | 0, _, be => be
  | c + 1, m, be => pJn l g c (m + 1) (up be m (if be m = some g then some l else be m))
theorem up_same {α : Type} {f : Nat → α} {k : Nat} {v : α} : up f k v k = v := by unfold up; rw [if_pos rfl]
theorem up_ne {α : Type} {f : Nat → α} {k j : Nat} {v : α} (h : j ≠ k) : up f k v j = f j := by unfold up; rw [if_neg h]
theorem pJn_eq {l g : Nat} : ∀ (c m : Nat) (be : Nat → Option Nat), pJn l g c m be = fun q => if m ≤ q ∧ q < m + c ∧ be q = some g then some l else be q := by
  intro c
  induction c with
  | zero => intro m be; funext q; simp only [pJn]; rw [if_neg (by omega)]
  | succ c ih =>
    intro m be
    simp only [pJn]
    rw [ih]
    funext q
    by_cases e : q = m
    · subst e
      rw [if_neg (by omega), up_same]
      by_cases e2 : be q = some g
      · simp [e2]
      · simp [e2]
    · rw [up_ne e]
      by_cases e2 : be q = some g
      · by_cases e3 : m + 1 ≤ q ∧ q < m + 1 + c
        · rw [if_pos ⟨e3.1, e3.2, e2⟩, if_pos ⟨by omega, by omega, e2⟩]
        · rw [if_neg (fun z => e3 ⟨z.1, z.2.1⟩), if_neg (fun z => e3 ⟨by omega, by omega⟩)]
      · rw [if_neg (fun z => e2 z.2.2), if_neg (fun z => e2 z.2.2)]
theorem sp_joins_L (h : pMn w a n z) {l g : Nat} (hl : l < 48) (hg : g < 48) {kk : j_St → Option (Unit × j_St)} : ∀ (c f m : Nat) (be : Nat → Option Nat), (∀ q, pSm (be q)) → m + c = n → c < f → f_X9_joins_L47 (nI l) (nI g) kk f (nI m) (mk1 w pl va de pa be cm) = kk (mk1 w pl va de pa (pJn l g c m be) cm) := by
  have hn := h.2.2.2
  intro c
  induction c with
  | zero =>
    intro f m be hb hm hf
    obtain ⟨f, rfl⟩ : ∃ f', f = f' + 1 := ⟨f - 1, by omega⟩
    have e : m = n := by omega
    subst e
    simp (disch := omega) only [f_X9_joins_L47, sp_many (mk1_Mn.mpr h), jcb_some', nI_leI, Nat.le_refl, if_true, pJn]
  | succ c ih =>
    intro f m be hb hm hf
    obtain ⟨f, rfl⟩ : ∃ f', f = f' + 1 := ⟨f - 1, by omega⟩
    have e1 := pOI_nI (hb m) hg
    have go : ∀ x : Option Nat, pSm x → f_X9_joins_L47 (nI l) (nI g) kk f (nI (m + 1)) (mk1 w pl va de pa (up be m x) cm) = kk (mk1 w pl va de pa (pJn l g c (m + 1) (up be m x)) cm) := fun x hx => ih f (m + 1) _ (fun q => by
      by_cases e : q = m
      · subst e; rw [up_same]; exact hx
      · rw [up_ne e]; exact hb q) (by omega) (by omega)
    simp (disch := omega) only [f_X9_joins_L47, sp_many (mk1_Mn.mpr h), jcb_some', nI_leI, jbd_nI, jlt_eq, mk1_56, e1, mk1_s56, mk1_s56i, nI_1, pJn, show ¬ n ≤ m by omega, if_false]
    by_cases e2 : be m = some g
    · simp only [e2, if_true]
      exact go _ (pSm_some hl)
    · simp only [e2, if_false]
      exact go _ (hb m)
theorem sp_joins (h : pMn w a n z) {x y p : Nat} (hx : x < 48) (hy : y < 48) (hp : p < n) (hb : ∀ q, pSm (be q)) : f_X9_joins (nI x) (nI y) (nI p) (mk1 w pl va de pa be cm) = some ((), mk1 w pl (up va (max x y) (some p)) (up de (max x y) (a p)) (up pa (max x y) (some (min x y))) (up (pJn (min x y) (max x y) n 0 be) p (some (min x y))) cm) := by
  have hn := h.2.2.2
  have hm : max x y < 48 := by omega
  have hi : min x y < 48 := by omega
  simp (disch := omega) only [f_X9_joins, jlt_eq, jmin_nI, jmax_nI, jbd_nI, mk1_s53i, mk1_47, h.2.2.1 p hp, mk1_s54, mk1_s55i]
  rw [show (0 : Int32) = nI 0 from rfl, sp_joins_L h hi hm n jFU 0 be hb (by omega) (jFU_gt (by omega))]
  simp (disch := omega) only [jbd_nI, mk1_s56i]
/-- the pure state: place, valley, death, parent, belongs, came -/
abbrev pS : Type := (Nat → Nat) × (Nat → Option Nat) × (Nat → Int32) × (Nat → Option Nat) × (Nat → Option Nat) × Nat
def mkS (w : j_St) (S : pS) : j_St := mk1 w S.1 S.2.1 S.2.2.1 S.2.2.2.1 S.2.2.2.2.1 S.2.2.2.2.2
def pLS (a : Nat → Int32) (n p : Nat) (S : pS) : pS :=
  match (if 0 < p then S.2.2.2.2.1 (p - 1) else none), (if p + 1 < n then S.2.2.2.2.1 (p + 1) else none) with
  | none, none => (up S.1 S.2.2.2.2.2 p, up S.2.1 S.2.2.2.2.2 none, S.2.2.1, up S.2.2.2.1 S.2.2.2.2.2 none, up S.2.2.2.2.1 p (some S.2.2.2.2.2), S.2.2.2.2.2 + 1)
  | some x, none => (S.1, S.2.1, S.2.2.1, S.2.2.2.1, up S.2.2.2.2.1 p (some x), S.2.2.2.2.2)
  | none, some y => (S.1, S.2.1, S.2.2.1, S.2.2.2.1, up S.2.2.2.2.1 p (some y), S.2.2.2.2.2)
  | some x, some y => if x = y then (S.1, S.2.1, S.2.2.1, S.2.2.2.1, up S.2.2.2.2.1 p (some x), S.2.2.2.2.2)
    else (S.1, up S.2.1 (max x y) (some p), up S.2.2.1 (max x y) (a p), up S.2.2.2.1 (max x y) (some (min x y)), up (pJn (min x y) (max x y) n 0 S.2.2.2.2.1) p (some (min x y)), S.2.2.2.2.2)
/-- what is small in a state: all that is held -/
def pSok (S : pS) : Prop := (∀ q, pSm (S.2.2.2.2.1 q)) ∧ S.2.2.2.2.2 ≤ 48
theorem sp_lets_s (h : pMn w a n z) {p : Nat} (hp : p < n) {S : pS} (hS : pSok S) (hc : S.2.2.2.2.2 < 48) {kk : j_St → Option (Unit × j_St)} {f m : Nat} (hm : m < n) (hr : ∀ q, pNB a (some p) n 0 none = some q → q < n) : f_X9_lets_L36 kk (f + 1) (nI p) (nI m) (mkS w S) = f_X9_lets_L36 kk f (pOI (pNB a (some p) n 0 none)) (nI (m + 1)) (mkS w (pLS a n p S)) := by
  have hn := h.2.2.2
  obtain ⟨pl, va, de, pa, be, cm⟩ := S
  have hb : ∀ q, pSm (be q) := hS.1
  have hc : cm < 48 := hc
  have nb : ∀ pl va de pa be cm, f_X9_nextBehind (nI p) (mk1 w pl va de pa be cm) = some (pOI (pNB a (some p) n 0 none), mk1 w pl va de pa be cm) := fun pl va de pa be cm => sp_nextBehind (w := mk1 w pl va de pa be cm) (mk1_Mn.mpr h) (p := some p) (fun q e => by cases e; exact hp)
  have sL : pSm (if 0 < p then be (p - 1) else none) := by split <;> first | exact hb _ | exact pSm_none
  have sR : pSm (if p + 1 < n then be (p + 1) else none) := by split <;> first | exact hb _ | exact pSm_none
  show f_X9_lets_L36 kk (f + 1) (nI p) (nI m) (mk1 w pl va de pa be cm) = _
  unfold pLS
  rw [f_X9_lets_L36, sp_many (mk1_Mn.mpr h), jcb_some', if_neg (fun z => absurd ((nI_leI (by omega) (by omega)).mp z) (by omega)), sp_besideL h hp, jcb_some', sp_besideR h hp, jcb_some']
  generalize (if 0 < p then be (p - 1) else none) = x at sL
  generalize (if p + 1 < n then be (p + 1) else none) = y at sR
  have e1 := pOI_m1 sL
  have e2 := pOI_m1 sR
  have e3 := pOI_inj sL sR
  cases x with
  | none =>
    cases y with
    | none => simp (disch := omega) only [↓jlt_eq, e1, e2, e3, if_true, sp_beginsAt (w := w) (show p < 48 by omega) hc, jcb_some', nb, nI_1, mkS]
    | some y => simp (disch := omega) only [↓jlt_eq, e1, e2, e3, if_true, reduceCtorEq, if_false, jbd_nI, mk1_s56, jcb_some', nb, nI_1, mkS]
  | some x =>
    cases y with
    | none => simp (disch := omega) only [↓jlt_eq, e1, e2, e3, if_true, reduceCtorEq, if_false, jbd_nI, mk1_s56, jcb_some', nb, nI_1, mkS]
    | some y =>
      by_cases hxy : x = y
      · simp (disch := omega) only [↓jlt_eq, e1, e2, e3, if_true, reduceCtorEq, if_false, jbd_nI, mk1_s56, jcb_some', nb, nI_1, mkS, hxy]
      · have hj : f_X9_joins (pOI (some x)) (pOI (some y)) (nI p) (mk1 w pl va de pa be cm) = _ := sp_joins (pl := pl) (va := va) (de := de) (pa := pa) (cm := cm) h (sL x rfl) (sR y rfl) hp hb
        simp (disch := omega) only [↓jlt_eq, e1, e2, e3, if_true, reduceCtorEq, if_false, jbd_nI, jcb_some', nb, nI_1, mkS, hxy, Option.some.injEq, hj]
/-- the order in which places come -/
def pOrd (a : Nat → Int32) (n : Nat) (o : Nat → Nat) : Prop := (∀ k, k < n → o k < n) ∧ (∀ q, q < n → ∃ k, k < n ∧ o k = q) ∧ ∀ k l, k < l → l < n → pAh a (o k) (o l) = true
theorem pAh_int {p q : Nat} : pAh a p q = true ↔ ((a q).toInt < (a p).toInt ∨ ((a p).toInt = (a q).toInt ∧ p < q)) := by
  rw [pAh_iff, Int32.lt_iff_toInt_lt, ← Int32.toInt_inj]
theorem pAh_tr {p q r : Nat} (h1 : pAh a p q = true) (h2 : pAh a q r = true) : pAh a p r = true := by
  rw [pAh_int] at *
  omega
theorem pAh_irr {p : Nat} (h : pAh a p p = true) : False := by
  rw [pAh_int] at h
  omega
theorem pAh_tot {p q : Nat} (h : p ≠ q) : pAh a p q = true ∨ pAh a q p = true := by
  rw [pAh_int, pAh_int]
  omega
/-- the best of those looked at -/
def pBI (a : Nat → Int32) (p : Option Nat) (m : Nat) (r : Option Nat) : Prop := (r = none → ∀ q, q < m → pIs a p q = false) ∧ ∀ b, r = some b → b < m ∧ pIs a p b = true ∧ ∀ q, q < m → pIs a p q = true → q ≠ b → pAh a b q = true
theorem pBI_s {p r : Option Nat} {m : Nat} (h : pBI a p m r) : pBI a p (m + 1) (pNBs a p m r) := by
  cases r with
  | none =>
    have h0 := h.1 rfl
    by_cases hm : pIs a p m = true
    · simp only [pNBs, hm, if_true]
      refine ⟨fun e => (by cases e), fun b e => ?_⟩
      cases e
      refine ⟨by omega, hm, fun q hq hi hne => ?_⟩
      rw [h0 q (by omega)] at hi
      cases hi
    · simp only [pNBs, hm, if_false]
      refine ⟨fun _ q hq => ?_, fun b e => by cases e⟩
      by_cases e : q = m
      · subst e; exact Bool.eq_false_iff.mpr hm
      · exact h0 q (by omega)
  | some b =>
    obtain ⟨h1, h2, h3⟩ := h.2 b rfl
    by_cases hm : pIs a p m = true ∧ pAh a m b = true
    · simp only [pNBs, hm, and_self, if_true]
      refine ⟨fun e => (by cases e), fun b' e => ?_⟩
      cases e
      refine ⟨by omega, hm.1, fun q hq hi hne => ?_⟩
      by_cases e : q = b
      · subst e; exact hm.2
      · exact pAh_tr hm.2 (h3 q (by omega) hi e)
    · simp only [pNBs, hm, if_false]
      refine ⟨fun e => (by cases e), fun b' e => ?_⟩
      cases e
      refine ⟨by omega, h2, fun q hq hi hne => ?_⟩
      by_cases e : q = m
      · subst e
        rcases pAh_tot (a := a) (p := b) (q := q) (by omega) with z | z
        · exact z
        · exact absurd ⟨hi, z⟩ hm
      · exact h3 q (by omega) hi hne
theorem pBI_L {p : Option Nat} : ∀ (c m : Nat) (r : Option Nat), pBI a p m r → pBI a p (m + c) (pNB a p c m r) := by
  intro c
  induction c with
  | zero => intro m r h; exact h
  | succ c ih =>
    intro m r h
    have := ih (m + 1) _ (pBI_s h)
    rw [show m + (c + 1) = m + 1 + c by omega]
    exact this
theorem pNB_is {p : Option Nat} : pBI a p n (pNB a p n 0 none) := by
  have := pBI_L (a := a) (p := p) n 0 none ⟨fun _ q hq => by omega, fun b e => by cases e⟩
  rw [Nat.zero_add] at this
  exact this
theorem pNB_one {p : Option Nat} {b : Nat} (hb : b < n) (hi : pIs a p b = true) (h : ∀ q, q < n → pIs a p q = true → q ≠ b → pAh a b q = true) : pNB a p n 0 none = some b := by
  have hp := pNB_is (a := a) (n := n) (p := p)
  cases e : pNB a p n 0 none with
  | none =>
    rw [e] at hp
    have := hp.1 rfl b hb
    rw [hi] at this
    cases this
  | some c =>
    rw [e] at hp
    obtain ⟨h1, h2, h3⟩ := hp.2 c rfl
    by_cases hc : c = b
    · rw [hc]
    · exact (pAh_irr (pAh_tr (h c h1 h2 hc) (h3 b hb hi (fun z => hc z.symm)))).elim
/-- the order, by its numbers -/
def pOn (n : Nat) (o : Nat → Nat) (k : Nat) : Option Nat := if k < n then some (o k) else none
theorem pNB_first {o : Nat → Nat} (ho : pOrd a n o) : pNB a none n 0 none = pOn n o 0 := by
  unfold pOn
  by_cases hn : 0 < n
  · rw [if_pos hn]
    refine pNB_one (ho.1 0 hn) rfl fun q hq _ hne => ?_
    obtain ⟨k, hk, rfl⟩ := ho.2.1 q hq
    exact ho.2.2 0 k (Nat.pos_of_ne_zero fun z => hne (by rw [z])) hk
  · have : n = 0 := by omega
    subst this
    rfl
theorem pNB_next {o : Nat → Nat} (ho : pOrd a n o) {k : Nat} (hk : k < n) : pNB a (some (o k)) n 0 none = pOn n o (k + 1) := by
  have aft : ∀ l, l < n → pIs a (some (o k)) (o l) = true → k < l := fun l hl h => by
    apply Classical.byContradiction
    intro hn
    have h : pAh a (o k) (o l) = true := h
    rcases Nat.lt_or_ge l k with z | z
    · exact pAh_irr (pAh_tr h (ho.2.2 l k z hk))
    · have : l = k := by omega
      subst this
      exact pAh_irr h
  unfold pOn
  by_cases hn : k + 1 < n
  · rw [if_pos hn]
    refine pNB_one (ho.1 _ hn) (ho.2.2 k (k + 1) (by omega) hn) fun q hq hi hne => ?_
    obtain ⟨l, hl, rfl⟩ := ho.2.1 q hq
    have := aft l hl hi
    exact ho.2.2 (k + 1) l (by
      rcases Nat.lt_or_ge (k + 1) l with z | z
      · exact z
      · have : l = k + 1 := by omega
        subst this
        exact absurd rfl hne) hl
  · rw [if_neg hn]
    cases e : pNB a (some (o k)) n 0 none with
    | none => rfl
    | some c =>
      have hp := pNB_is (a := a) (n := n) (p := some (o k))
      rw [e] at hp
      obtain ⟨h1, h2, -⟩ := hp.2 c rfl
      obtain ⟨l, hl, rfl⟩ := ho.2.1 c h1
      have := aft l hl h2
      omega
end PL
