/-! THE PURE LAW: plain means (no machine from here on) -/
theorem nI_lit0 : (0 : Int32) = nI 0 := rfl
theorem jbd_nI {β : Type} {m n : Nat} {f : Nat → Option β} (h : m < n) (hn : n < 2 ^ 31) : jbd (nI m) n f = f m := by
  unfold jbd
  rw [nI_toInt (by omega), if_pos ⟨by omega, by omega⟩]
  rfl
theorem jbd_lit {β : Type} {j : Int32} {m n : Nat} {f : Nat → Option β} (e : j = nI m) (h : m < n) (hn : n < 2 ^ 31) : jbd j n f = f m := by
  rw [e, jbd_nI h hn]
theorem jcb_some' {α β : Type} {r : α} {w : j_St} {k : α → j_St → Option β} : jcb (some (r, w)) k = k r w := rfl
theorem jcb_of {α β : Type} {o : Option (α × j_St)} {r : α} {w : j_St} {k : α → j_St → Option β} (h : o = some (r, w)) : jcb o k = k r w := by rw [h]; rfl
theorem nI_sub {a b : Nat} (h : b ≤ a) : nI a - nI b = nI (a - b) := by
  have e : nI (a - b) + nI b = nI a := by rw [nI_add]; congr 1; omega
  rw [← e]
  exact Int32.add_sub_cancel _ _
theorem nI_m1 {a : Nat} (h : 0 < a) : nI a - 1 = nI (a - 1) := nI_sub h
theorem nI_m1' {a : Nat} (h : 0 < a) : nI a + (-1) = nI (a - 1) := by
  rw [← nI_m1 h, Int32.sub_eq_add_neg]
theorem nI_ne1 {a : Nat} (h : a < 2 ^ 31) : nI a ≠ -1 := fun e => by
  have := congrArg Int32.toInt e
  rw [nI_toInt h] at this
  have h2 : (-1 : Int32).toInt = -1 := by decide
  omega
theorem jbd_k0 {β : Type} {n : Nat} {f : Nat → Option β} (h : 0 < n) (hn : n < 2 ^ 31) : jbd 0 n f = f 0 := jbd_lit (j := 0) (m := 0) rfl h hn
theorem jbd_k1 {β : Type} {n : Nat} {f : Nat → Option β} (h : 1 < n) (hn : n < 2 ^ 31) : jbd 1 n f = f 1 := jbd_lit (j := 1) (m := 1) rfl h hn
theorem jbd_k2 {β : Type} {n : Nat} {f : Nat → Option β} (h : 2 < n) (hn : n < 2 ^ 31) : jbd 2 n f = f 2 := jbd_lit (j := 2) (m := 2) rfl h hn
theorem jbd_k48 {β : Type} {n : Nat} {f : Nat → Option β} (h : 48 < n) (hn : n < 2 ^ 31) : jbd 48 n f = f 48 := jbd_lit (j := 48) (m := 48) rfl h hn
theorem jbd_k49 {β : Type} {n : Nat} {f : Nat → Option β} (h : 49 < n) (hn : n < 2 ^ 31) : jbd 49 n f = f 49 := jbd_lit (j := 49) (m := 49) rfl h hn
theorem jbd_k50 {β : Type} {n : Nat} {f : Nat → Option β} (h : 50 < n) (hn : n < 2 ^ 31) : jbd 50 n f = f 50 := jbd_lit (j := 50) (m := 50) rfl h hn
/-- what reads and writes of the store do -/
theorem jgi_jsi {w : j_St} {κ i k κ' i' k' : Nat} {v : Int32} : jgi (jsi w κ i k v) κ' i' k' = if κ' = κ ∧ i' = i ∧ k' = k then v else jgi w κ' i' k' := rfl
theorem jgi_eq {w : j_St} {κ i k : Nat} {v : Int32} : jgi (jsi w κ i k v) κ i k = v := ju3_eq
theorem jgi_ne {w : j_St} {κ i k κ' i' k' : Nat} {v : Int32} (h : ¬ (κ' = κ ∧ i' = i ∧ k' = k)) : jgi (jsi w κ i k v) κ' i' k' = jgi w κ' i' k' := ju3_ne h
theorem jgr_jsr {w : j_St} {κ i k κ' i' k' : Nat} {v : Option Nat} : jgr (jsr w κ i k v) κ' i' k' = if κ' = κ ∧ i' = i ∧ k' = k then v else jgr w κ' i' k' := rfl
theorem jgl_jsl {w : j_St} {κ i k κ' i' k' : Nat} {v : Int64} : jgl (jsl w κ i k v) κ' i' k' = if κ' = κ ∧ i' = i ∧ k' = k then v else jgl w κ' i' k' := rfl
theorem jgr_jsi {w : j_St} {κ i k κ' i' k' : Nat} {v : Int32} : jgr (jsi w κ i k v) κ' i' k' = jgr w κ' i' k' := rfl
theorem jgi_jsr {w : j_St} {κ i k κ' i' k' : Nat} {v : Option Nat} : jgi (jsr w κ i k v) κ' i' k' = jgi w κ' i' k' := rfl
theorem jgl_jsi {w : j_St} {κ i k κ' i' k' : Nat} {v : Int32} : jgl (jsi w κ i k v) κ' i' k' = jgl w κ' i' k' := rfl
/-- THE MODEL's ROW: samples a, so many n, the noise -/
def pMn (w : j_St) (a : Nat → Int32) (n : Nat) (z : Int32) : Prop := jgi w 47 0 48 = nI n ∧ jgi w 47 0 49 = z ∧ (∀ k, k < n → jgi w 47 0 k = a k) ∧ n ≤ 48
section PM
variable {w : j_St} {a : Nat → Int32} {n : Nat} {z : Int32}
theorem sp_in (x y c : Int32) : f_X9_in x y c w = some (if y ≤ x ∧ x ≤ c then 1 else 0, w) := by
  unfold f_X9_in
  by_cases h1 : x < y
  · rw [if_pos h1, if_neg (fun z => Int32.not_lt.mpr z.1 h1)]
  · rw [if_neg h1]
    by_cases h2 : c < x
    · rw [if_pos h2, if_neg (fun z => Int32.not_lt.mpr z.2 h2)]
    · rw [if_neg h2, if_pos ⟨Int32.not_lt.mp h1, Int32.not_lt.mp h2⟩]
theorem sp_many (h : pMn w a n z) : f_X9_many w = some (nI n, w) := by
  simp (disch := omega) only [f_X9_many, jlt_eq, jbd_k48, h.1]
def pAh (a : Nat → Int32) (p q : Nat) : Bool := decide (a q < a p) || (decide (a p = a q) && decide (p < q))
theorem pAh_iff {a : Nat → Int32} {p q : Nat} : pAh a p q = true ↔ (a q < a p ∨ (a p = a q ∧ p < q)) := by simp [pAh]
theorem sp_isAhead (h : pMn w a n z) {p q : Nat} (hp : p < n) (hq : q < n) : f_X9_isAhead (nI p) (nI q) w = some (if pAh a p q then 1 else 0, w) := by
  have hn := h.2.2.2
  simp (disch := omega) only [f_X9_isAhead, jlt_eq, jbd_nI, h.2.2.1 p hp, h.2.2.1 q hq, nI_leI]
  unfold pAh
  by_cases h1 : a q < a p
  · simp [h1]
  · by_cases h2 : a p = a q
    · by_cases h3 : q ≤ p
      · simp [h1, h2, h3, show ¬ p < q by omega]
      · simp [h1, h2, h3, show p < q by omega]
    · simp [h1, h2]
/-- the next place that comes behind one -/
def pBest (a : Nat → Int32) (p : Option Nat) (m : Nat) (r : Option Nat) : Prop := match r with
  | none => ∀ q, q < m → ¬ (∀ p', p = some p' → pAh a p' q = true)
  | some b => b < m ∧ (∀ p', p = some p' → pAh a p' b = true) ∧ ∀ q, q < m → (∀ p', p = some p' → pAh a p' q = true) → q = b ∨ pAh a b q = true
def pOI (r : Option Nat) : Int32 := match r with
  | none => -1
  | some b => nI b
theorem nI_m1I {q : Nat} (h : q < 2 ^ 31) : (nI q = -1) ↔ False := ⟨fun e => nI_ne1 h e, fun e => e.elim⟩
/-- whether a place is to come behind one -/
def pIs (a : Nat → Int32) (p : Option Nat) (q : Nat) : Bool := match p with
  | none => true
  | some p => pAh a p q
def pNBs (a : Nat → Int32) (p : Option Nat) (m : Nat) (r : Option Nat) : Option Nat := match r with
  | none => if pIs a p m = true then some m else none
  | some b => if pIs a p m = true ∧ pAh a m b = true then some m else some b
theorem sp_nextBehind_s (h : pMn w a n z) {p r : Option Nat} (hp : ∀ q, p = some q → q < n) (hr : ∀ q, r = some q → q < n) {f m : Nat} (hm : m < n) : f_X9_nextBehind_L4 (pOI p) (f + 1) (pOI r) (nI m) w = f_X9_nextBehind_L4 (pOI p) f (pOI (pNBs a p m r)) (nI (m + 1)) w := by
  have hn := h.2.2.2
  have e1 : ∀ {x : Nat}, x < n → (nI x = -1) = False := fun {x} hx => propext (nI_m1I (by omega))
  cases p with
  | none =>
    cases r with
    | none => simp (disch := omega) [f_X9_nextBehind_L4, sp_many h, jcb_some', jlt_eq, nI_leI, show ¬ n ≤ m by omega, pOI, pIs, pNBs, nI_succ]
    | some b =>
      have hb := hr b rfl
      rw [show f_X9_nextBehind_L4 (pOI none) (f + 1) (pOI (some b)) (nI m) w = f_X9_nextBehind_L4 (-1) (f + 1) (nI b) (nI m) w from rfl]
      simp (disch := omega) only [f_X9_nextBehind_L4, sp_many h, jcb_some', jlt_eq, nI_leI, e1 hb, sp_isAhead h hm hb]
      by_cases hh : pAh a m b = true <;> simp [hh, show ¬ n ≤ m by omega, pOI, pIs, pNBs, nI_succ]
  | some q =>
    have hq := hp q rfl
    cases r with
    | none =>
      rw [show f_X9_nextBehind_L4 (pOI (some q)) (f + 1) (pOI none) (nI m) w = f_X9_nextBehind_L4 (nI q) (f + 1) (-1) (nI m) w from rfl]
      simp (disch := omega) only [f_X9_nextBehind_L4, sp_many h, jcb_some', jlt_eq, nI_leI, e1 hq, sp_isAhead h hq hm]
      by_cases hh : pAh a q m = true <;> simp [hh, show ¬ n ≤ m by omega, pOI, pIs, pNBs, nI_succ]
    | some b =>
      have hb := hr b rfl
      rw [show f_X9_nextBehind_L4 (pOI (some q)) (f + 1) (pOI (some b)) (nI m) w = f_X9_nextBehind_L4 (nI q) (f + 1) (nI b) (nI m) w from rfl]
      simp (disch := omega) only [f_X9_nextBehind_L4, sp_many h, jcb_some', jlt_eq, nI_leI, e1 hq, e1 hb, sp_isAhead h hq hm, sp_isAhead h hm hb]
      by_cases hh : pAh a q m = true <;> by_cases h2 : pAh a m b = true <;> simp [hh, h2, show ¬ n ≤ m by omega, pOI, pIs, pNBs, nI_succ]
def pNB (a : Nat → Int32) (p : Option Nat) : Nat → Nat → Option Nat → Option Nat
  | 0, _, r => r
  | c + 1, m, r => pNB a p c (m + 1) (pNBs a p m r)
theorem pNBs_lt {p r : Option Nat} {m : Nat} (hm : m < n) (hr : ∀ q, r = some q → q < n) : ∀ q, pNBs a p m r = some q → q < n := fun q e => by
  unfold pNBs at e
  cases r with
  | none =>
    simp only [] at e
    split at e
    · cases e; exact hm
    · cases e
  | some b =>
    simp only [] at e
    split at e
    · cases e; exact hm
    · cases e; exact hr _ rfl
theorem sp_nextBehind_L (h : pMn w a n z) {p : Option Nat} (hp : ∀ q, p = some q → q < n) : ∀ (c f m : Nat) (r : Option Nat), (∀ q, r = some q → q < n) → m + c = n → c < f → f_X9_nextBehind_L4 (pOI p) f (pOI r) (nI m) w = some (pOI (pNB a p c m r), w) := by
  have hn := h.2.2.2
  intro c
  induction c with
  | zero =>
    intro f m r hr hm hf
    obtain ⟨f, rfl⟩ : ∃ f', f = f' + 1 := ⟨f - 1, by omega⟩
    have e : m = n := by omega
    subst e
    simp (disch := omega) only [f_X9_nextBehind_L4, sp_many h, jcb_some', nI_leI, Nat.le_refl, if_true, pNB]
  | succ c ih =>
    intro f m r hr hm hf
    obtain ⟨f, rfl⟩ : ∃ f', f = f' + 1 := ⟨f - 1, by omega⟩
    rw [sp_nextBehind_s h hp hr (by omega), ih f (m + 1) _ (pNBs_lt (by omega) hr) (by omega) (by omega)]
    rfl
theorem jFU_gt {n : Nat} (h : n < 20000) : n < jFU := h
theorem sp_nextBehind (h : pMn w a n z) {p : Option Nat} (hp : ∀ q, p = some q → q < n) : f_X9_nextBehind (pOI p) w = some (pOI (pNB a p n 0 none), w) := sp_nextBehind_L h hp n jFU 0 none (fun q e => by cases e) (by omega) (jFU_gt (by have := h.2.2.2; omega))
end PM
/-- one place changed -/
def up {α : Type} (f : Nat → α) (k : Nat) (v : α) : Nat → α := fun j => if j = k then v else f j
/-- the model's peaks as they come: place, valley, death, parent, belongs, came -/
def mk1 (w : j_St) (pl : Nat → Nat) (va : Nat → Option Nat) (de : Nat → Int32) (pa be : Nat → Option Nat) (cm : Nat) : j_St :=
  (fun x y k => if y = 0 then (if x = 52 then nI (pl k) else if x = 53 then pOI (va k) else if x = 54 then de k else if x = 55 then pOI (pa k) else if x = 56 then pOI (be k) else if x = 1 ∧ k = 35 then nI cm else w.1 x y k) else w.1 x y k, w.2)
section MK1
variable {w : j_St} {pl : Nat → Nat} {va : Nat → Option Nat} {de : Nat → Int32} {pa be : Nat → Option Nat} {cm k : Nat} {a : Nat → Int32} {n : Nat} {z : Int32}
theorem mk1_52 : jgi (mk1 w pl va de pa be cm) 52 0 k = nI (pl k) := rfl
theorem mk1_53 : jgi (mk1 w pl va de pa be cm) 53 0 k = pOI (va k) := rfl
theorem mk1_54 : jgi (mk1 w pl va de pa be cm) 54 0 k = de k := rfl
theorem mk1_55 : jgi (mk1 w pl va de pa be cm) 55 0 k = pOI (pa k) := rfl
theorem mk1_56 : jgi (mk1 w pl va de pa be cm) 56 0 k = pOI (be k) := rfl
theorem mk1_47 : jgi (mk1 w pl va de pa be cm) 47 0 k = jgi w 47 0 k := rfl
theorem mk1_c : jgi (mk1 w pl va de pa be cm) 1 0 35 = nI cm := rfl
theorem mk1_Mn : pMn (mk1 w pl va de pa be cm) a n z ↔ pMn w a n z := Iff.rfl
theorem mk1_s52 {v : Nat} : jsi (mk1 w pl va de pa be cm) 52 0 k (nI v) = mk1 w (up pl k v) va de pa be cm := Prod.ext (funext fun x => funext fun y => funext fun j => by
  show (if x = 52 ∧ y = 0 ∧ j = k then nI v else _) = _
  by_cases hy : y = 0 <;> by_cases hx : x = 52 <;> by_cases hj : j = k <;> simp [mk1, up, hy, hx, hj]) rfl
theorem mk1_s53 {v : Option Nat} : jsi (mk1 w pl va de pa be cm) 53 0 k (pOI v) = mk1 w pl (up va k v) de pa be cm := Prod.ext (funext fun x => funext fun y => funext fun j => by
  show (if x = 53 ∧ y = 0 ∧ j = k then pOI v else _) = _
  by_cases hy : y = 0 <;> by_cases hx : x = 53 <;> by_cases hj : j = k <;> simp [mk1, up, hy, hx, hj]) rfl
theorem mk1_s54 {v : Int32} : jsi (mk1 w pl va de pa be cm) 54 0 k (v) = mk1 w pl va (up de k v) pa be cm := Prod.ext (funext fun x => funext fun y => funext fun j => by
  show (if x = 54 ∧ y = 0 ∧ j = k then v else _) = _
  by_cases hy : y = 0 <;> by_cases hx : x = 54 <;> by_cases hj : j = k <;> simp [mk1, up, hy, hx, hj]) rfl
theorem mk1_s55 {v : Option Nat} : jsi (mk1 w pl va de pa be cm) 55 0 k (pOI v) = mk1 w pl va de (up pa k v) be cm := Prod.ext (funext fun x => funext fun y => funext fun j => by
  show (if x = 55 ∧ y = 0 ∧ j = k then pOI v else _) = _
  by_cases hy : y = 0 <;> by_cases hx : x = 55 <;> by_cases hj : j = k <;> simp [mk1, up, hy, hx, hj]) rfl
theorem mk1_s56 {v : Option Nat} : jsi (mk1 w pl va de pa be cm) 56 0 k (pOI v) = mk1 w pl va de pa (up be k v) cm := Prod.ext (funext fun x => funext fun y => funext fun j => by
  show (if x = 56 ∧ y = 0 ∧ j = k then pOI v else _) = _
  by_cases hy : y = 0 <;> by_cases hx : x = 56 <;> by_cases hj : j = k <;> simp [mk1, up, hy, hx, hj]) rfl
theorem mk1_sc {v : Nat} : jsi (mk1 w pl va de pa be cm) 1 0 35 (nI v) = mk1 w pl va de pa be v := Prod.ext (funext fun x => funext fun y => funext fun j => by
  show (if x = 1 ∧ y = 0 ∧ j = 35 then nI v else _) = _
  by_cases hy : y = 0 <;> by_cases hx : x = 1 <;> by_cases hj : j = 35 <;> simp [mk1, hy, hx, hj]) rfl
end MK1
