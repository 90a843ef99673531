/-! the pure law: what was there before does not matter; the peaks by themselves -/
section PCAN
variable {a : Nat → Int32} {n : Nat} {o : Nat → Nat}
/-- two states tell the same peaks -/
def pE (n : Nat) (S T : pS) : Prop := S.2.2.2.2.2 = T.2.2.2.2.2 ∧ (∀ c, c < S.2.2.2.2.2 → S.1 c = T.1 c ∧ S.2.1 c = T.2.1 c ∧ S.2.2.2.1 c = T.2.2.2.1 c ∧ (S.2.1 c ≠ none → S.2.2.1 c = T.2.2.1 c)) ∧ ∀ q, q < n → S.2.2.2.2.1 q = T.2.2.2.2.1 q
theorem pJn_lt {l g q : Nat} {be : Nat → Option Nat} (hq : q < n) : pJn l g n 0 be q = if be q = some g then some l else be q := by
  rw [pJn_eq]
  simp only []
  by_cases e : be q = some g
  · rw [if_pos ⟨Nat.zero_le _, by omega, e⟩, if_pos e]
  · rw [if_neg (fun z => e z.2.2), if_neg e]
theorem up_eq {α : Type} {f g : Nat → α} {k j : Nat} {v : α} (h : j ≠ k → f j = g j) : up f k v j = up g k v j := by
  unfold up
  by_cases e : j = k
  · rw [if_pos e, if_pos e]
  · rw [if_neg e, if_neg e, h e]
theorem pE_s {p : Nat} (hp : p < n) {S T : pS} (h : pE n S T) : pE n (pLS a n p S) (pLS a n p T) := by
  obtain ⟨pl, va, de, pa, be, cm⟩ := S
  obtain ⟨pl', va', de', pa', be', cm'⟩ := T
  obtain ⟨h1, h2, h3⟩ := h
  simp only [] at h1 h2 h3
  subst h1
  have eL : (if 0 < p then be (p - 1) else none) = (if 0 < p then be' (p - 1) else none) := by
    by_cases z : 0 < p
    · rw [if_pos z, if_pos z, h3 _ (by omega)]
    · rw [if_neg z, if_neg z]
  have eR : (if p + 1 < n then be (p + 1) else none) = (if p + 1 < n then be' (p + 1) else none) := by
    by_cases z : p + 1 < n
    · rw [if_pos z, if_pos z, h3 _ z]
    · rw [if_neg z, if_neg z]
  have hb : ∀ v q, q < n → up be p v q = up be' p v q := fun v q hq => up_eq fun _ => h3 q hq
  unfold pLS
  simp only [eL, eR]
  generalize (if 0 < p then be' (p - 1) else none) = x
  generalize (if p + 1 < n then be' (p + 1) else none) = y
  cases x with
  | none =>
    cases y with
    | none =>
      refine ⟨rfl, fun c hc => ?_, hb _⟩
      simp only [] at *
      refine ⟨up_eq fun e => (h2 c (by omega)).1, up_eq fun e => (h2 c (by omega)).2.1, up_eq fun e => (h2 c (by omega)).2.2.1, fun z => ?_⟩
      by_cases e : c = cm
      · rw [e, up_same] at z; exact absurd rfl z
      · rw [up_ne e] at z
        exact (h2 c (by omega)).2.2.2 z
    | some y => exact ⟨rfl, h2, hb _⟩
  | some x =>
    cases y with
    | none => exact ⟨rfl, h2, hb _⟩
    | some y =>
      simp only []
      by_cases hxy : x = y
      · rw [if_pos hxy, if_pos hxy]
        exact ⟨rfl, h2, hb _⟩
      · rw [if_neg hxy, if_neg hxy]
        refine ⟨rfl, fun c hc => ⟨(h2 c hc).1, up_eq fun e => (h2 c hc).2.1, up_eq fun e => (h2 c hc).2.2.1, fun z => up_eq fun e => (h2 c hc).2.2.2 (fun z2 => z ?_)⟩, fun q hq => up_eq fun _ => ?_⟩
        · show up va (max x y) (some p) c = none
          rw [up_ne e]; exact z2
        · rw [pJn_lt hq, pJn_lt hq, h3 q hq]
theorem pE_L {o' : Nat → Nat} (ho : ∀ k, k < n → o k < n) (hoo : ∀ k, k < n → o k = o' k) : ∀ (c m : Nat) (S T : pS), m + c = n → pE n S T → pE n (pLets a n o c m S) (pLets a n o' c m T) := by
  intro c
  induction c with
  | zero => intro m S T _ h; exact h
  | succ c ih =>
    intro m S T hm h
    have e := hoo m (by omega)
    show pE n (pLets a n o c (m + 1) (pLS a n (o m) S)) (pLets a n o' c (m + 1) (pLS a n (o' m) T))
    rw [← e]
    exact ih (m + 1) _ _ (by omega) (pE_s (ho m (by omega)) h)
theorem pOrd_uniq {o' : Nat → Nat} (ho : pOrd a n o) (ho' : pOrd a n o') : ∀ k, k < n → o k = o' k := by
  intro k
  induction k with
  | zero =>
    intro hk
    have h1 := pNB_first ho
    rw [pNB_first ho'] at h1
    unfold pOn at h1
    rw [if_pos hk, if_pos hk] at h1
    exact (Option.some.inj h1).symm
  | succ k ih =>
    intro hk
    have h1 := pNB_next ho (k := k) (by omega)
    rw [ih (by omega), pNB_next ho' (by omega)] at h1
    unfold pOn at h1
    rw [if_pos hk, if_pos hk] at h1
    exact (Option.some.inj h1).symm
/-- the order, the peaks, by themselves -/
def cO (a : Nat → Int32) (n : Nat) : Nat → Nat := pWh 0 (pOm a) n 0 (fun _ => 0)
def pS0 : pS := (fun _ => 0, fun _ => none, fun _ => 0, fun _ => none, fun _ => none, 0)
def cS (a : Nat → Int32) (n : Nat) : pS := pLet a n (cO a n) pS0
theorem cO_ord : pOrd a n (cO a n) := pOrd_is
/-- the same peaks, when all is done -/
def pF (S T : pS) : Prop := S.2.2.2.2.2 = T.2.2.2.2.2 ∧ ∀ c, c < S.2.2.2.2.2 → S.1 c = T.1 c ∧ S.2.1 c = T.2.1 c ∧ S.2.2.1 c = T.2.2.1 c ∧ S.2.2.2.1 c = T.2.2.2.1 c
theorem pBe0_lt {be : Nat → Option Nat} {q : Nat} (h : q < n) : pBe0 n be q = none := by unfold pBe0; rw [if_pos h]
/-- what holds when all have come -/
theorem pT_all (hn : 0 < n) (ho : pOrd a n o) {S : pS} (h1 : ∀ q, q < n → S.2.2.2.2.1 q = none) (h2 : S.2.2.2.2.2 = 0) :
    pJ a n o n (pLets a n o n 0 S) ∧ pE n (pLets a n o n 0 S) (pLets a n (cO a n) n 0 (pS0.1, pS0.2.1, pS0.2.2.1, pS0.2.2.2.1, pBe0 n pS0.2.2.2.2.1, 0)) := by
  refine ⟨pJ_L ho n 0 S (by omega) (pJ_0 h1 h2), pE_L ho.1 (pOrd_uniq ho cO_ord) n 0 S _ (by omega) ⟨h2, fun c hc => by omega, fun q hq => ?_⟩⟩
  rw [h1 q hq]
  exact (pBe0_lt hq).symm
theorem pLet_F (hn : 0 < n) (ho : pOrd a n o) {S : pS} : pF (pLet a n o S) (cS a n) := by
  obtain ⟨hj, he⟩ := pT_all (S := (S.1, S.2.1, S.2.2.1, S.2.2.2.1, pBe0 n S.2.2.2.2.1, 0)) hn ho (fun q hq => pBe0_lt hq) rfl
  obtain ⟨-, hend⟩ := pJ_end hn ho hj
  unfold cS pLet
  simp only []
  generalize pLets a n o n 0 (S.1, S.2.1, S.2.2.1, S.2.2.2.1, pBe0 n S.2.2.2.2.1, 0) = T at hj he hend
  obtain ⟨e1, e2, -⟩ := he
  refine ⟨e1, fun c hc => ?_⟩
  obtain ⟨f1, f2, f3, f4⟩ := e2 c hc
  refine ⟨f1, f2, up_eq fun e => f4 (hend c (by omega) hc), f3⟩
/-- what holds of the peaks by themselves -/
theorem cS_ok (hn : 0 < n) : (cS a n).2.2.2.2.2 ≤ n ∧ 0 < (cS a n).2.2.2.2.2 ∧ (cS a n).2.1 0 = none ∧ (cS a n).2.2.2.1 0 = none ∧ (cS a n).1 0 = cO a n 0 ∧ (cS a n).2.2.1 0 = pLst a (n - 1) 1 (a 0) ∧
    (∀ c, 0 < c → c < (cS a n).2.2.2.2.2 → ∃ p l, (cS a n).2.1 c = some p ∧ p < n ∧ (cS a n).2.2.1 c = a p ∧ pAh a ((cS a n).1 c) p = true ∧ (cS a n).2.2.2.1 c = some l ∧ l < c) ∧
    (∀ c, c < (cS a n).2.2.2.2.2 → (cS a n).1 c < n) ∧ ∀ c d, c < d → d < (cS a n).2.2.2.2.2 → pAh a ((cS a n).1 c) ((cS a n).1 d) = true := by
  obtain ⟨hj, -⟩ := pT_all (S := (pS0.1, pS0.2.1, pS0.2.2.1, pS0.2.2.2.1, pBe0 n pS0.2.2.2.2.1, 0)) hn cO_ord (a := a) (fun q hq => pBe0_lt hq) rfl
  obtain ⟨-, hend⟩ := pJ_end hn cO_ord hj
  unfold cS pLet
  simp only []
  generalize pLets a n (cO a n) n 0 (pS0.1, pS0.2.1, pS0.2.2.1, pS0.2.2.2.1, pBe0 n pS0.2.2.2.2.1, 0) = T at hj hend
  obtain ⟨h1, h2, h3, h4, h5, h6, h7, h8, h9, h10⟩ := hj
  obtain ⟨g1, g2, g3⟩ := h8 hn
  refine ⟨h10, g1, g2, (h4 0 g1 g2).1, g3, up_same, fun c hc hcm => ?_, fun c hc => ?_, h9⟩
  · have hv := hend c hc hcm
    cases e : T.2.1 c with
    | none => exact absurd e hv
    | some p =>
      obtain ⟨k1, k2, k3⟩ := h7 c p hcm e
      obtain ⟨l, k4, k5⟩ := h5 c hcm hv
      exact ⟨p, l, rfl, k1, by rw [up_ne (by omega)]; exact k2, k3, k4, k5⟩
  · obtain ⟨k, hk, e⟩ := h6 c hc
    rw [← e]
    exact (cO_ord (a := a) (n := n)).1 k hk
end PCAN
/-- putting in order, what it does -/
theorem pIns_fst {l : Nat} {mv mv' : Nat → Bool} : ∀ (i : Nat) (f f' : Nat → Nat), (∀ j, j < i → f j = f' j) → (∀ j, j < i → mv (f j) = mv' (f j)) → (pIns l mv i f).1 = (pIns l mv' i f').1 := by
  intro i
  induction i with
  | zero => intro f f' _ _; rfl
  | succ i ih =>
    intro f f' h1 h2
    unfold pIns
    by_cases c : i + 1 ≤ l
    · rw [if_pos c, if_pos c]
    · rw [if_neg c, if_neg c, ← h1 i (by omega), ← h2 i (by omega)]
      by_cases c2 : mv (f i) = true
      · rw [if_pos c2, if_pos c2]
        refine ih _ _ (fun j hj => ?_) (fun j hj => ?_)
        · rw [up_ne (by omega), up_ne (by omega)]; exact h1 j (by omega)
        · rw [up_ne (by omega)]; exact h2 j (by omega)
      · rw [if_neg c2, if_neg c2]
theorem pIns_lo {l : Nat} {mv : Nat → Bool} : ∀ (i : Nat) (f : Nat → Nat), i ≤ (pIns l mv i f).1 ∨ l ≤ (pIns l mv i f).1 := by
  intro i
  induction i with
  | zero => intro f; exact Or.inl (Nat.zero_le _)
  | succ i ih =>
    intro f
    unfold pIns
    by_cases c : i + 1 ≤ l
    · rw [if_pos c]; exact Or.inl (Nat.le_refl _)
    · rw [if_neg c]
      by_cases c2 : mv (f i) = true
      · rw [if_pos c2]
        rcases ih (up f (i + 1) (f i)) with z | z
        · exact Or.inr (by omega)
        · exact Or.inr z
      · rw [if_neg c2]; exact Or.inl (Nat.le_refl _)
theorem pIns_val {l : Nat} {mv : Nat → Bool} {c : Nat} {f : Nat → Nat} : ∀ j, j < c + 1 → up (pIns l mv c f).2 (pIns l mv c f).1 c j = if j < (pIns l mv c f).1 then f j else if j = (pIns l mv c f).1 then c else f (j - 1) := fun j hj => by
  obtain ⟨h1, h2, h3, h4, -, -⟩ := pIns_sh (l := l) (mv := mv) c f
  generalize pIns l mv c f = r at h1 h2 h3 h4
  by_cases e : j = r.1
  · rw [e, up_same, if_neg (by omega), if_pos rfl]
  · rw [up_ne e]
    rcases Nat.lt_or_ge j r.1 with z | z
    · rw [if_pos z, h2 j z]
    · rw [if_neg (by omega), if_neg e, h3 j (by omega) (by omega)]
theorem pWh_congr {l N : Nat} {mv mv' : Nat → Nat → Bool} (hmv : ∀ c q, c < N → q < N → mv c q = mv' c q) : ∀ (k c : Nat) (f f' : Nat → Nat), c + k ≤ N → (∀ j, j < c → f j = f' j) → (∀ j, j < c → f j < c) → ∀ j, j < c + k → pWh l mv k c f j = pWh l mv' k c f' j := by
  intro k
  induction k with
  | zero => intro c f f' _ h _ j hj; exact h j hj
  | succ k ih =>
    intro c f f' hN h hlt j hj
    have e := pIns_fst (l := l) (mv := mv c) (mv' := mv' c) c f f' h (fun j hj => hmv c (f j) (by omega) (by have := hlt j hj; omega))
    refine ih (c + 1) _ _ (by omega) (fun j hj => ?_) (pIns_lt hlt) j (by omega)
    obtain ⟨h1, -⟩ := pIns_sh (l := l) (mv := mv c) c f
    rw [pIns_val j hj, pIns_val j hj, ← e]
    by_cases c1 : j < (pIns l (mv c) c f).1
    · rw [if_pos c1, if_pos c1]; exact h j (by omega)
    · rw [if_neg c1, if_neg c1]
      by_cases c2 : j = (pIns l (mv c) c f).1
      · rw [if_pos c2, if_pos c2]
      · rw [if_neg c2, if_neg c2]; exact h (j - 1) (by omega)
/-- the first c in their order; the first l stay -/
def pQo (l : Nat) (mv : Nat → Nat → Bool) (c : Nat) (f : Nat → Nat) : Prop := (∀ k, k < c → f k < c) ∧ (∀ q, q < c → ∃ k, k < c ∧ f k = q) ∧ (∀ k j, k < j → j < c → f k ≠ f j) ∧ (∀ k, k < l → k < c → f k = k) ∧ ∀ k j, l ≤ k → k < j → j < c → mv (f k) (f j) = true
theorem pQo_s {l N c : Nat} {mv : Nat → Nat → Bool} (tr : ∀ x y z, x < N → y < N → z < N → mv x y = true → mv y z = true → mv x z = true) (tot : ∀ x y, x < N → y < N → x ≠ y → mv x y = true ∨ mv y x = true) (hc : c < N) {f : Nat → Nat} (h : pQo l mv c f) : pQo l mv (c + 1) (up (pIns l (mv c) c f).2 (pIns l (mv c) c f).1 c) := by
  obtain ⟨g1, g2, g3, g4, g5⟩ := h
  obtain ⟨h1, -, -, -, h5, h6⟩ := pIns_sh (l := l) (mv := mv c) c f
  have lo := pIns_lo (l := l) (mv := mv c) c f
  have val := pIns_val (l := l) (mv := mv c) (c := c) (f := f)
  have lt := pIns_lt (l := l) (mv := mv c) g1
  generalize pIns l (mv c) c f = r at h1 h5 h6 lo val lt
  refine ⟨lt, fun q hq => ?_, fun k j hkj hj => ?_, fun k hk hkc => ?_, fun k j hl hkj hj => ?_⟩
  · by_cases e : q = c
    · exact ⟨r.1, by omega, by rw [up_same, e]⟩
    · obtain ⟨k, hk, hkq⟩ := g2 q (by omega)
      rcases Nat.lt_or_ge k r.1 with z | z
      · exact ⟨k, by omega, by rw [val k (by omega), if_pos z]; exact hkq⟩
      · exact ⟨k + 1, by omega, by rw [val (k + 1) (by omega), if_neg (by omega), if_neg (by omega)]; exact hkq⟩
  · rw [val k (by omega), val j hj]
    by_cases c1 : k < r.1
    · rw [if_pos c1]
      by_cases c2 : j < r.1
      · rw [if_pos c2]; exact g3 k j hkj (by omega)
      · rw [if_neg c2]
        by_cases c3 : j = r.1
        · rw [if_pos c3]; have := g1 k (by omega); omega
        · rw [if_neg c3]; exact g3 k (j - 1) (by omega) (by omega)
    · rw [if_neg c1, if_neg (show ¬ j < r.1 by omega), if_neg (show ¬ j = r.1 by omega)]
      by_cases c3 : k = r.1
      · rw [if_pos c3]; have := g1 (j - 1) (by omega); omega
      · rw [if_neg c3]; exact g3 (k - 1) (j - 1) (by omega) (by omega)
  · rw [val k hkc]
    by_cases c1 : k < r.1
    · rw [if_pos c1]; exact g4 k hk (by omega)
    · rw [if_neg c1, if_pos (by omega)]; omega
  · have last : ∀ i, l ≤ i → i < r.1 → mv (f i) c = true := fun i hl hi => by
      rcases h6 with z | z
      · omega
      · have e1 : mv (f (r.1 - 1)) c = true := by
          rcases tot (f (r.1 - 1)) c (by have := g1 (r.1 - 1) (by omega); omega) hc (by have := g1 (r.1 - 1) (by omega); omega) with q | q
          · exact q
          · rw [z] at q; cases q
        by_cases e : i = r.1 - 1
        · rw [e]; exact e1
        · exact tr _ _ _ (by have := g1 i (by omega); omega) (by have := g1 (r.1 - 1) (by omega); omega) hc (g5 i (r.1 - 1) hl (by omega) (by omega)) e1
    rw [val k (by omega), val j hj]
    by_cases c1 : k < r.1
    · rw [if_pos c1]
      by_cases c2 : j < r.1
      · rw [if_pos c2]; exact g5 k j hl hkj (by omega)
      · rw [if_neg c2]
        by_cases c3 : j = r.1
        · rw [if_pos c3]; exact last k hl c1
        · rw [if_neg c3]; exact g5 k (j - 1) hl (by omega) (by omega)
    · rw [if_neg c1, if_neg (show ¬ j < r.1 by omega), if_neg (show ¬ j = r.1 by omega)]
      by_cases c3 : k = r.1
      · rw [if_pos c3]; exact h5 (j - 1) (by omega) (by omega)
      · rw [if_neg c3]; exact g5 (k - 1) (j - 1) (by omega) (by omega) (by omega)
theorem pQo_L {l N : Nat} {mv : Nat → Nat → Bool} (tr : ∀ x y z, x < N → y < N → z < N → mv x y = true → mv y z = true → mv x z = true) (tot : ∀ x y, x < N → y < N → x ≠ y → mv x y = true ∨ mv y x = true) : ∀ (k c : Nat) (f : Nat → Nat), c + k ≤ N → pQo l mv c f → pQo l mv (c + k) (pWh l mv k c f) := by
  intro k
  induction k with
  | zero => intro c f _ h; exact h
  | succ k ih =>
    intro c f hN h
    have := ih (c + 1) _ (by omega) (pQo_s tr tot (by omega) h)
    rw [show c + (k + 1) = c + 1 + k by omega]
    exact this
/-- how many at the front -/
theorem pKp_ge {kt : Nat → Bool} : ∀ (c k s : Nat), s ≤ pKp kt c k s := by
  intro c
  induction c with
  | zero => intro k s; exact Nat.le_refl _
  | succ c ih =>
    intro k s
    have := ih (k + 1) (s + if kt k = true then 1 else 0)
    show s ≤ pKp kt c (k + 1) _
    omega
theorem pKp_none {kt : Nat → Bool} : ∀ (c k s : Nat), (∀ i, k ≤ i → i < k + c → kt i = false) → pKp kt c k s = s := by
  intro c
  induction c with
  | zero => intro k s _; rfl
  | succ c ih =>
    intro k s h
    show pKp kt c (k + 1) _ = s
    rw [h k (by omega) (by omega)]
    simp only [Bool.false_eq_true, if_false, Nat.add_zero]
    exact ih (k + 1) s (fun i h1 h2 => h i (by omega) (by omega))
theorem pKp_pre {kt : Nat → Bool} : ∀ (c k s : Nat), (∀ i j, k ≤ i → i ≤ j → j < k + c → kt j = true → kt i = true) → ∀ i, k ≤ i → i < k + c → (kt i = true ↔ i + s < pKp kt c k s + k) := by
  intro c
  induction c with
  | zero => intro k s _ i h1 h2; omega
  | succ c ih =>
    intro k s h i h1 h2
    show _ ↔ i + s < pKp kt c (k + 1) _ + k
    by_cases hk : kt k = true
    · rw [if_pos hk]
      by_cases e : i = k
      · subst e
        have := pKp_ge (kt := kt) c (i + 1) (s + 1)
        exact ⟨fun _ => by omega, fun _ => hk⟩
      · rw [ih (k + 1) (s + 1) (fun i j a1 a2 a3 => h i j (by omega) a2 (by omega)) i (by omega) (by omega)]
        omega
    · have all : ∀ i, k ≤ i → i < k + (c + 1) → kt i = false := fun i a1 a2 => by
        apply Classical.byContradiction
        intro z
        exact hk (h k i (Nat.le_refl _) a1 a2 (Bool.not_eq_false _ ▸ z))
      rw [if_neg hk, pKp_none c (k + 1) _ (fun i a1 a2 => all i (by omega) (by omega)), all i h1 h2]
      simp only [Bool.false_eq_true, false_iff]
      omega
