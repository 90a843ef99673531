/-! the pure law: what holds of the peaks as they come -/
section PJ
variable {a : Nat → Int32} {n : Nat} {o : Nat → Nat}
/-- what holds when m places have come -/
def pJ (a : Nat → Int32) (n : Nat) (o : Nat → Nat) (m : Nat) (S : pS) : Prop :=
  (∀ q, q < n → (S.2.2.2.2.1 q ≠ none ↔ ∃ k, k < m ∧ o k = q)) ∧
  (∀ q c, q < n → S.2.2.2.2.1 q = some c → c < S.2.2.2.2.2 ∧ S.2.1 c = none) ∧
  (∀ q x y, q + 1 < n → S.2.2.2.2.1 q = some x → S.2.2.2.2.1 (q + 1) = some y → x = y) ∧
  (∀ c, c < S.2.2.2.2.2 → S.2.1 c = none → S.2.2.2.1 c = none ∧ ∃ q, q < n ∧ S.2.2.2.2.1 q = some c) ∧
  (∀ c, c < S.2.2.2.2.2 → S.2.1 c ≠ none → ∃ l, S.2.2.2.1 c = some l ∧ l < c) ∧
  (∀ c, c < S.2.2.2.2.2 → ∃ k, k < m ∧ o k = S.1 c) ∧
  (∀ c p, c < S.2.2.2.2.2 → S.2.1 c = some p → p < n ∧ S.2.2.1 c = a p ∧ pAh a (S.1 c) p = true) ∧
  (0 < m → 0 < S.2.2.2.2.2 ∧ S.2.1 0 = none ∧ S.1 0 = o 0) ∧
  (∀ c d, c < d → d < S.2.2.2.2.2 → pAh a (S.1 c) (S.1 d) = true) ∧
  S.2.2.2.2.2 ≤ m
theorem pOrd_inj (ho : pOrd a n o) {k m : Nat} (hk : k < m) (hm : m < n) (e : o k = o m) : False := by
  have := ho.2.2 k m hk hm
  rw [e] at this
  exact pAh_irr this
theorem pJ_same (ho : pOrd a n o) {m x : Nat} (hm : m < n) {pl : Nat → Nat} {va : Nat → Option Nat} {de : Nat → Int32} {pa be : Nat → Option Nat} {cm : Nat} (h : pJ a n o m (pl, va, de, pa, be, cm)) (hx : x < cm) (hv : va x = none)
    (hL : 0 < o m → be (o m - 1) = none ∨ be (o m - 1) = some x) (hR : o m + 1 < n → be (o m + 1) = none ∨ be (o m + 1) = some x) : pJ a n o (m + 1) (pl, va, de, pa, up be (o m) (some x), cm) := by
  obtain ⟨h1, h2, h3, h4, h5, h6, h7, h8, h9, h10⟩ := h
  simp only [] at h1 h2 h3 h4 h5 h6 h7 h8 h9 h10
  have hbp : be (o m) = none := by
    apply Classical.byContradiction
    intro hn
    obtain ⟨k, hk, e⟩ := (h1 (o m) (ho.1 m hm)).mp hn
    exact pOrd_inj ho hk hm e
  refine ⟨fun q hq => ?_, fun q c hq e => ?_, fun q u v hq e1 e2 => ?_, fun c hc e => ?_, h5, fun c hc => ?_, h7, fun _ => ?_, h9, by show cm ≤ m + 1; have : cm ≤ m := h10; omega⟩
  all_goals simp only [] at *
  · by_cases eq : q = o m
    · rw [eq, up_same]
      exact ⟨fun _ => ⟨m, by omega, rfl⟩, fun _ => by simp⟩
    · rw [up_ne eq, h1 q hq]
      exact ⟨fun ⟨k, hk, e⟩ => ⟨k, by omega, e⟩, fun ⟨k, hk, e⟩ => ⟨k, by
        rcases Nat.lt_or_ge k m with z | z
        · exact z
        · have : k = m := by omega
          rw [this] at e
          exact absurd e.symm eq, e⟩⟩
  · by_cases eq : q = o m
    · rw [eq, up_same] at e
      cases e
      exact ⟨hx, hv⟩
    · rw [up_ne eq] at e
      exact h2 q c hq e
  · by_cases eq : q = o m
    · rw [eq, up_same] at e1
      rw [eq, up_ne (by omega)] at e2
      cases e1
      rcases hR (by omega) with z | z
      · rw [z] at e2; cases e2
      · rw [z] at e2; cases e2; rfl
    · by_cases eq2 : q + 1 = o m
      · rw [eq2, up_same] at e2
        rw [up_ne eq] at e1
        cases e2
        rw [show q = o m - 1 by omega] at e1
        rcases hL (by omega) with z | z
        · rw [z] at e1; cases e1
        · rw [z] at e1; cases e1; rfl
      · rw [up_ne eq] at e1
        rw [up_ne eq2] at e2
        exact h3 q u v hq e1 e2
  · obtain ⟨g1, q, hq, g2⟩ := h4 c hc e
    refine ⟨g1, q, hq, ?_⟩
    rw [up_ne (fun z => by rw [z, hbp] at g2; cases g2)]
    exact g2
  · obtain ⟨k, hk, e⟩ := h6 c hc
    exact ⟨k, by omega, e⟩
  · rcases Nat.eq_zero_or_pos m with z | z
    · subst z; omega
    · exact h8 z
theorem pJ_new (ho : pOrd a n o) {m : Nat} (hm : m < n) {pl : Nat → Nat} {va : Nat → Option Nat} {de : Nat → Int32} {pa be : Nat → Option Nat} {cm : Nat} (h : pJ a n o m (pl, va, de, pa, be, cm))
    (hL : 0 < o m → be (o m - 1) = none) (hR : o m + 1 < n → be (o m + 1) = none) : pJ a n o (m + 1) (up pl cm (o m), up va cm none, de, up pa cm none, up be (o m) (some cm), cm + 1) := by
  obtain ⟨h1, h2, h3, h4, h5, h6, h7, h8, h9, h10⟩ := h
  simp only [] at h1 h2 h3 h4 h5 h6 h7 h8 h9 h10
  have hbp : be (o m) = none := by
    apply Classical.byContradiction
    intro hn
    obtain ⟨k, hk, e⟩ := (h1 (o m) (ho.1 m hm)).mp hn
    exact pOrd_inj ho hk hm e
  refine ⟨fun q hq => ?_, fun q c hq e => ?_, fun q u v hq e1 e2 => ?_, fun c hc e => ?_, fun c hc e => ?_, fun c hc => ?_, fun c p hc e => ?_, fun _ => ?_, fun c d hcd hd => ?_, by show cm + 1 ≤ m + 1; omega⟩
  all_goals simp only [] at *
  · by_cases eq : q = o m
    · rw [eq, up_same]
      exact ⟨fun _ => ⟨m, by omega, rfl⟩, fun _ => by simp⟩
    · rw [up_ne eq, h1 q hq]
      exact ⟨fun ⟨k, hk, e⟩ => ⟨k, by omega, e⟩, fun ⟨k, hk, e⟩ => ⟨k, by
        rcases Nat.lt_or_ge k m with z | z
        · exact z
        · have : k = m := by omega
          rw [this] at e
          exact absurd e.symm eq, e⟩⟩
  · by_cases eq : q = o m
    · rw [eq, up_same] at e
      cases e
      exact ⟨by omega, up_same⟩
    · rw [up_ne eq] at e
      obtain ⟨g1, g2⟩ := h2 q c hq e
      exact ⟨by omega, by rw [up_ne (by omega)]; exact g2⟩
  · by_cases eq : q = o m
    · rw [eq, up_ne (by omega), hR (by omega)] at e2
      cases e2
    · by_cases eq2 : q + 1 = o m
      · rw [up_ne eq, show q = o m - 1 by omega, hL (by omega)] at e1
        cases e1
      · rw [up_ne eq] at e1
        rw [up_ne eq2] at e2
        exact h3 q u v hq e1 e2
  · by_cases ec : c = cm
    · subst ec
      exact ⟨up_same, o m, ho.1 m hm, up_same⟩
    · rw [up_ne ec] at e
      obtain ⟨g1, q, hq, g2⟩ := h4 c (by omega) e
      refine ⟨by rw [up_ne ec]; exact g1, q, hq, ?_⟩
      rw [up_ne (fun z => by rw [z, hbp] at g2; cases g2)]
      exact g2
  · by_cases ec : c = cm
    · subst ec
      exact absurd up_same e
    · rw [up_ne ec] at e ⊢
      exact h5 c (by omega) e
  · by_cases ec : c = cm
    · subst ec
      exact ⟨m, by omega, up_same.symm⟩
    · obtain ⟨k, hk, e⟩ := h6 c (by omega)
      exact ⟨k, by omega, by rw [up_ne ec]; exact e⟩
  · by_cases ec : c = cm
    · subst ec
      rw [up_same] at e
      cases e
    · rw [up_ne ec] at e ⊢
      exact h7 c p (by omega) e
  · refine ⟨by omega, ?_⟩
    rcases Nat.eq_zero_or_pos m with z | z
    · subst z
      have : cm = 0 := by omega
      subst this
      exact ⟨up_same, up_same⟩
    · obtain ⟨g1, g2, g3⟩ := h8 z
      rw [up_ne (by omega), up_ne (by omega)]
      exact ⟨g2, g3⟩
  · by_cases ed : d = cm
    · subst ed
      rw [up_same, up_ne (by omega)]
      obtain ⟨k, hk, e⟩ := h6 c hcd
      rw [← e]
      exact ho.2.2 k m hk hm
    · rw [up_ne ed, up_ne (by omega)]
      exact h9 c d hcd (by omega)
theorem pJ_join (ho : pOrd a n o) {m x y : Nat} (hm : m < n) {pl : Nat → Nat} {va : Nat → Option Nat} {de : Nat → Int32} {pa be : Nat → Option Nat} {cm : Nat} (h : pJ a n o m (pl, va, de, pa, be, cm)) (hxy : x ≠ y)
    (hL0 : 0 < o m) (hL : be (o m - 1) = some x) (hR0 : o m + 1 < n) (hR : be (o m + 1) = some y) : pJ a n o (m + 1) (pl, up va (max x y) (some (o m)), up de (max x y) (a (o m)), up pa (max x y) (some (min x y)), up (pJn (min x y) (max x y) n 0 be) (o m) (some (min x y)), cm) := by
  obtain ⟨h1, h2, h3, h4, h5, h6, h7, h8, h9, h10⟩ := h
  simp only [] at h1 h2 h3 h4 h5 h6 h7 h8 h9 h10
  have hbp : be (o m) = none := by
    apply Classical.byContradiction
    intro hn
    obtain ⟨k, hk, e⟩ := (h1 (o m) (ho.1 m hm)).mp hn
    exact pOrd_inj ho hk hm e
  obtain ⟨x1, x2⟩ := h2 _ _ (by omega) hL
  obtain ⟨y1, y2⟩ := h2 _ _ hR0 hR
  have hg : max x y < cm := by omega
  have hl : min x y < cm := by omega
  have hgl : min x y ≠ max x y := by omega
  have hvl : va (min x y) = none := by
    rcases Nat.le_total x y with z | z
    · rw [Nat.min_eq_left z]; exact x2
    · rw [Nat.min_eq_right z]; exact y2
  have hx : x = min x y ∨ x = max x y := by omega
  have hy : y = min x y ∨ y = max x y := by omega
  have hg0 : 0 < max x y := by omega
  have hlg : min x y < max x y := by omega
  generalize max x y = g at *
  generalize min x y = l at *
  have hj : ∀ q, q < n → pJn l g n 0 be q = if be q = some g then some l else be q := fun q hq => by
    rw [pJn_eq]
    simp only []
    by_cases e : be q = some g
    · rw [if_pos ⟨Nat.zero_le _, by omega, e⟩, if_pos e]
    · rw [if_neg (fun z => e z.2.2), if_neg e]
  refine ⟨fun q hq => ?_, fun q c hq e => ?_, fun q u v hq e1 e2 => ?_, fun c hc e => ?_, fun c hc e => ?_, fun c hc => ?_, fun c p hc e => ?_, fun _ => ?_, h9, by show cm ≤ m + 1; omega⟩
  all_goals simp only [] at *
  · by_cases eq : q = o m
    · rw [eq, up_same]
      exact ⟨fun _ => ⟨m, by omega, rfl⟩, fun _ => by simp⟩
    · have : pJn l g n 0 be q ≠ none ↔ be q ≠ none := by
        rw [hj q hq]
        by_cases e : be q = some g
        · rw [if_pos e, e]; simp
        · rw [if_neg e]
      rw [up_ne eq, this, h1 q hq]
      exact ⟨fun ⟨k, hk, e⟩ => ⟨k, by omega, e⟩, fun ⟨k, hk, e⟩ => ⟨k, by
        rcases Nat.lt_or_ge k m with z | z
        · exact z
        · have : k = m := by omega
          rw [this] at e
          exact absurd e.symm eq, e⟩⟩
  · by_cases eq : q = o m
    · rw [eq, up_same] at e
      cases e
      exact ⟨hl, by rw [up_ne hgl]; exact hvl⟩
    · rw [up_ne eq, hj q hq] at e
      by_cases e3 : be q = some g
      · rw [if_pos e3] at e
        cases e
        exact ⟨hl, by rw [up_ne hgl]; exact hvl⟩
      · rw [if_neg e3] at e
        obtain ⟨g1, g2⟩ := h2 q c hq e
        exact ⟨g1, by rw [up_ne (fun z => e3 (by rw [e, z]))]; exact g2⟩
  · by_cases eq : q = o m
    · rw [eq, up_same] at e1
      rw [eq, up_ne (by omega), hj _ (by omega), hR] at e2
      cases e1
      by_cases e3 : (some y : Option Nat) = some g
      · rw [if_pos e3] at e2
        exact Option.some.inj e2
      · rw [if_neg e3] at e2
        have : y ≠ g := fun z => e3 (by rw [z])
        have := Option.some.inj e2
        omega
    · by_cases eq2 : q + 1 = o m
      · rw [eq2, up_same] at e2
        rw [up_ne eq, hj _ (by omega), show q = o m - 1 by omega, hL] at e1
        cases e2
        by_cases e3 : (some x : Option Nat) = some g
        · rw [if_pos e3] at e1
          exact (Option.some.inj e1).symm
        · rw [if_neg e3] at e1
          have : x ≠ g := fun z => e3 (by rw [z])
          have := Option.some.inj e1
          omega
      · rw [up_ne eq, hj _ (by omega)] at e1
        rw [up_ne eq2, hj _ hq] at e2
        by_cases c1 : be q = some g
        · rw [if_pos c1] at e1
          by_cases c2 : be (q + 1) = some g
          · rw [if_pos c2] at e2
            exact Option.some.inj (e1.symm.trans e2)
          · rw [if_neg c2] at e2
            exact absurd (by rw [e2, h3 q g v hq c1 e2]) c2
        · rw [if_neg c1] at e1
          by_cases c2 : be (q + 1) = some g
          · exact absurd (by rw [e1, h3 q u g hq e1 c2]) c1
          · rw [if_neg c2] at e2
            exact h3 q u v hq e1 e2
  · by_cases ec : c = g
    · rw [ec, up_same] at e; cases e
    · rw [up_ne ec] at e
      obtain ⟨g1, q, hq, g2⟩ := h4 c hc e
      refine ⟨by rw [up_ne ec]; exact g1, q, hq, ?_⟩
      rw [up_ne (fun z => by rw [z, hbp] at g2; cases g2), hj q hq, if_neg (fun z => ec (by rw [g2] at z; exact Option.some.inj z)), g2]
  · by_cases ec : c = g
    · rw [ec, up_same]
      exact ⟨l, rfl, by omega⟩
    · rw [up_ne ec] at e ⊢
      exact h5 c hc e
  · obtain ⟨k, hk, e⟩ := h6 c hc
    exact ⟨k, by omega, e⟩
  · by_cases ec : c = g
    · rw [ec, up_same] at e
      cases e
      rw [ec, up_same]
      refine ⟨ho.1 m hm, rfl, ?_⟩
      obtain ⟨k, hk, e⟩ := h6 g hg
      rw [← e]
      exact ho.2.2 k m hk hm
    · rw [up_ne ec] at e ⊢
      exact h7 c p hc e
  · rw [up_ne (by omega)]
    rcases Nat.eq_zero_or_pos m with z | z
    · subst z; omega
    · exact h8 z
theorem pJ_s (ho : pOrd a n o) {m : Nat} (hm : m < n) {S : pS} (h : pJ a n o m S) : pJ a n o (m + 1) (pLS a n (o m) S) := by
  obtain ⟨pl, va, de, pa, be, cm⟩ := S
  have h2 : ∀ q c, q < n → be q = some c → c < cm ∧ va c = none := h.2.1
  unfold pLS
  simp only []
  have hp := ho.1 m hm
  cases hx : (if 0 < o m then be (o m - 1) else none) with
  | none =>
    have hL : 0 < o m → be (o m - 1) = none := fun z => by rw [if_pos z] at hx; exact hx
    cases hy : (if o m + 1 < n then be (o m + 1) else none) with
    | none => exact pJ_new ho hm h hL (fun z => by rw [if_pos z] at hy; exact hy)
    | some y =>
      have hR0 : o m + 1 < n := by
        apply Classical.byContradiction
        intro z
        rw [if_neg z] at hy
        cases hy
      rw [if_pos hR0] at hy
      obtain ⟨y1, y2⟩ := h2 _ _ hR0 hy
      exact pJ_same ho hm h y1 y2 (fun z => Or.inl (hL z)) (fun _ => Or.inr hy)
  | some x =>
    have hL0 : 0 < o m := by
      apply Classical.byContradiction
      intro z
      rw [if_neg z] at hx
      cases hx
    rw [if_pos hL0] at hx
    obtain ⟨x1, x2⟩ := h2 _ _ (by omega) hx
    cases hy : (if o m + 1 < n then be (o m + 1) else none) with
    | none => exact pJ_same ho hm h x1 x2 (fun _ => Or.inr hx) (fun z => Or.inl (by rw [if_pos z] at hy; exact hy))
    | some y =>
      have hR0 : o m + 1 < n := by
        apply Classical.byContradiction
        intro z
        rw [if_neg z] at hy
        cases hy
      rw [if_pos hR0] at hy
      simp only []
      by_cases hxy : x = y
      · rw [if_pos hxy]
        exact pJ_same ho hm h x1 x2 (fun _ => Or.inr hx) (fun _ => Or.inr (by rw [hxy]; exact hy))
      · rw [if_neg hxy]
        exact pJ_join ho hm h hxy hL0 hx hR0 hy
theorem pJ_L (ho : pOrd a n o) : ∀ (c m : Nat) (S : pS), m + c = n → pJ a n o m S → pJ a n o n (pLets a n o c m S) := by
  intro c
  induction c with
  | zero =>
    intro m S hm h
    have e : m = n := by omega
    subst e
    exact h
  | succ c ih =>
    intro m S hm h
    exact ih (m + 1) _ (by omega) (pJ_s ho (by omega) h)
theorem pJ_0 {S : pS} (h1 : ∀ q, q < n → S.2.2.2.2.1 q = none) (h2 : S.2.2.2.2.2 = 0) : pJ a n o 0 S := by
  obtain ⟨pl, va, de, pa, be, cm⟩ := S
  have h1 : ∀ q, q < n → be q = none := h1
  have h2 : cm = 0 := h2
  subst h2
  refine ⟨fun q hq => ?_, fun q c hq e => ?_, fun q u v hq e1 e2 => ?_, fun c hc e => ?_, fun c hc e => ?_, fun c hc => ?_, fun c p hc e => ?_, fun h => ?_, fun c d hcd hd => ?_, Nat.le_refl _⟩
  all_goals simp only [] at *
  · rw [h1 q hq]
    exact ⟨fun z => absurd rfl z, fun ⟨k, hk, _⟩ => by omega⟩
  · rw [h1 q hq] at e; cases e
  · rw [h1 q (by omega)] at e1; cases e1
  all_goals omega
/-- at the end all places are one peak's, the first one's -/
theorem pJ_end {S : pS} (hn : 0 < n) (ho : pOrd a n o) (h : pJ a n o n S) : (∀ q, q < n → S.2.2.2.2.1 q = some 0) ∧ (∀ c, 0 < c → c < S.2.2.2.2.2 → S.2.1 c ≠ none) := by
  obtain ⟨h1, h2, h3, h4, h5, h6, h7, h8, h9, h10⟩ := h
  obtain ⟨g1, g2, g3⟩ := h8 hn
  have all : ∀ q, q < n → ∃ c, S.2.2.2.2.1 q = some c := fun q hq => by
    have := (h1 q hq).mpr (ho.2.1 q hq)
    cases e : S.2.2.2.2.1 q with
    | none => exact absurd e this
    | some c => exact ⟨c, rfl⟩
  obtain ⟨r, hr⟩ := all 0 hn
  have same : ∀ q, q < n → S.2.2.2.2.1 q = some r := fun q => by
    induction q with
    | zero => exact fun _ => hr
    | succ q ih =>
      intro hq
      obtain ⟨c, hc⟩ := all (q + 1) hq
      rw [hc, h3 q r c hq (ih (by omega)) hc]
  obtain ⟨-, q, hq, e⟩ := h4 0 g1 g2
  have r0 : r = 0 := by
    rw [same q hq] at e
    exact Option.some.inj e
  subst r0
  refine ⟨same, fun c hc hcm hv => ?_⟩
  obtain ⟨-, q, hq, e⟩ := h4 c hcm hv
  rw [same q hq] at e
  have := Option.some.inj e
  omega
end PJ
