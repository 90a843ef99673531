/-! the pure law: the model's finds, whole -/
section PG
variable {w : j_St} {S : pS} {N : pN} {M : pM} {a : Nat → Int32} {n : Nat} {z : Int32} {lp : Nat → Int32} {ln : Nat} {rc by_ : Int32} {tk lo : Nat → Option Nat} {tn : Nat} {o : Nat → Nat}
theorem pNr_lt {x : Int32} : ∀ (c l : Nat) (b : Option Nat), l + c = ln → (∀ q, b = some q → q < ln) → ∀ q, pNr lp rc x tk c l b = some q → q < ln := by
  intro c
  induction c with
  | zero => intro l b _ hb q e; exact hb q e
  | succ c ih =>
    intro l b hl hb q e
    exact ih (l + 1) _ (by omega) (pNs_lt (by omega) hb) q e
theorem sp_matches_L45 (hL : pLn w lp ln rc) {k : Nat} (hk : k < 48) (hw : N.1 k < 48) (hkn : N.2.2 ≤ 48) (ht : ∀ q, pSm (tk q)) {kk : j_St → Option (Unit × j_St)} : ∀ (c f l : Nat) (b : Option Nat), l + c = ln → (∀ q, b = some q → q < ln) → c < f → k < N.2.2 →
    f_X9_matches_L45 by_ (nI k) kk f (nI l) (mkA w S N (up lo k b, tk, tn)) = kk (mkA w S N (up lo k (pNr lp rc (nI (S.1 (N.1 k)) + by_) tk c l b), tk, tn)) := by
  intro c
  induction c with
  | zero =>
    intro f l b hl hb hf _
    obtain ⟨f, rfl⟩ : ∃ f', f = f' + 1 := ⟨f - 1, by omega⟩
    have e : l = ln := by omega
    subst e
    have := hL.2.2.2
    rw [f_X9_matches_L45, jlt_eq, show jgi (mkA w S N (up lo k b, tk, tn)) 1 0 27 = nI l from hL.1, if_pos ((nI_leI (by omega) (by omega)).mpr (Nat.le_refl _))]
    rfl
  | succ c ih =>
    intro f l b hl hb hf hkp
    obtain ⟨f, rfl⟩ : ∃ f', f = f' + 1 := ⟨f - 1, by omega⟩
    rw [sp_matches_s hL hk hw hkp hkn ht (by omega) hb, ih f (l + 1) _ (by omega) (pNs_lt (by omega) hb) (by omega) hkp]
    rfl
theorem sp_matches_L45x (hL : pLn w lp ln rc) {k : Nat} (hk : k < 48) (hkn : N.2.2 ≤ k) {kk : j_St → Option (Unit × j_St)} {f : Nat} : f_X9_matches_L45 by_ (nI k) kk (f + 1) (nI 0) (mkA w S N M) = kk (mkA w S N M) := by
  obtain ⟨h1, -, -, h4⟩ := hL
  rw [f_X9_matches_L45, jlt_eq, show jgi (mkA w S N M) 1 0 27 = nI ln from h1]
  by_cases h : nI ln ≤ nI 0
  · rw [if_pos h]
  · rw [if_neg h, jlt_eq, mkA_k, if_pos ((nI_leI (by omega) (by omega)).mpr hkn)]
/-- the line that a peak takes -/
def pTk (lp : Nat → Int32) (ln : Nat) (rc by_ : Int32) (S : pS) (N : pN) (k : Nat) (tk : Nat → Option Nat) : Option Nat := if k < N.2.2 then pNr lp rc (nI (S.1 (N.1 k)) + by_) tk ln 0 none else none
def pMs (lp : Nat → Int32) (ln : Nat) (rc by_ : Int32) (S : pS) (N : pN) (k : Nat) (M : pM) : pM := match pTk lp ln rc by_ S N k M.2.1 with
  | none => (up M.1 k none, M.2.1, M.2.2)
  | some l => (up M.1 k (some l), up M.2.1 l (some k), M.2.2 + 1)
def pMt (lp : Nat → Int32) (ln : Nat) (rc by_ : Int32) (S : pS) (N : pN) : Nat → Nat → pM → pM
  | 0, _, M => M
  | c + 1, k, M => pMt lp ln rc by_ S N c (k + 1) (pMs lp ln rc by_ S N k M)
theorem pTk_lt {k : Nat} : ∀ l, pTk lp ln rc by_ S N k tk = some l → l < ln := fun l e => by
  unfold pTk at e
  split at e
  · exact pNr_lt ln 0 none (by omega) (fun q e => by cases e) l e
  · cases e
theorem sp_matches_L28s (hL : pLn w lp ln rc) (hc : S.2.2.2.2.2 ≤ 48) (hw : ∀ j, j < S.2.2.2.2.2 → N.1 j < 48) (hkn : N.2.2 ≤ 48) (ht : ∀ q, pSm (M.2.1 q)) {k : Nat} (hk : k < S.2.2.2.2.2) {f : Nat} : f_X9_matches_L28 by_ (f + 1) (nI k) (mkA w S N M) = f_X9_matches_L28 by_ f (nI (k + 1)) (mkA w S N (pMs lp ln rc by_ S N k M)) := by
  have hln := hL.2.2.2
  rw [f_X9_matches_L28, jlt_eq, mkA_c, if_neg (fun z => absurd ((nI_leI (by omega) (by omega)).mp z) (by omega)), jbd_nI (by omega) (by decide), jlt_eq, show (-1 : Int32) = pOI none from rfl, mkA_s59]
  have inner : ∀ kk : j_St → Option (Unit × j_St), f_X9_matches_L45 by_ (nI k) kk jFU 0 (mkA w S N (up M.1 k none, M.2.1, M.2.2)) = kk (mkA w S N (up M.1 k (pTk lp ln rc by_ S N k M.2.1), M.2.1, M.2.2)) := fun kk => by
    unfold pTk
    by_cases h : k < N.2.2
    · rw [if_pos h]
      exact sp_matches_L45 hL (by omega) (hw k hk) hkn ht ln jFU 0 none (by omega) (fun q e => by cases e) (jFU_gt (by omega)) h
    · rw [if_neg h]
      exact sp_matches_L45x (f := 19999) hL (by omega) (by omega)
  rw [inner]
  have hlt := pTk_lt (lp := lp) (ln := ln) (rc := rc) (by_ := by_) (S := S) (N := N) (k := k) (tk := M.2.1)
  unfold pMs
  generalize pTk lp ln rc by_ S N k M.2.1 = t at hlt
  have g0 : jgi (mkA w S N (up M.1 k t, M.2.1, M.2.2)) 59 0 k = pOI t := by rw [mkA_59]; show pOI (up M.1 k t k) = _; rw [up_same]
  cases t with
  | none =>
    simp (disch := omega) only [jbd_nI, ↓jlt_eq, g0, nI_1]
    rfl
  | some l =>
    have hl := hlt l rfl
    have c2 : (pOI (some l) = pOI none) = False := eq_false (nI_ne1 (by omega))
    have jb : ∀ {β : Type} (f : Nat → Option β), jbd (pOI (some l)) 8 f = f l := fun f => jbd_nI (by omega) (by decide)
    have s1 : jsi (mkA w S N (up M.1 k (some l), M.2.1, M.2.2)) 60 0 l (nI k) = mkA w S N (up M.1 k (some l), up M.2.1 l (some k), M.2.2) := mkA_s60 (v := some k)
    have s2 : jsi (mkA w S N (up M.1 k (some l), up M.2.1 l (some k), M.2.2)) 1 0 41 (nI (M.2.2 + 1)) = mkA w S N (up M.1 k (some l), up M.2.1 l (some k), M.2.2 + 1) := mkA_st
    have g1 : jgi (mkA w S N (up M.1 k (some l), up M.2.1 l (some k), M.2.2)) 1 0 41 = nI M.2.2 := rfl
    simp (disch := omega) only [jbd_nI, ↓jlt_eq, g0, nI_1, c2, if_false, jb, s1, g1, s2]
theorem pMs_sm {k : Nat} (hk : k < 48) (ht : ∀ q, pSm (M.2.1 q)) : ∀ q, pSm ((pMs lp ln rc by_ S N k M).2.1 q) := fun q => by
  unfold pMs
  split
  · exact ht q
  · exact pSm_up ht (pSm_some hk) q
theorem sp_matches_L28 (hL : pLn w lp ln rc) (hc : S.2.2.2.2.2 ≤ 48) (hw : ∀ j, j < S.2.2.2.2.2 → N.1 j < 48) (hkn : N.2.2 ≤ 48) : ∀ (c f k : Nat) (M : pM), (∀ q, pSm (M.2.1 q)) → k + c = S.2.2.2.2.2 → c < f → f_X9_matches_L28 by_ f (nI k) (mkA w S N M) = some ((), mkA w S N (pMt lp ln rc by_ S N c k M)) := by
  intro c
  induction c with
  | zero =>
    intro f k M ht he hf
    obtain ⟨f, rfl⟩ : ∃ f', f = f' + 1 := ⟨f - 1, by omega⟩
    rw [f_X9_matches_L28, jlt_eq, mkA_c, if_pos ((nI_leI (by omega) (by omega)).mpr (by omega))]
    rfl
  | succ c ih =>
    intro f k M ht he hf
    obtain ⟨f, rfl⟩ : ∃ f', f = f' + 1 := ⟨f - 1, by omega⟩
    rw [sp_matches_L28s hL hc hw hkn ht (by omega), ih f (k + 1) _ (pMs_sm (by omega) ht) (by omega) (by omega)]
    rfl
theorem sp_matches_L7 {kk : j_St → Option (Unit × j_St)} : ∀ (c f m : Nat), m + c = 8 → c < f → f_X9_matches_L7 kk f (nI m) (mkA w S N (lo, pBe0 m tk, tn)) = kk (mkA w S N (lo, pBe0 8 tk, tn)) := by
  intro c
  induction c with
  | zero =>
    intro f m hm hf
    obtain ⟨f, rfl⟩ : ∃ f', f = f' + 1 := ⟨f - 1, by omega⟩
    have e : m = 8 := by omega
    subst e
    rw [f_X9_matches_L7, if_pos (by decide)]
  | succ c ih =>
    intro f m hm hf
    obtain ⟨f, rfl⟩ : ∃ f', f = f' + 1 := ⟨f - 1, by omega⟩
    have e : up (pBe0 m tk) m none = pBe0 (m + 1) tk := by
      funext q
      unfold up pBe0
      by_cases e : q = m
      · subst e; simp
      · rw [if_neg e]
        by_cases e2 : q < m
        · rw [if_pos e2, if_pos (by omega)]
        · rw [if_neg e2, if_neg (by omega)]
    have nx := ih f (m + 1) (by omega) (by omega)
    rw [← e] at nx
    have s1 : jsi (mkA w S N (lo, pBe0 m tk, tn)) 60 0 m (-1) = mkA w S N (lo, up (pBe0 m tk) m none, tn) := mkA_s60 (v := none)
    rw [f_X9_matches_L7, if_neg (show ¬ (8 : Int32) ≤ nI m from fun z => absurd ((nI_leI (a := 8) (by decide) (by omega)).mp z) (by omega)), jbd_nI (by omega) (by decide), jlt_eq, s1, jlt_eq, nI_1]
    exact nx
/-- all kept peaks are matched -/
def pMa (lp : Nat → Int32) (ln : Nat) (rc by_ : Int32) (S : pS) (N : pN) (M : pM) : pM := pMt lp ln rc by_ S N S.2.2.2.2.2 0 (M.1, pBe0 8 M.2.1, 0)
theorem sp_matches (hL : pLn w lp ln rc) (hc : S.2.2.2.2.2 ≤ 48) (hw : ∀ j, j < S.2.2.2.2.2 → N.1 j < 48) (hkn : N.2.2 ≤ 48) (ht : ∀ q, pSm (M.2.1 q)) : f_X9_matches by_ (mkA w S N M) = some ((), mkA w S N (pMa lp ln rc by_ S N M)) := by
  have e0 : pBe0 0 M.2.1 = M.2.1 := by funext q; unfold pBe0; rw [if_neg (by omega)]
  have e7 := sp_matches_L7 (w := w) (S := S) (N := N) (lo := M.1) (tk := M.2.1) (tn := 0) (kk := fun w8 => f_X9_matches_L28 by_ jFU 0 w8) 8 jFU 0 (by omega) (jFU_gt (by omega))
  rw [e0] at e7
  have s1 : jsi (mkA w S N M) 1 0 41 0 = mkA w S N (M.1, M.2.1, 0) := mkA_st (v := 0)
  rw [f_X9_matches, jlt_eq, s1]
  refine e7.trans ?_
  exact sp_matches_L28 hL hc hw hkn S.2.2.2.2.2 jFU 0 _ (fun q => by
    show pSm (if q < 8 then none else M.2.1 q)
    split
    · exact pSm_none
    · exact ht q) (by omega) (jFU_gt (by omega))
/-- peaks that came stand at places -/
theorem pLS_pl {m p : Nat} (hp : p < n) (h : ∀ c, c < S.2.2.2.2.2 → S.1 c < n) : ∀ c, c < (pLS a n p S).2.2.2.2.2 → (pLS a n p S).1 c < n := by
  obtain ⟨pl, va, de, pa, be, cm⟩ := S
  have h : ∀ c, c < cm → pl c < n := h
  unfold pLS
  simp only []
  generalize (if 0 < p then be (p - 1) else none) = x
  generalize (if p + 1 < n then be (p + 1) else none) = y
  cases x with
  | none =>
    cases y with
    | none =>
      intro c hc
      have hc : c < cm + 1 := hc
      show up pl cm p c < n
      by_cases e : c = cm
      · rw [e, up_same]; exact hp
      · rw [up_ne e]; exact h c (by omega)
    | some y => exact h
  | some x =>
    cases y with
    | none => exact h
    | some y =>
      simp only []
      by_cases hxy : x = y
      · rw [if_pos hxy]; exact h
      · rw [if_neg hxy]; exact h
theorem pLets_pl (ho : pOrd a n o) : ∀ (c m : Nat) (S : pS), m + c = n → n ≤ 48 → pI0 m S → (∀ c, c < S.2.2.2.2.2 → S.1 c < n) → pI0 n (pLets a n o c m S) ∧ ∀ d, d < (pLets a n o c m S).2.2.2.2.2 → (pLets a n o c m S).1 d < n := by
  intro c
  induction c with
  | zero =>
    intro m S hm hn h1 h2
    have e : m = n := by omega
    subst e
    exact ⟨h1, h2⟩
  | succ c ih =>
    intro m S hm hn h1 h2
    exact ih (m + 1) _ (by omega) hn (pI0_s h1 (by omega)) (pLS_pl (m := m) (ho.1 m (by omega)) h2)
end PG
