/-! the pure law: loops; what is read of the peaks found -/
/-- the first for which it holds -/
def pFd (b : Nat → Bool) : Nat → Nat → Option Nat
  | 0, _ => none
  | c + 1, k => if b k = true then some k else pFd b c (k + 1)
theorem pFd_is {β : Type} {F : Nat → Nat → β} {b : Nat → Bool} {G : Option Nat → β} {N : Nat} (h1 : ∀ f m, m < N → F (f + 1) m = if b m = true then G (some m) else F f (m + 1)) (h2 : ∀ f, F (f + 1) N = G none) : ∀ c f m, m + c = N → c < f → F f m = G (pFd b c m) := by
  intro c
  induction c with
  | zero =>
    intro f m hm hf
    obtain ⟨f, rfl⟩ : ∃ f', f = f' + 1 := ⟨f - 1, by omega⟩
    have e : m = N := by omega
    rw [e, h2]
    rfl
  | succ c ih =>
    intro f m hm hf
    obtain ⟨f, rfl⟩ : ∃ f', f = f' + 1 := ⟨f - 1, by omega⟩
    rw [h1 f m (by omega)]
    unfold pFd
    by_cases e : b m = true
    · rw [if_pos e, if_pos e]
    · rw [if_neg e, if_neg e, ih f (m + 1) (by omega) (by omega)]
theorem pFd_some {b : Nat → Bool} {k : Nat} : ∀ {c m : Nat}, pFd b c m = some k → m ≤ k ∧ k < m + c ∧ b k = true ∧ ∀ j, m ≤ j → j < k → b j = false := by
  intro c
  induction c with
  | zero => intro m e; cases e
  | succ c ih =>
    intro m e
    unfold pFd at e
    by_cases h : b m = true
    · rw [if_pos h] at e
      cases e
      exact ⟨Nat.le_refl _, by omega, h, fun j h1 h2 => by omega⟩
    · rw [if_neg h] at e
      obtain ⟨h1, h2, h3, h4⟩ := ih e
      refine ⟨by omega, by omega, h3, fun j g1 g2 => ?_⟩
      by_cases e2 : j = m
      · rw [e2]; exact Bool.eq_false_iff.mpr h
      · exact h4 j (by omega) g2
theorem pFd_none {b : Nat → Bool} : ∀ {c m : Nat}, pFd b c m = none → ∀ j, m ≤ j → j < m + c → b j = false := by
  intro c
  induction c with
  | zero => intro m _ j h1 h2; omega
  | succ c ih =>
    intro m e j h1 h2
    unfold pFd at e
    by_cases h : b m = true
    · rw [if_pos h] at e
      cases e
    · rw [if_neg h] at e
      by_cases e2 : j = m
      · rw [e2]; exact Bool.eq_false_iff.mpr h
      · exact ih e j (by omega) (by omega)
theorem pFd_one {b : Nat → Bool} {c m k : Nat} (h1 : m ≤ k) (h2 : k < m + c) (h3 : b k = true) (h4 : ∀ j, m ≤ j → j < m + c → b j = true → j = k) : pFd b c m = some k := by
  cases e : pFd b c m with
  | none =>
    have := pFd_none e k h1 h2
    rw [h3] at this
    cases this
  | some j =>
    obtain ⟨g1, g2, g3, -⟩ := pFd_some e
    rw [h4 j g1 g2 g3]
theorem pFd_congr {b b' : Nat → Bool} : ∀ (c m : Nat), (∀ j, m ≤ j → j < m + c → b j = b' j) → pFd b c m = pFd b' c m := by
  intro c
  induction c with
  | zero => intro m _; rfl
  | succ c ih =>
    intro m h
    unfold pFd
    rw [h m (Nat.le_refl _) (by omega), ih (m + 1) (fun j h1 h2 => h j (by omega) (by omega))]
/-- some steps, one behind another -/
def pIt {α : Type} (step : Nat → α → α) : Nat → Nat → α → α
  | 0, _, x => x
  | c + 1, m, x => pIt step c (m + 1) (step m x)
theorem pIt_I {α : Type} {step : Nat → α → α} {I : Nat → α → Prop} {N : Nat} (hI : ∀ m x, m < N → I m x → I (m + 1) (step m x)) : ∀ c m x, m + c = N → I m x → I N (pIt step c m x) := by
  intro c
  induction c with
  | zero => intro m x hm h; rw [show N = m by omega]; exact h
  | succ c ih => intro m x hm h; exact ih (m + 1) _ (by omega) (hI m x (by omega) h)
theorem pIt_is {α β : Type} {F : Nat → Nat → α → β} {step : Nat → α → α} {I : Nat → α → Prop} {N : Nat} {G : α → β} (h1 : ∀ f m x, m < N → I m x → F (f + 1) m x = F f (m + 1) (step m x)) (hI : ∀ m x, m < N → I m x → I (m + 1) (step m x)) (h2 : ∀ f x, I N x → F (f + 1) N x = G x) : ∀ c f m x, m + c = N → c < f → I m x → F f m x = G (pIt step c m x) := by
  intro c
  induction c with
  | zero =>
    intro f m x hm hf h
    obtain ⟨f, rfl⟩ : ∃ f', f = f' + 1 := ⟨f - 1, by omega⟩
    have e : m = N := by omega
    subst e
    rw [h2 f x h]
    rfl
  | succ c ih =>
    intro f m x hm hf h
    obtain ⟨f, rfl⟩ : ∃ f', f = f' + 1 := ⟨f - 1, by omega⟩
    rw [h1 f m x (by omega) h, ih f (m + 1) _ (by omega) (by omega) (hI m x (by omega) h)]
    rfl
theorem pIt_is' {α β : Type} {F : Nat → Nat → α → β} {step : Nat → α → α} {N : Nat} {G : α → β} (h1 : ∀ f m x, m < N → F (f + 1) m x = F f (m + 1) (step m x)) (h2 : ∀ f x, F (f + 1) N x = G x) : ∀ c f m x, m + c = N → c < f → F f m x = G (pIt step c m x) := fun c f m x hm hf =>
  pIt_is (I := fun _ _ => True) (fun f m x hm _ => h1 f m x hm) (fun _ _ _ _ => trivial) (fun f x _ => h2 f x) c f m x hm hf trivial
theorem pIt_congr {α : Type} {step step' : Nat → α → α} : ∀ (c m : Nat) (x : α), (∀ j y, m ≤ j → j < m + c → step j y = step' j y) → pIt step c m x = pIt step' c m x := by
  intro c
  induction c with
  | zero => intro m x _; rfl
  | succ c ih =>
    intro m x h
    show pIt step c (m + 1) (step m x) = pIt step' c (m + 1) (step' m x)
    rw [h m x (Nat.le_refl _) (by omega)]
    exact ih (m + 1) _ (fun j y h1 h2 => h j y (by omega) (by omega))
theorem sI_e {s : Nat → Nat} {k : Nat} : sI s k = nI (s k) := id rfl
theorem jcb_e {α β : Type} {o : Option (α × j_St)} {r : α} {w : j_St} {k : α → j_St → Option β} (h : o = some (r, w)) : jcb o k = k r w := by rw [h]; rfl
theorem le_F {a b : Nat} (ha : a < 2 ^ 31) (hb : b < 2 ^ 31) (h : b < a) : (nI a ≤ nI b) = False := eq_false (fun z => by have := (nI_leI ha hb).mp z; omega)
theorem le_T {a b : Nat} (ha : a < 2 ^ 31) (hb : b < 2 ^ 31) (h : a ≤ b) : (nI a ≤ nI b) = True := eq_true ((nI_leI ha hb).mpr h)
theorem lt_F {a b : Nat} (ha : a < 2 ^ 31) (hb : b < 2 ^ 31) (h : b ≤ a) : (nI a < nI b) = False := eq_false (fun z => by have := (nI_ltI ha hb).mp z; omega)
theorem lt_T {a b : Nat} (ha : a < 2 ^ 31) (hb : b < 2 ^ 31) (h : a < b) : (nI a < nI b) = True := eq_true ((nI_ltI ha hb).mpr h)
theorem le_E {a b : Nat} (ha : a < 2 ^ 31) (hb : b < 2 ^ 31) : (nI a ≤ nI b) = (a ≤ b) := propext (nI_leI ha hb)
theorem lt_E {a b : Nat} (ha : a < 2 ^ 31) (hb : b < 2 ^ 31) : (nI a < nI b) = (a < b) := propext (nI_ltI ha hb)
theorem eq_E {a b : Nat} (ha : a < 2 ^ 31) (hb : b < 2 ^ 31) : (nI a = nI b) = (a = b) := propext (nI_eq ha hb)
/-- what two naturals differ by -/
def pDi (x y : Nat) : Nat := if x ≤ y then y - x else x - y
theorem pAp_nI {x y : Nat} (hx : x < 2 ^ 31) (hy : y < 2 ^ 31) : pAp (nI x) (nI y) = nI (pDi x y) := by
  unfold pAp pDi
  by_cases h : x ≤ y
  · rw [if_pos ((nI_leI hx hy).mpr h), if_pos h, nI_sub h]
  · rw [if_neg (fun z => h ((nI_leI hx hy).mp z)), if_neg h, nI_sub (by omega)]
theorem pDi_r {x p : Nat} (h : p < x) : pDi x p = x - p := by unfold pDi; rw [if_neg (by omega)]
theorem pDi_l {x p : Nat} (h : x < p) : pDi x p = p - x := by unfold pDi; rw [if_pos (by omega)]
theorem pDi_lt {x y N : Nat} (hx : x < N) (hy : y < N) : pDi x y < N := by
  unfold pDi
  split <;> omega
/-- by a number: the peak at a place; the nearest kept one on a side; the first least between two places -/
def cNum (s : Nat → Nat) (n p : Nat) : Option Nat := pFd (fun k => decide (cP s n k = p)) (cM s n) 0
def pBsd (p : Nat) (rt : Bool) (q : Nat) : Bool := if rt = true then decide (p < q) else decide (q < p)
def pBs (P : Nat → Nat) (p : Nat) (rt : Bool) (k : Nat) (b : Option Nat) : Option Nat := if pBsd p rt (P k) = true then (match b with
    | none => some k
    | some j => if pDi (P j) p ≤ pDi (P k) p then some j else some k) else b
def cNb (s : Nat → Nat) (n z p : Nat) (rt : Bool) : Option Nat := pIt (pBs (cP s n) p rt) (cK s n z) 0 none
def pLo (s : Nat → Nat) (m b : Nat) : Nat := if s b ≤ s m then b else m
def cLow (s : Nat → Nat) (fr to : Nat) : Nat := pIt (pLo s) (to - (fr + 2)) (fr + 2) (fr + 1)
theorem pLo_I {s : Nat → Nat} {fr : Nat} : ∀ (c m b : Nat), fr + 1 ≤ b → b < m → fr + 1 ≤ pIt (pLo s) c m b ∧ pIt (pLo s) c m b < m + c := by
  intro c
  induction c with
  | zero => intro m b h1 h2; exact ⟨h1, by show b < m + 0; omega⟩
  | succ c ih =>
    intro m b h1 h2
    have : fr + 1 ≤ pLo s m b ∧ pLo s m b < m + 1 := by
      unfold pLo
      split <;> omega
    have := ih (m + 1) (pLo s m b) this.1 this.2
    refine ⟨this.1, ?_⟩
    have h := this.2
    show pIt (pLo s) c (m + 1) (pLo s m b) < m + (c + 1)
    omega
theorem cLow_b {s : Nat → Nat} {fr to : Nat} (h : fr < to) : fr + 1 ≤ cLow s fr to ∧ cLow s fr to ≤ to := by
  have := pLo_I (s := s) (fr := fr) (to - (fr + 2)) (fr + 2) (fr + 1) (by omega) (by omega)
  unfold cLow
  omega
section NB
variable {s : Nat → Nat} {n z p : Nat} {rt : Bool}
/-- what the nearest is -/
def pNbI (P : Nat → Nat) (p : Nat) (rt : Bool) (m : Nat) (b : Option Nat) : Prop := (b = none → ∀ k, k < m → pBsd p rt (P k) = false) ∧ ∀ j, b = some j → j < m ∧ pBsd p rt (P j) = true ∧ ∀ k, k < m → pBsd p rt (P k) = true → pDi (P j) p ≤ pDi (P k) p
theorem pNbI_s {P : Nat → Nat} {m : Nat} {b : Option Nat} (h : pNbI P p rt m b) : pNbI P p rt (m + 1) (pBs P p rt m b) := by
  obtain ⟨h1, h2⟩ := h
  unfold pBs
  by_cases c : pBsd p rt (P m) = true
  · rw [if_pos c]
    cases b with
    | none =>
      refine ⟨fun e => (by cases e), fun j e => ?_⟩
      cases e
      refine ⟨by omega, c, fun k hk hb => ?_⟩
      by_cases e : k = m
      · rw [e]; exact Nat.le_refl _
      · rw [h1 rfl k (by omega)] at hb; cases hb
    | some j =>
      obtain ⟨g1, g2, g3⟩ := h2 j rfl
      simp only []
      by_cases d : pDi (P j) p ≤ pDi (P m) p
      · rw [if_pos d]
        refine ⟨fun e => (by cases e), fun i e => ?_⟩
        cases e
        refine ⟨by omega, g2, fun k hk hb => ?_⟩
        by_cases e : k = m
        · rw [e]; exact d
        · exact g3 k (by omega) hb
      · rw [if_neg d]
        refine ⟨fun e => (by cases e), fun i e => ?_⟩
        cases e
        refine ⟨by omega, c, fun k hk hb => ?_⟩
        by_cases e : k = m
        · rw [e]; exact Nat.le_refl _
        · have := g3 k (by omega) hb
          omega
  · rw [if_neg c]
    refine ⟨fun e k hk => ?_, fun j e => ?_⟩
    · by_cases e2 : k = m
      · rw [e2]; exact Bool.eq_false_iff.mpr c
      · exact h1 e k (by omega)
    · obtain ⟨g1, g2, g3⟩ := h2 j e
      refine ⟨by omega, g2, fun k hk hb => ?_⟩
      by_cases e2 : k = m
      · rw [e2] at hb; exact absurd hb c
      · exact g3 k (by omega) hb
theorem cNb_I : pNbI (cP s n) p rt (cK s n z) (cNb s n z p rt) := pIt_I (I := pNbI (cP s n) p rt) (N := cK s n z) (fun m x _ h => pNbI_s h) (cK s n z) 0 none (by omega) ⟨fun _ k hk => by omega, fun j e => by cases e⟩
theorem cNb_one (h0 : 0 < n) {k : Nat} (hk : k < cK s n z) (hb : pBsd p rt (cP s n k) = true) (h : ∀ j, j < cK s n z → pBsd p rt (cP s n j) = true → pDi (cP s n k) p ≤ pDi (cP s n j) p) : cNb s n z p rt = some k := by
  obtain ⟨h1, h2⟩ := cNb_I (s := s) (n := n) (z := z) (p := p) (rt := rt)
  cases e : cNb s n z p rt with
  | none => rw [h1 e k hk] at hb; cases hb
  | some j =>
    obtain ⟨g1, g2, g3⟩ := h2 j e
    have d1 := g3 k hk hb
    have d2 := h j g1 g2
    by_cases e2 : j = k
    · rw [e2]
    · exfalso
      have hle := cK_le (s := s) (n := n) (z := z)
      have := cP_ne (s := s) h0 (show j < cM s n by omega) (show k < cM s n by omega) e2
      unfold pBsd at hb g2
      cases rt with
      | true =>
        simp only [if_true, decide_eq_true_eq] at hb g2
        rw [pDi_r hb, pDi_r g2] at d1 d2
        omega
      | false =>
        simp only [Bool.false_eq_true, if_false, decide_eq_true_eq] at hb g2
        rw [pDi_l hb, pDi_l g2] at d1 d2
        omega
theorem cNb_no {k : Nat} (h : ∀ k, k < cK s n z → pBsd p rt (cP s n k) = false) : cNb s n z p rt = none := by
  obtain ⟨h1, h2⟩ := cNb_I (s := s) (n := n) (z := z) (p := p) (rt := rt)
  cases e : cNb s n z p rt with
  | none => rfl
  | some j =>
    obtain ⟨g1, g2, g3⟩ := h2 j e
    rw [h j g1] at g2
    cases g2
end NB
/-- by a number: the basin's first and last place, what stands in it above the death, how wide it is -/
def cFi (s : Nat → Nat) (n z k : Nat) : Nat := match cNb s n z (cP s n k) false with
  | none => 0
  | some j => cLow s (cP s n j) (cP s n k)
def cLa (s : Nat → Nat) (n z k : Nat) : Nat := match cNb s n z (cP s n k) true with
  | none => n - 1
  | some j => cLow s (cP s n k) (cP s n j) - 1
def cAr (s : Nat → Nat) (n z k : Nat) : Nat := pIt (fun m x => x + (s m - cD s n k)) (cLa s n z k + 1 - cFi s n z k) (cFi s n z k) 0
def cHw (s : Nat → Nat) (n k : Nat) : Nat := s (cP s n k) - cL s n k / 2
def pCnt (b : Nat → Bool) : Nat → Nat → Nat
  | 0, _ => 0
  | c + 1, m => if b m = true then pCnt b c (m + 1) + 1 else 0
def cWi (s : Nat → Nat) (n k : Nat) : Nat := 1 + pCnt (fun j => decide (cHw s n k ≤ s (cP s n k - 1 - j))) (cP s n k) 0 + pCnt (fun j => decide (cHw s n k ≤ s j)) (n - (cP s n k + 1)) (cP s n k + 1)
def pGen (pa : Nat → Option Nat) : Nat → Nat → Nat
  | 0, _ => 0
  | f + 1, c => match pa c with
    | none => 0
    | some l => pGen pa f l + 1
def cGe (s : Nat → Nat) (n k : Nat) : Nat := pGen (cPa s n) 48 (cW s n k)
theorem pCnt_is {β : Type} {F : Nat → Nat → Nat → β} {b : Nat → Bool} {G : Nat → β} {N : Nat} (h1 : ∀ f m x, m < N → F (f + 1) m x = if b m = true then F f (m + 1) (x + 1) else G x) (h2 : ∀ f x, F (f + 1) N x = G x) : ∀ c f m x, m + c = N → c < f → F f m x = G (x + pCnt b c m) := by
  intro c
  induction c with
  | zero =>
    intro f m x hm hf
    obtain ⟨f, rfl⟩ : ∃ f', f = f' + 1 := ⟨f - 1, by omega⟩
    have e : m = N := by omega
    subst e
    rw [h2 f x]
    rfl
  | succ c ih =>
    intro f m x hm hf
    obtain ⟨f, rfl⟩ : ∃ f', f = f' + 1 := ⟨f - 1, by omega⟩
    rw [h1 f m x (by omega)]
    unfold pCnt
    by_cases e : b m = true
    · rw [if_pos e, if_pos e, ih f (m + 1) (x + 1) (by omega) (by omega)]
      congr 1
      omega
    · rw [if_neg e, if_neg e]
      rfl
theorem pCnt_le {b : Nat → Bool} : ∀ c m, pCnt b c m ≤ c := by
  intro c
  induction c with
  | zero => intro m; exact Nat.le_refl _
  | succ c ih =>
    intro m
    unfold pCnt
    split
    · have := ih (m + 1); omega
    · omega
theorem pGen_le {pa : Nat → Option Nat} : ∀ f c, pGen pa f c ≤ f := by
  intro f
  induction f with
  | zero => intro c; exact Nat.le_refl _
  | succ f ih =>
    intro c
    unfold pGen
    cases pa c with
    | none => exact Nat.zero_le _
    | some l => have := ih l; simp only []; omega
theorem cNb_lt {s : Nat → Nat} {n z p k : Nat} {rt : Bool} (h : cNb s n z p rt = some k) : k < cM s n ∧ pBsd p rt (cP s n k) = true := by
  obtain ⟨g1, g2, -⟩ := (cNb_I (s := s) (n := n) (z := z) (p := p) (rt := rt)).2 k h
  have := cK_le (s := s) (n := n) (z := z)
  exact ⟨by omega, g2⟩
theorem cFi_le {s : Nat → Nat} {n z k : Nat} (h0 : 0 < n) (hk : k < cM s n) : cFi s n z k ≤ cP s n k := by
  unfold cFi
  cases e : cNb s n z (cP s n k) false with
  | none => exact Nat.zero_le _
  | some j =>
    obtain ⟨g1, g2⟩ := cNb_lt e
    unfold pBsd at g2
    simp only [Bool.false_eq_true, if_false, decide_eq_true_eq] at g2
    exact (cLow_b (s := s) g2).2
theorem cLa_ge {s : Nat → Nat} {n z k : Nat} (h0 : 0 < n) (hk : k < cM s n) : cP s n k ≤ cLa s n z k ∧ cLa s n z k < n := by
  have hp := cP_lt (s := s) h0 hk
  unfold cLa
  cases e : cNb s n z (cP s n k) true with
  | none => simp only []; omega
  | some j =>
    obtain ⟨g1, g2⟩ := cNb_lt e
    have hj := cP_lt (s := s) h0 g1
    unfold pBsd at g2
    simp only [if_true, decide_eq_true_eq] at g2
    have := cLow_b (s := s) g2
    simp only []
    omega
