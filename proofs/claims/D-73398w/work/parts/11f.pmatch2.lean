/-! the pure law: the model's lines are matched -/
/-- what two differ by -/
def pAp (x y : Int32) : Int32 := if x ≤ y then y - x else x - y
/-- the lines of the trace, as the model has them: their places, how many, the reach -/
def pLn (w : j_St) (lp : Nat → Int32) (ln : Nat) (rc : Int32) : Prop := jgi w 1 0 27 = nI ln ∧ jgi w 1 0 28 = rc ∧ (∀ l, l < ln → jgi w 49 0 l = lp l) ∧ ln ≤ 8
def pNc (lp : Nat → Int32) (rc x : Int32) (tk : Nat → Option Nat) (l : Nat) (best : Option Nat) : Bool := decide (tk l = none) && !decide (rc < pAp (lp l) x) && (match best with
    | none => true
    | some b => !decide (pAp (lp b) x ≤ pAp (lp l) x))
def pNs (lp : Nat → Int32) (rc x : Int32) (tk : Nat → Option Nat) (l : Nat) (best : Option Nat) : Option Nat := if pNc lp rc x tk l best = true then some l else best
def pNr (lp : Nat → Int32) (rc x : Int32) (tk : Nat → Option Nat) : Nat → Nat → Option Nat → Option Nat
  | 0, _, b => b
  | c + 1, l, b => pNr lp rc x tk c (l + 1) (pNs lp rc x tk l b)
section PX
variable {w : j_St} {S : pS} {N : pN} {M : pM} {a : Nat → Int32} {n : Nat} {z : Int32} {lp : Nat → Int32} {ln : Nat} {rc by_ : Int32} {tk lo : Nat → Option Nat} {tn : Nat}
theorem mkA_Ln : pLn (mkA w S N M) lp ln rc ↔ pLn w lp ln rc := Iff.rfl
theorem sp_apart (x y : Int32) : f_X9_apart x y w = some (pAp x y, w) := by
  unfold f_X9_apart pAp
  by_cases h : x ≤ y
  · rw [if_pos h, if_pos h]
  · rw [if_neg h, if_neg h]
theorem sp_placeOf {k : Nat} (hk : k < 48) (hw : N.1 k < 48) : f_X9_placeOf (nI k) (mkA w S N M) = some (nI (S.1 (N.1 k)), mkA w S N M) := by
  simp (disch := omega) only [f_X9_placeOf, jbd_nI, jlt_eq, mkA_57, mkA_52]
theorem pNs_lt {l : Nat} {b : Option Nat} {x : Int32} (hl : l < ln) (hb : ∀ c, b = some c → c < ln) : ∀ c, pNs lp rc x tk l b = some c → c < ln := fun c e => by
  unfold pNs at e
  split at e
  · cases e; exact hl
  · exact hb c e
theorem sp_matches_s (hL : pLn w lp ln rc) {k : Nat} (hk : k < 48) (hw : N.1 k < 48) (hkp : k < N.2.2) (hkn : N.2.2 ≤ 48) (ht : ∀ q, pSm (tk q)) {kk : j_St → Option (Unit × j_St)} {f l : Nat} {b : Option Nat} (hl : l < ln) (hb : ∀ c, b = some c → c < ln) :
    f_X9_matches_L45 by_ (nI k) kk (f + 1) (nI l) (mkA w S N (up lo k b, tk, tn)) = f_X9_matches_L45 by_ (nI k) kk f (nI (l + 1)) (mkA w S N (up lo k (pNs lp rc (nI (S.1 (N.1 k)) + by_) tk l b), tk, tn)) := by
  obtain ⟨h1, h2, h3, h4⟩ := hL
  have e1 := pOI_m1 (ht l)
  have hbs : pSm b := fun c e => by have := hb c e; omega
  have e2 := pOI_m1 hbs
  have p1 := sp_placeOf (w := w) (S := S) (N := N) (M := (up lo k b, tk, tn)) hk hw
  have s1 : ∀ v, jsi (mkA w S N (up lo k b, tk, tn)) 59 0 k (pOI v) = mkA w S N (up lo k v, tk, tn) := fun v => by
    rw [mkA_s59]
    have : up (up lo k b) k v = up lo k v := by
      funext j
      unfold up
      by_cases e : j = k
      · rw [if_pos e, if_pos e]
      · rw [if_neg e, if_neg e, if_neg e]
    show mkA w S N (up (up lo k b) k v, tk, tn) = _
    rw [this]
  have s2 : jsi (mkA w S N (up lo k b, tk, tn)) 59 0 k (nI l) = mkA w S N (up lo k (some l), tk, tn) := s1 (some l)
  have g0 : jgi (mkA w S N (up lo k b, tk, tn)) 59 0 k = pOI b := by rw [mkA_59]; show pOI (up lo k b k) = _; rw [up_same]
  have g1 : jgi (mkA w S N (up lo k b, tk, tn)) 49 0 l = lp l := h3 l hl
  have n1 : ¬ nI ln ≤ nI l := fun z => absurd ((nI_leI (by omega) (by omega)).mp z) (by omega)
  have n2 : ¬ nI N.2.2 ≤ nI k := fun z => absurd ((nI_leI (by omega) (by omega)).mp z) (by omega)
  have g27 : jgi (mkA w S N (up lo k b, tk, tn)) 1 0 27 = nI ln := h1
  have g28 : jgi (mkA w S N (up lo k b, tk, tn)) 1 0 28 = rc := h2
  have g60 : jgi (mkA w S N (up lo k b, tk, tn)) 60 0 l = pOI (tk l) := rfl
  generalize hX : nI (S.1 (N.1 k)) + by_ = X
  rw [f_X9_matches_L45]
  have one0 : ((1 : Int32) = 0) = False := eq_false (by decide)
  by_cases t1 : tk l = none
  · have c1 : (pOI (tk l) = -1) = True := by rw [e1]; exact eq_true t1
    by_cases t2 : rc < pAp (lp l) X
    · cases b with
      | none =>
        have c2 : (pOI none = -1) = True := eq_true rfl
        have cc : pNc lp rc X tk l none = false := by simp [pNc, t1, t2]
        simp (disch := omega) only [↓jlt_eq, g27, n1, n2, mkA_k, if_false, if_true, jbd_nI, g60, g28, g0, g1, p1, jcb_some', hX, sp_apart, s1, s2, nI_1, c1, c2, t2, one0, pNs, cc, Bool.false_eq_true]
      | some b =>
        have c2 : (pOI (some b) = -1) = False := eq_false (nI_ne1 (by have := hb b rfl; omega))
        have g2 : jgi (mkA w S N (up lo k (some b), tk, tn)) 49 0 b = lp b := h3 b (hb b rfl)
        have jb : ∀ {β : Type} (f : Nat → Option β), jbd (pOI (some b)) 8 f = f b := fun f => jbd_nI (by have := hb b rfl; omega) (by decide)
        by_cases t3 : pAp (lp b) X ≤ pAp (lp l) X
        · have cc : pNc lp rc X tk l (some b) = false := by simp [pNc, t1, t2, t3]
          simp (disch := omega) only [↓jlt_eq, g27, n1, n2, mkA_k, if_false, if_true, jbd_nI, g60, g28, g0, g1, p1, jcb_some', hX, sp_apart, s1, s2, nI_1, c1, c2, t2, t3, jb, g2, one0, pNs, cc, Bool.false_eq_true]
        · have cc : pNc lp rc X tk l (some b) = false := by simp [pNc, t1, t2, t3]
          simp (disch := omega) only [↓jlt_eq, g27, n1, n2, mkA_k, if_false, if_true, jbd_nI, g60, g28, g0, g1, p1, jcb_some', hX, sp_apart, s1, s2, nI_1, c1, c2, t2, t3, jb, g2, one0, pNs, cc, Bool.false_eq_true]
    · cases b with
      | none =>
        have c2 : (pOI none = -1) = True := eq_true rfl
        have cc : pNc lp rc X tk l none = true := by simp [pNc, t1, t2]
        simp (disch := omega) only [↓jlt_eq, g27, n1, n2, mkA_k, if_false, if_true, jbd_nI, g60, g28, g0, g1, p1, jcb_some', hX, sp_apart, s1, s2, nI_1, c1, c2, t2, one0, pNs, cc, Bool.false_eq_true]
      | some b =>
        have c2 : (pOI (some b) = -1) = False := eq_false (nI_ne1 (by have := hb b rfl; omega))
        have g2 : jgi (mkA w S N (up lo k (some b), tk, tn)) 49 0 b = lp b := h3 b (hb b rfl)
        have jb : ∀ {β : Type} (f : Nat → Option β), jbd (pOI (some b)) 8 f = f b := fun f => jbd_nI (by have := hb b rfl; omega) (by decide)
        by_cases t3 : pAp (lp b) X ≤ pAp (lp l) X
        · have cc : pNc lp rc X tk l (some b) = false := by simp [pNc, t1, t2, t3]
          simp (disch := omega) only [↓jlt_eq, g27, n1, n2, mkA_k, if_false, if_true, jbd_nI, g60, g28, g0, g1, p1, jcb_some', hX, sp_apart, s1, s2, nI_1, c1, c2, t2, t3, jb, g2, one0, pNs, cc, Bool.false_eq_true]
        · have cc : pNc lp rc X tk l (some b) = true := by simp [pNc, t1, t2, t3]
          simp (disch := omega) only [↓jlt_eq, g27, n1, n2, mkA_k, if_false, if_true, jbd_nI, g60, g28, g0, g1, p1, jcb_some', hX, sp_apart, s1, s2, nI_1, c1, c2, t2, t3, jb, g2, one0, pNs, cc, Bool.false_eq_true]
  · have c1 : (pOI (tk l) = -1) = False := by rw [e1]; exact eq_false t1
    cases b with
    | none =>
      have c2 : (pOI none = -1) = True := eq_true rfl
      have cc : pNc lp rc X tk l none = false := by simp [pNc, t1]
      simp (disch := omega) only [↓jlt_eq, g27, n1, n2, mkA_k, if_false, if_true, jbd_nI, g60, g28, g0, g1, p1, jcb_some', hX, sp_apart, s1, s2, nI_1, c1, c2, if_false, one0, pNs, cc, Bool.false_eq_true]
    | some b =>
      have c2 : (pOI (some b) = -1) = False := eq_false (nI_ne1 (by have := hb b rfl; omega))
      have g2 : jgi (mkA w S N (up lo k (some b), tk, tn)) 49 0 b = lp b := h3 b (hb b rfl)
      have jb : ∀ {β : Type} (f : Nat → Option β), jbd (pOI (some b)) 8 f = f b := fun f => jbd_nI (by have := hb b rfl; omega) (by decide)
      by_cases t3 : pAp (lp b) X ≤ pAp (lp l) X
      · have cc : pNc lp rc X tk l (some b) = false := by simp [pNc, t1, t3]
        simp (disch := omega) only [↓jlt_eq, g27, n1, n2, mkA_k, if_false, if_true, jbd_nI, g60, g28, g0, g1, p1, jcb_some', hX, sp_apart, s1, s2, nI_1, c1, c2, t3, jb, g2, one0, pNs, cc, Bool.false_eq_true]
      · have cc : pNc lp rc X tk l (some b) = false := by simp [pNc, t1, t3]
        simp (disch := omega) only [↓jlt_eq, g27, n1, n2, mkA_k, if_false, if_true, jbd_nI, g60, g28, g0, g1, p1, jcb_some', hX, sp_apart, s1, s2, nI_1, c1, c2, t3, jb, g2, one0, pNs, cc, Bool.false_eq_true]
end PX
