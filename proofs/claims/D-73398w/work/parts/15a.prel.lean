/-! the pure law: what component and model stand for -/
/-- samples, how many, the noise, how many notes, the notes -/
abbrev pT : Type := (Nat → Nat) × Nat × Nat × Nat × (Nat → Int32)
def wfT (T : pT) : Prop := 0 < T.2.1 ∧ T.2.1 ≤ 48 ∧ (∀ k, k < T.2.1 → T.1 k ≤ 999) ∧ T.2.2.1 ≤ 999 ∧ T.2.2.2.1 ≤ 60
/-- the lines' places, how many, the reach; how long their names are, their letters -/
abbrev pX : Type := (Nat → Nat) × Nat × Nat × (Nat → Nat) × (Nat → Nat → Nat)
def wfX (X : pX) : Prop := X.2.1 ≤ 8 ∧ (∀ l, l < X.2.1 → X.1 l ≤ 47) ∧ X.2.2.1 ≤ 9 ∧ ∀ l, l < X.2.1 → 1 ≤ X.2.2.2.1 l ∧ X.2.2.2.1 l ≤ 6 ∧ ∀ i, i < X.2.2.2.1 l → 1 ≤ X.2.2.2.2 l i ∧ X.2.2.2.2 l i ≤ 26
/-- tape; scripts; trace and what is now; image; what is held; what was refused -/
abbrev pA : Type := (Nat × (Nat → Nat)) × (Nat × (Nat → Nat × (Nat → Int32))) × (Option pX × pT) × (Bool × pT) × (Nat × (Nat → pT)) × Int32 × Int32
def aTl (A : pA) : Nat := A.1.1
def aTb (A : pA) : Nat → Nat := A.1.2
def aSm (A : pA) : Nat := A.2.1.1
def aSc (A : pA) : Nat → Nat × (Nat → Int32) := A.2.1.2
def aX (A : pA) : Option pX := A.2.2.1.1
def aT (A : pA) : pT := A.2.2.1.2
def aHi (A : pA) : Bool := A.2.2.2.1.1
def aIm (A : pA) : pT := A.2.2.2.1.2
def aU (A : pA) : Nat := A.2.2.2.2.1.1
def aHs (A : pA) : Nat → pT := A.2.2.2.2.1.2
def aR0 (A : pA) : Int32 := A.2.2.2.2.2.1
def aR1 (A : pA) : Int32 := A.2.2.2.2.2.2
def wfA (A : pA) : Prop := (aTl A ≤ 400 ∧ ∀ k, k < aTl A → 1 ≤ aTb A k ∧ aTb A k ≤ 255) ∧ (aSm A ≤ 4 ∧ ∀ j, j < aSm A → 1 ≤ (aSc A j).1 ∧ (aSc A j).1 ≤ 12 ∧ ∀ i, i < (aSc A j).1 → ∃ q, q < 10 ∧ (aSc A j).2 (3 * i) = nI q) ∧
  (aX A = none → aU A = 0 ∧ aHi A = false) ∧ (∀ X, aX A = some X → wfX X ∧ wfT (aT A)) ∧ (aHi A = true → wfT (aIm A)) ∧ aU A ≤ 40 ∧ ∀ j, j < aU A → wfT (aHs A j)
def pWord (n : Nat) (c : Nat → Nat) : Nat := pIt (fun i v => 27 * v + c i) n 0 0
/-! the component -/
def pStr (w : j_St) (q n : Nat) (c : Nat → Nat) : Prop := ∃ b, jgr w 15 q 0 = some b ∧ jgi w 15 q 1 = 0 ∧ jgn w 70 b = n ∧ (∀ i, i < n → jgi w 70 b i = nI (c i)) ∧ q < jgn w 115 0 ∧ b < jgn w 170 0
def pRS (w : j_St) (i : Nat) (T : pT) : Prop := pCn w (2 * i + 1) (sI T.1) T.2.1 ∧ jgi w 5 i 2 = nI T.2.2.1 ∧ jgi w 5 i 3 = nI T.2.2.2.1 ∧ ∀ k, k < 3 * T.2.2.2.1 → jgi w 33 i k = T.2.2.2.2 k
def pXc (w : j_St) (t : Nat) (X : pX) : Prop := pTr w t (sI X.1) X.2.1 (nI X.2.2.1) ∧ t < jgn w 106 0 ∧ ∀ l, l < X.2.1 → ∃ q, jgr w 34 t l = some q ∧ pStr w q (X.2.2.2.1 l) (fun i => 96 + X.2.2.2.2 l i)
def pSc (w : j_St) (q : Nat) (S : Nat × (Nat → Int32)) : Prop := q < jgn w 107 0 ∧ jgi w 7 q 2 = nI S.1 ∧ ∀ i, i < S.1 → jgi w 36 q i = S.2 (3 * i) ∧ jgi w 37 q (2 * i) = S.2 (3 * i + 1) ∧ jgi w 37 q (2 * i + 1) = S.2 (3 * i + 2)
def cTape (A : pA) (w : j_St) : Prop := jgi w 0 0 3 = nI (aTl A) ∧ ∀ k, k < aTl A → jgi w 20 0 k = (nI (aTb A k)).toInt8.toInt32
def cScr (A : pA) (w : j_St) : Prop := jgi w 0 0 6 = nI (aSm A) ∧ ∀ j, j < aSm A → ∃ q, jgr w 22 0 j = some q ∧ pSc w q (aSc A j)
def cTrc (A : pA) (w : j_St) : Prop := match aX A with
  | none => jgr w 0 0 7 = none
  | some X => (∃ t, jgr w 0 0 7 = some t ∧ pXc w t X) ∧ pRS w 0 (aT A)
def cImg (A : pA) (w : j_St) : Prop := jgi w 0 0 21 = pB (aHi A) ∧ (aHi A = true → pRS w 1 (aIm A))
def cUnd (A : pA) (w : j_St) : Prop := jgi w 0 0 18 = nI (aU A) ∧ ∃ ua, jgi w 0 0 19 = nI ua ∧ ua < 40 ∧ (∀ k b, k < 40 → jgr w 23 0 k = some b → 4 ≤ b ∧ b < jgn w 105 0 ∧ ∀ k', k' < 40 → jgr w 23 0 k' = some b → k' = k) ∧
  ∀ j, j < aU A → ∃ b, jgr w 23 0 ((ua + 39 - j) % 40) = some b ∧ pRS w b (aHs A j)
def cRef (A : pA) (w : j_St) : Prop := jgi w 21 0 0 = aR0 A ∧ jgi w 21 0 1 = aR1 A
def cLit (w : j_St) : Prop := ∃ xs L, (∀ κ i k, κ = 17 ∨ κ = 71 ∨ κ = 72 → jgi w κ i k = jgi (st_w xs L) κ i k ∧ jgr w κ i k = jgr (st_w xs L) κ i k) ∧ ∀ κ i, κ = 17 ∨ κ = 71 ∨ κ = 72 → jgn w κ i = jgn (st_w xs L) κ i
def RelC (A : pA) (w : j_St) : Prop := cTape A w ∧ cScr A w ∧ cTrc A w ∧ cImg A w ∧ cUnd A w ∧ cRef A w ∧ cLit w ∧ WfP 0 w ∧ WfP 1 w ∧ 4 ≤ jgn w 105 0
/-! the model -/
def pRR (w : j_St) (κ o : Nat) (T : pT) : Prop := jgi w κ 0 (o + 48) = nI T.2.1 ∧ jgi w κ 0 (o + 49) = nI T.2.2.1 ∧ jgi w κ 0 (o + 50) = nI T.2.2.2.1 ∧ (∀ k, k < T.2.1 → jgi w κ 0 (o + k) = nI (T.1 k)) ∧ ∀ k, k < 3 * T.2.2.2.1 → jgi w κ 0 (o + 51 + k) = T.2.2.2.2 k
def mTape (A : pA) (w : j_St) : Prop := jgi w 1 0 2 = nI (aTl A) ∧ ∀ k, k < aTl A → jgi w 40 0 k = nI (aTb A k)
def mScr (A : pA) (w : j_St) : Prop := jgi w 1 0 21 = nI (aSm A) ∧ ∀ j, j < aSm A → jgi w 46 0 j = nI (aSc A j).1 ∧ ∀ i, i < 3 * (aSc A j).1 → jgi w 45 0 (36 * j + i) = (aSc A j).2 i
def mTrc (A : pA) (w : j_St) : Prop := match aX A with
  | none => jgi w 1 0 29 = 0 ∧ jgi w 47 0 48 = 0 ∧ jgi w 47 0 50 = 0
  | some X => jgi w 1 0 29 = 1 ∧ pLn w (sI X.1) X.2.1 (nI X.2.2.1) ∧ (∀ l, l < X.2.1 → jgi w 50 0 l = nI (X.2.2.2.1 l) ∧ jgl w 51 0 l = lN (pWord (X.2.2.2.1 l) (X.2.2.2.2 l))) ∧ pRR w 47 0 (aT A)
def mImg (A : pA) (w : j_St) : Prop := jgi w 1 0 47 = pB (aHi A) ∧ (aHi A = true → pRR w 63 0 (aIm A))
def mUnd (A : pA) (w : j_St) : Prop := jgi w 1 0 44 = nI (aU A) ∧ ∀ j, j < aU A → pRR w 62 (231 * (aU A - 1 - j)) (aHs A j)
def mRef (A : pA) (w : j_St) : Prop := jgi w 48 0 0 = aR0 A ∧ jgi w 48 0 1 = aR1 A
def RelM (A : pA) (w : j_St) : Prop := mTape A w ∧ mScr A w ∧ mTrc A w ∧ mImg A w ∧ mUnd A w ∧ mRef A w ∧ WfA w
/-! what an act may touch -/
def KXC (κ i k : Nat) : Prop := κ = 0 ∨ (2 ≤ κ ∧ κ ≤ 37) ∨ 67 ≤ κ
def KXM (κ i k : Nat) : Prop := κ = 1 ∨ (40 ≤ κ ∧ κ ≤ 66)
/-- scratch of the peaks, of what is tried -/
def KS (κ i k : Nat) : Prop := (κ = 2 ∨ κ = 3 ∨ (27 ≤ κ ∧ κ ≤ 31)) ∨ ((κ = 4 ∨ κ = 32) ∧ (i = 0 ∨ i = 5 ∨ i = 7)) ∨ ((κ = 5 ∨ κ = 33) ∧ (i = 2 ∨ i = 3))
/-- cells that are new -/
def KN (w : j_St) (κ i : Nat) : Prop := ((κ = 5 ∨ κ = 33) ∧ jgn w 105 0 ≤ i) ∨ ((κ = 4 ∨ κ = 32) ∧ i % 2 = 1 ∧ 2 * jgn w 105 0 + 1 ≤ i) ∨ ((κ = 6 ∨ κ = 34 ∨ κ = 35) ∧ jgn w 106 0 ≤ i) ∨ ((κ = 7 ∨ κ = 36 ∨ κ = 37) ∧ jgn w 107 0 ≤ i) ∨ (κ = 15 ∧ jgn w 115 0 ≤ i) ∨ (κ = 70 ∧ jgn w 170 0 ≤ i)
def KQ (w : j_St) (κ i k : Nat) : Prop := KS κ i k ∨ (κ = 8 ∨ κ = 9 ∨ κ = 14 ∨ κ = 16 ∨ 100 ≤ κ ∨ (κ = 0 ∧ (k = 20 ∨ k = 8 ∨ k = 9)) ∨ ((κ = 4 ∨ κ = 32) ∧ i % 2 = 0)) ∨ KN w κ i
/-- counters only rise -/
def pRise (w w' : j_St) : Prop := jgn w 105 0 ≤ jgn w' 105 0 ∧ jgn w 106 0 ≤ jgn w' 106 0 ∧ jgn w 107 0 ≤ jgn w' 107 0 ∧ jgn w 115 0 ≤ jgn w' 115 0 ∧ jgn w 170 0 ≤ jgn w' 170 0
def KMQ (κ i k : Nat) : Prop := KA κ i k ∨ κ = 61 ∨ κ = 64 ∨ κ = 65 ∨ κ = 66 ∨ (41 ≤ κ ∧ κ ≤ 44) ∨ (κ = 1 ∧ (k = 0 ∨ (3 ≤ k ∧ k ≤ 18) ∨ k = 45 ∨ k = 51))
section SM
variable {w w' : j_St} {A : pA} {K : Nat → Nat → Nat → Prop}
theorem pCn.same {i1 : Nat} {a : Nat → Int32} {n : Nat} (h : pCn w i1 a n) (g : pSame K w w') (hK : ∀ k, ¬ K 4 i1 k ∧ ¬ K 32 i1 k) : pCn w' i1 a n := by
  obtain ⟨h1, h2, h3⟩ := h
  refine ⟨?_, fun k hk => ?_, h3⟩
  · rw [g.1 _ _ _ (hK 1).1]; exact h1
  · rw [g.1 _ _ _ (hK k).2]; exact h2 k hk
theorem pCP.same {i0 i1 n z : Nat} {s : Nat → Nat} (h : pCP w i0 i1 s n z) (g : pSame K w w') (hK : ∀ κ i k, κ = 2 ∨ κ = 3 ∨ κ = 27 → ¬ K κ i k) : pCP w' i0 i1 s n z := by
  obtain ⟨p1, p2, p3, p4, p5, p6⟩ := h
  refine ⟨?_, ?_, ?_, fun k hk => ?_, fun c hc => ?_, fun k hk => ?_⟩
  · rw [g.2.2.1 _ _ _ (hK _ _ _ (by omega))]; exact p1
  · rw [g.1 _ _ _ (hK _ _ _ (by omega))]; exact p2
  · rw [g.1 _ _ _ (hK _ _ _ (by omega))]; exact p3
  · rw [g.2.2.1 _ _ _ (hK _ _ _ (by omega))]; exact p4 k hk
  · rw [g.1 _ _ _ (hK 3 _ 0 (by omega)), g.1 _ _ _ (hK 3 _ 1 (by omega)), g.1 _ _ _ (hK 3 _ 2 (by omega)), g.1 _ _ _ (hK 3 _ 3 (by omega)), g.2.2.1 _ _ _ (hK 3 _ 5 (by omega))]; exact p5 c hc
  · rw [g.1 _ _ _ (hK 3 _ 6 (by omega))]; exact p6 k hk
theorem pTr.same {t ln : Nat} {lp : Nat → Int32} {rc : Int32} (h : pTr w t lp ln rc) (g : pSame K w w') (hK : ∀ k, ¬ K 6 t k ∧ ¬ K 35 t k) : pTr w' t lp ln rc := by
  obtain ⟨h1, h2, h3, h4, h5⟩ := h
  refine ⟨?_, ?_, fun l hl => ?_, h4, h5⟩
  · rw [g.1 _ _ _ (hK 3).1]; exact h1
  · rw [g.1 _ _ _ (hK 5).1]; exact h2
  · rw [g.1 _ _ _ (hK l).2]; exact h3 l hl
theorem pRS.same {i : Nat} {T : pT} (h : pRS w i T) (g : pSame K w w') (hK : ∀ k, ¬ K 4 (2 * i + 1) k ∧ ¬ K 32 (2 * i + 1) k ∧ ¬ K 5 i k ∧ ¬ K 33 i k) : pRS w' i T := by
  obtain ⟨h1, h2, h3, h4⟩ := h
  refine ⟨h1.same g (fun k => ⟨(hK k).1, (hK k).2.1⟩), ?_, ?_, fun k hk => ?_⟩
  · rw [g.1 _ _ _ (hK 2).2.2.1]; exact h2
  · rw [g.1 _ _ _ (hK 3).2.2.1]; exact h3
  · rw [g.1 _ _ _ (hK k).2.2.2]; exact h4 k hk
theorem pStr.same {q n : Nat} {c : Nat → Nat} (h : pStr w q n c) (g : pSame (KQ w) w w') (r : pRise w w') : pStr w' q n c := by
  obtain ⟨b, h1, h2, h3, h4, h5, h6⟩ := h
  refine ⟨b, ?_, ?_, ?_, fun i hi => ?_, by have := r.2.2.2.1; omega, by have := r.2.2.2.2; omega⟩
  · rw [g.2.2.1 _ _ _ (by unfold KQ KS KN; omega)]; exact h1
  · rw [g.1 _ _ _ (by unfold KQ KS KN; omega)]; exact h2
  · rw [g.2.2.2 _ _ (by unfold KQ KS KN; omega)]; exact h3
  · rw [g.1 _ _ _ (by unfold KQ KS KN; omega)]; exact h4 i hi
theorem pXc.same {t : Nat} {X : pX} (h : pXc w t X) (g : pSame (KQ w) w w') (r : pRise w w') : pXc w' t X := by
  obtain ⟨h1, h2, h3⟩ := h
  refine ⟨h1.same g (fun k => ⟨by unfold KQ KS KN; omega, by unfold KQ KS KN; omega⟩), by have := r.2.1; omega, fun l hl => ?_⟩
  obtain ⟨q, a1, a2⟩ := h3 l hl
  refine ⟨q, ?_, a2.same g r⟩
  rw [g.2.2.1 _ _ _ (by unfold KQ KS KN; omega)]; exact a1
theorem pSc.same {q : Nat} {S : Nat × (Nat → Int32)} (h : pSc w q S) (g : pSame (KQ w) w w') (r : pRise w w') : pSc w' q S := by
  obtain ⟨h1, h2, h3⟩ := h
  refine ⟨by have := r.2.2.1; omega, ?_, fun i hi => ?_⟩
  · rw [g.1 _ _ _ (by unfold KQ KS KN; omega)]; exact h2
  · rw [g.1 36 _ _ (by unfold KQ KS KN; omega), g.1 37 _ _ (by unfold KQ KS KN; omega), g.1 37 _ _ (by unfold KQ KS KN; omega)]; exact h3 i hi
theorem cLit.same (h : cLit w) (g : pSame K w w') (hK : ∀ κ i k, κ = 17 ∨ κ = 71 ∨ κ = 72 → ¬ K κ i k) : cLit w' := by
  obtain ⟨xs, L, h1, h2⟩ := h
  refine ⟨xs, L, fun κ i k hk => ?_, fun κ i hk => ?_⟩
  · rw [g.1 _ _ _ (hK _ _ _ hk), g.2.2.1 _ _ _ (hK _ _ _ hk)]; exact h1 κ i k hk
  · rw [g.2.2.2 _ _ (hK _ _ _ hk)]; exact h2 κ i hk
theorem RelC.same (h : RelC A w) (g : pSame (KQ w) w w') (r : pRise w w') (p0 : WfP 0 w') (p1 : WfP 1 w') : RelC A w' := by
  obtain ⟨h1, h2, h3, h4, h5, h6, h7, -, -, h10⟩ := h
  refine ⟨⟨?_, fun k hk => ?_⟩, ⟨?_, fun j hj => ?_⟩, ?_, ⟨?_, fun e => ?_⟩, ?_, ⟨?_, ?_⟩, h7.same g (fun κ i k hk => by unfold KQ KS KN; omega), p0, p1, by have := r.1; omega⟩
  · rw [g.1 _ _ _ (by unfold KQ KS KN; omega)]; exact h1.1
  · rw [g.1 _ _ _ (by unfold KQ KS KN; omega)]; exact h1.2 k hk
  · rw [g.1 _ _ _ (by unfold KQ KS KN; omega)]; exact h2.1
  · obtain ⟨q, a1, a2⟩ := h2.2 j hj
    refine ⟨q, ?_, a2.same g r⟩
    rw [g.2.2.1 _ _ _ (by unfold KQ KS KN; omega)]; exact a1
  · unfold cTrc at h3 ⊢
    cases e : aX A with
    | none =>
      rw [e] at h3
      simp only [] at h3 ⊢
      rw [g.2.2.1 _ _ _ (by unfold KQ KS KN; omega)]; exact h3
    | some X =>
      rw [e] at h3
      obtain ⟨⟨t, a1, a2⟩, a3⟩ := h3
      refine ⟨⟨t, ?_, a2.same g r⟩, a3.same g (fun k => ⟨by unfold KQ KS KN; omega, by unfold KQ KS KN; omega, by unfold KQ KS KN; omega, by unfold KQ KS KN; omega⟩)⟩
      rw [g.2.2.1 _ _ _ (by unfold KQ KS KN; omega)]; exact a1
  · rw [g.1 _ _ _ (by unfold KQ KS KN; omega)]; exact h4.1
  · exact (h4.2 e).same g (fun k => ⟨by unfold KQ KS KN; omega, by unfold KQ KS KN; omega, by unfold KQ KS KN; omega, by unfold KQ KS KN; omega⟩)
  · obtain ⟨a1, ua, a2, a3, a4, a5⟩ := h5
    have rd : ∀ k, jgr w' 23 0 k = jgr w 23 0 k := fun k => g.2.2.1 _ _ _ (by unfold KQ KS KN; omega)
    refine ⟨by rw [g.1 _ _ _ (by unfold KQ KS KN; omega)]; exact a1, ua, by rw [g.1 _ _ _ (by unfold KQ KS KN; omega)]; exact a2, a3, fun k b hk e => ?_, fun j hj => ?_⟩
    · rw [rd] at e
      obtain ⟨b1, b2, b3⟩ := a4 k b hk e
      exact ⟨b1, by have := r.1; omega, fun k' hk' e' => b3 k' hk' (by rw [← rd]; exact e')⟩
    · obtain ⟨b, b1, b2⟩ := a5 j hj
      obtain ⟨c1, c2, -⟩ := a4 _ b (Nat.mod_lt _ (by decide)) b1
      refine ⟨b, by rw [rd]; exact b1, b2.same g (fun k => ⟨by unfold KQ KS KN; omega, by unfold KQ KS KN; omega, by unfold KQ KS KN; omega, by unfold KQ KS KN; omega⟩)⟩
  · rw [g.1 _ _ _ (by unfold KQ KS KN; omega)]; exact h6.1
  · rw [g.1 _ _ _ (by unfold KQ KS KN; omega)]; exact h6.2
theorem pRR.same {κ o : Nat} {T : pT} (h : pRR w κ o T) (g : pSame K w w') (hK : ∀ k, ¬ K κ 0 k) : pRR w' κ o T := by
  obtain ⟨h1, h2, h3, h4, h5⟩ := h
  refine ⟨?_, ?_, ?_, fun k hk => ?_, fun k hk => ?_⟩
  · rw [g.1 _ _ _ (hK _)]; exact h1
  · rw [g.1 _ _ _ (hK _)]; exact h2
  · rw [g.1 _ _ _ (hK _)]; exact h3
  · rw [g.1 _ _ _ (hK _)]; exact h4 k hk
  · rw [g.1 _ _ _ (hK _)]; exact h5 k hk
theorem pLn.same {lp : Nat → Int32} {ln : Nat} {rc : Int32} (h : pLn w lp ln rc) (g : pSame K w w') (hK : ∀ k, ¬ K 49 0 k) (hK2 : ¬ K 1 0 27 ∧ ¬ K 1 0 28) : pLn w' lp ln rc := by
  obtain ⟨h1, h2, h3, h4⟩ := h
  refine ⟨?_, ?_, fun l hl => ?_, h4⟩
  · rw [g.1 _ _ _ hK2.1]; exact h1
  · rw [g.1 _ _ _ hK2.2]; exact h2
  · rw [g.1 _ _ _ (hK l)]; exact h3 l hl
theorem RelM.same (h : RelM A w) (g : pSame K w w') (hK : ∀ κ i k, K κ i k → KMQ κ i k ∨ KXC κ i k) (p0 : WfA w') : RelM A w' := by
  obtain ⟨h1, h2, h3, h4, h5, h6, h7⟩ := h
  have nK : ∀ κ i k, ¬ (KMQ κ i k ∨ KXC κ i k) → ¬ K κ i k := fun κ i k h z => h (hK κ i k z)
  have r45 : ∀ k, jgi w' 45 0 k = jgi w 45 0 k := fun k => g.1 _ _ _ (nK _ _ _ (by unfold KMQ KA KXC; omega))
  have r46 : ∀ k, jgi w' 46 0 k = jgi w 46 0 k := fun k => g.1 _ _ _ (nK _ _ _ (by unfold KMQ KA KXC; omega))
  have r50 : ∀ k, jgi w' 50 0 k = jgi w 50 0 k := fun k => g.1 _ _ _ (nK _ _ _ (by unfold KMQ KA KXC; omega))
  have r51 : ∀ k, jgl w' 51 0 k = jgl w 51 0 k := fun k => g.2.1 _ _ _ (nK _ _ _ (by unfold KMQ KA KXC; omega))
  refine ⟨⟨?_, fun k hk => ?_⟩, ⟨?_, fun j hj => ?_⟩, ?_, ⟨?_, fun e => ?_⟩, ⟨?_, fun j hj => ?_⟩, ⟨?_, ?_⟩, p0⟩
  · rw [g.1 _ _ _ (nK _ _ _ (by unfold KMQ KA KXC; omega))]; exact h1.1
  · rw [g.1 _ _ _ (nK _ _ _ (by unfold KMQ KA KXC; omega))]; exact h1.2 k hk
  · rw [g.1 _ _ _ (nK _ _ _ (by unfold KMQ KA KXC; omega))]; exact h2.1
  · obtain ⟨a1, a2⟩ := h2.2 j hj
    exact ⟨by rw [r46]; exact a1, fun i hi => by rw [r45]; exact a2 i hi⟩
  · unfold mTrc at h3 ⊢
    cases e : aX A with
    | none =>
      rw [e] at h3
      simp only [] at h3 ⊢
      rw [g.1 1 _ _ (nK _ _ _ (by unfold KMQ KA KXC; omega)), g.1 47 _ 48 (nK _ _ _ (by unfold KMQ KA KXC; omega)), g.1 47 _ 50 (nK _ _ _ (by unfold KMQ KA KXC; omega))]; exact h3
    | some X =>
      rw [e] at h3
      obtain ⟨a1, a2, a3, a4⟩ := h3
      refine ⟨?_, a2.same g (fun k => nK _ _ _ (by unfold KMQ KA KXC; omega)) ⟨nK _ _ _ (by unfold KMQ KA KXC; omega), nK _ _ _ (by unfold KMQ KA KXC; omega)⟩, fun l hl => by rw [r50, r51]; exact a3 l hl, a4.same g (fun k => nK _ _ _ (by unfold KMQ KA KXC; omega))⟩
      rw [g.1 1 _ _ (nK _ _ _ (by unfold KMQ KA KXC; omega))]; exact a1
  · rw [g.1 _ _ _ (nK _ _ _ (by unfold KMQ KA KXC; omega))]; exact h4.1
  · exact (h4.2 e).same g (fun k => nK _ _ _ (by unfold KMQ KA KXC; omega))
  · rw [g.1 _ _ _ (nK _ _ _ (by unfold KMQ KA KXC; omega))]; exact h5.1
  · exact (h5.2 j hj).same g (fun k => nK _ _ _ (by unfold KMQ KA KXC; omega))
  · rw [g.1 _ _ _ (nK _ _ _ (by unfold KMQ KA KXC; omega))]; exact h6.1
  · rw [g.1 _ _ _ (nK _ _ _ (by unfold KMQ KA KXC; omega))]; exact h6.2
end SM
