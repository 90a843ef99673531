/-! the pure law: the tape is scanned; the model's next word -/
section SCAN
variable {w w' : j_St} {P : pP} {g : Nat → Bool}
def gS (b : Nat) : Bool := b == 32
def gL (b : Nat) : Bool := Nat.ble 97 b && Nat.ble b 122
def gD (b : Nat) : Bool := Nat.ble 48 b && Nat.ble b 57
def te (g : Nat → Bool) (P : pP) : Nat → Nat → Nat
  | 0, p => p
  | c + 1, p => if p < P.1 ∧ g (P.2 p) = true then te g P c (p + 1) else p
/-- where a run of such bytes ends -/
def tE (g : Nat → Bool) (P : pP) (p : Nat) : Nat := te g P (P.1 - p) p
theorem tE_T {p : Nat} (h : p < P.1) (hg : g (P.2 p) = true) : tE g P p = tE g P (p + 1) := by
  unfold tE
  rw [show P.1 - p = (P.1 - (p + 1)) + 1 by omega, te, if_pos ⟨h, hg⟩]
theorem tE_F {p : Nat} (h : ¬ (p < P.1 ∧ g (P.2 p) = true)) : tE g P p = p := by
  unfold tE
  cases P.1 - p with
  | zero => rfl
  | succ c => rw [te, if_neg h]
theorem tE_ind {motive : Nat → Prop} (h1 : ∀ p, p < P.1 → g (P.2 p) = true → motive (p + 1) → motive p) (h2 : ∀ p, ¬ (p < P.1 ∧ g (P.2 p) = true) → motive p) : ∀ p, motive p := by
  have key : ∀ c p, P.1 - p = c → motive p := by
    intro c
    induction c with
    | zero => exact fun p hp => h2 p (fun z => by have := z.1; omega)
    | succ c ih =>
      intro p hp
      by_cases hg : g (P.2 p) = true
      · exact h1 p (by omega) hg (ih (p + 1) (by omega))
      · exact h2 p (fun z => hg z.2)
  exact fun p => key _ p rfl
theorem tE_ge (p : Nat) : p ≤ tE g P p := by
  refine tE_ind (P := P) (g := g) (motive := fun p => p ≤ tE g P p) (fun p h hg ih => ?_) (fun p h => ?_) p
  · rw [tE_T h hg]; omega
  · rw [tE_F h]; exact Nat.le_refl _
theorem tE_le {p : Nat} : p ≤ P.1 → tE g P p ≤ P.1 := by
  refine tE_ind (P := P) (g := g) (motive := fun p => p ≤ P.1 → tE g P p ≤ P.1) (fun p h hg ih => ?_) (fun p h => ?_) p
  · rw [tE_T h hg]; exact fun _ => ih h
  · rw [tE_F h]; exact fun h => h
theorem tE_stop (p : Nat) : ¬ (tE g P p < P.1 ∧ g (P.2 (tE g P p)) = true) := by
  refine tE_ind (P := P) (g := g) (motive := fun p => ¬ (tE g P p < P.1 ∧ g (P.2 (tE g P p)) = true)) (fun p h hg ih => ?_) (fun p h => ?_) p
  · rw [tE_T h hg]; exact ih
  · rw [tE_F h]; exact h
theorem tE_in {p q : Nat} : p ≤ q → q < tE g P p → q < P.1 ∧ g (P.2 q) = true := by
  refine tE_ind (P := P) (g := g) (motive := fun p => p ≤ q → q < tE g P p → q < P.1 ∧ g (P.2 q) = true) (fun p h hg ih => ?_) (fun p h => ?_) p
  · rw [tE_T h hg]
    intro a b
    rcases Nat.lt_or_ge p q with c | c
    · exact ih (by omega) b
    · have : p = q := by omega
      subst this
      exact ⟨h, hg⟩
  · rw [tE_F h]; intro a b; omega
/-! the model's tape -/
def TpM (P : pP) (w : j_St) : Prop := jgi w 1 0 2 = nI P.1 ∧ (∀ k, k < P.1 → jgi w 40 0 k = nI (P.2 k)) ∧ P.1 ≤ 400 ∧ ∀ k, k < P.1 → 1 ≤ P.2 k ∧ P.2 k ≤ 255
def KTk (κ i k : Nat) : Prop := κ = 1 ∧ i = 0 ∧ ((3 ≤ k ∧ k ≤ 7) ∨ k = 9 ∨ k = 10)
theorem TpM.same {K : Nat → Nat → Nat → Prop} (h : TpM P w) (s : pSame K w w') (hK : ¬ K 1 0 2 ∧ ∀ k, ¬ K 40 0 k) : TpM P w' := by
  obtain ⟨h1, h2, h3⟩ := h
  exact ⟨by rw [s.1 _ _ _ hK.1]; exact h1, fun k hk => by rw [s.1 _ _ _ (hK.2 k)]; exact h2 k hk, h3⟩
theorem TpM.tk (h : TpM P w) (s : pSame KTk w w') : TpM P w' := h.same s ⟨by unfold KTk; omega, fun k => by unfold KTk; omega⟩
/-- what stands there -/
def bt (P : pP) (p : Nat) : Int32 := if p < P.1 then nI (P.2 p) else -1
theorem m_here (h : TpM P w) {p : Nat} (hp : jgi w 1 0 3 = nI p) (h4 : p ≤ 400) : f_X9_here w = some (bt P p, w) := by
  obtain ⟨h1, h2, h3, -⟩ := h
  unfold bt
  rw [f_X9_here, jlt_eq, hp, jlt_eq, h1]
  by_cases c : p < P.1
  · rw [if_neg (fun z => by have := (nI_leI (a := P.1) (b := p) (by omega) (by omega)).mp z; omega), if_pos c, jlt_eq, jbd_nI (by omega) (by decide), jlt_eq, h2 p c]
  · rw [if_pos ((nI_leI (a := P.1) (b := p) (by omega) (by omega)).mpr (by omega)), if_neg c]
theorem m_isL (h : TpM P w) {p : Nat} : f_X9_isLetter (bt P p) w = some (if p < P.1 ∧ gL (P.2 p) = true then 1 else 0, w) := by
  unfold bt
  rw [f_X9_isLetter]
  by_cases c : p < P.1
  · have := h.2.2.2 p c
    rw [if_pos c]
    unfold gL
    by_cases a : P.2 p < 97
    · rw [if_pos (show nI (P.2 p) < (97 : Int32) from (nI_ltI (b := 97) (by omega) (by omega)).mpr a), if_neg (by rw [Bool.and_eq_true, Nat.ble_eq, Nat.ble_eq]; omega)]
    · rw [if_neg (show ¬ nI (P.2 p) < (97 : Int32) from fun z => a ((nI_ltI (b := 97) (by omega) (by omega)).mp z))]
      by_cases b : 122 < P.2 p
      · rw [if_pos (show (122 : Int32) < nI (P.2 p) from (nI_ltI (a := 122) (by omega) (by omega)).mpr b), if_neg (by rw [Bool.and_eq_true, Nat.ble_eq, Nat.ble_eq]; omega)]
      · rw [if_neg (show ¬ (122 : Int32) < nI (P.2 p) from fun z => b ((nI_ltI (a := 122) (by omega) (by omega)).mp z)), if_pos ⟨c, by rw [Bool.and_eq_true, Nat.ble_eq, Nat.ble_eq]; omega⟩]
  · rw [if_neg c, if_pos (by decide), if_neg (fun z => c z.1)]
theorem m_isD (h : TpM P w) {p : Nat} : f_X9_isDigit (bt P p) w = some (if p < P.1 ∧ gD (P.2 p) = true then 1 else 0, w) := by
  unfold bt
  rw [f_X9_isDigit]
  by_cases c : p < P.1
  · have := h.2.2.2 p c
    rw [if_pos c]
    unfold gD
    by_cases a : P.2 p < 48
    · rw [if_pos (show nI (P.2 p) < (48 : Int32) from (nI_ltI (b := 48) (by omega) (by omega)).mpr a), if_neg (by rw [Bool.and_eq_true, Nat.ble_eq, Nat.ble_eq]; omega)]
    · rw [if_neg (show ¬ nI (P.2 p) < (48 : Int32) from fun z => a ((nI_ltI (b := 48) (by omega) (by omega)).mp z))]
      by_cases b : 57 < P.2 p
      · rw [if_pos (show (57 : Int32) < nI (P.2 p) from (nI_ltI (a := 57) (by omega) (by omega)).mpr b), if_neg (by rw [Bool.and_eq_true, Nat.ble_eq, Nat.ble_eq]; omega)]
      · rw [if_neg (show ¬ (57 : Int32) < nI (P.2 p) from fun z => b ((nI_ltI (a := 57) (by omega) (by omega)).mp z)), if_pos ⟨c, by rw [Bool.and_eq_true, Nat.ble_eq, Nat.ble_eq]; omega⟩]
  · rw [if_neg c, if_pos (by decide), if_neg (fun z => c z.1)]
theorem bt_S (h : TpM P w) {p : Nat} : bt P p = 32 ↔ (p < P.1 ∧ gS (P.2 p) = true) := by
  unfold bt gS
  by_cases c : p < P.1
  · have := h.2.2.2 p c
    rw [if_pos c, beq_iff_eq]
    exact ⟨fun z => ⟨c, (nI_eq (b := 32) (by omega) (by omega)).mp z⟩, fun z => (nI_eq (b := 32) (by omega) (by omega)).mpr z.2⟩
  · rw [if_neg c]
    exact ⟨fun z => absurd z (by decide), fun z => absurd z.1 c⟩
/-- blanks are passed -/
theorem m_skip {kk : j_St → Option (Unit × j_St)} : ∀ p f w, P.1 - p < f → TpM P w → jgi w 1 0 3 = nI p → p ≤ 400 → ∃ w', f_X9_next_L0 kk f w = kk w' ∧ pSame KTk w w' ∧ jgi w' 1 0 3 = nI (tE gS P p) := by
  refine tE_ind (P := P) (g := gS) (motive := fun p => ∀ f w, P.1 - p < f → TpM P w → jgi w 1 0 3 = nI p → p ≤ 400 → ∃ w', f_X9_next_L0 kk f w = kk w' ∧ pSame KTk w w' ∧ jgi w' 1 0 3 = nI (tE gS P p)) (fun p h hg ih => ?_) (fun p h => ?_)
  · intro f w hf hT hp h4
    obtain ⟨f, rfl⟩ : ∃ f', f = f' + 1 := ⟨f - 1, by omega⟩
    have s1 : pSame KTk w (jsi w 1 0 3 (nI (p + 1))) := pSame.jsi (by unfold KTk; omega)
    obtain ⟨w2, e2, s2, p2⟩ := ih f (jsi w 1 0 3 (nI (p + 1))) (by omega) (hT.tk s1) jgi_eq (by have := hT.2.2.1; omega)
    refine ⟨w2, ?_, s1.trans s2, by rw [tE_T h hg]; exact p2⟩
    rw [f_X9_next_L0, m_here hT hp h4, jcb_s2, if_pos ((bt_S hT).mpr ⟨h, hg⟩), jlt_eq, hp, jlt_eq, nI_1]
    exact e2
  · intro f w hf hT hp h4
    obtain ⟨f, rfl⟩ : ∃ f', f = f' + 1 := ⟨f - 1, by omega⟩
    exact ⟨w, by rw [f_X9_next_L0, m_here hT hp h4, jcb_s2, if_neg (fun z => h ((bt_S hT).mp z))], pSame.refl, by rw [tE_F h]; exact hp⟩
/-- a word's worth: its first letters -/
def wv (P : pP) (st m : Nat) : Nat := pWord m (fun i => P.2 (st + i) - 96)
theorem pIt_last {α : Type} {st : Nat → α → α} {m : Nat} {b : α} : pIt st (m + 1) 0 b = st m (pIt st m 0 b) := by
  have := pIt_split (st := st) m 1 0 b
  rw [this, Nat.zero_add]
  rfl
theorem wv_s {st m : Nat} : wv P st (m + 1) = 27 * wv P st m + (P.2 (st + m) - 96) := pIt_last
theorem wv_step {v b : Nat} (hb : 97 ≤ b) : (((27 * lN v) + (nI b).toInt64) - 97) + 1 = lN (27 * v + (b - 96)) ∨ 2 ^ 31 ≤ b := by
  rcases Nat.lt_or_ge b (2 ^ 31) with c | c
  · refine Or.inl ?_
    rw [nI_l c, show (27 : Int64) * lN v = lN 27 * lN v from rfl, lN_mul, lN_add, show (97 : Int64) = lN 97 from rfl, lN_sub (by omega), lN_1]
    congr 1
    omega
  · exact Or.inr c
theorem m_word {kk : j_St → Option (Unit × j_St)} {st : Nat} : ∀ p f w, st ≤ p → P.1 - p < f → TpM P w → jgi w 1 0 3 = nI p → p ≤ 400 → jgi w 1 0 7 = nI (min 7 (p - st)) → jgl w 1 0 9 = lN (wv P st (min 7 (p - st))) → ∃ w', f_X9_readWord_L10 kk f w = kk w' ∧ pSame KTk w w' ∧ jgi w' 1 0 3 = nI (tE gL P p) ∧ jgi w' 1 0 7 = nI (min 7 (tE gL P p - st)) ∧ jgl w' 1 0 9 = lN (wv P st (min 7 (tE gL P p - st))) ∧ jgi w' 1 0 5 = jgi w 1 0 5 := by
  refine tE_ind (P := P) (g := gL) (motive := fun p => ∀ f w, st ≤ p → P.1 - p < f → TpM P w → jgi w 1 0 3 = nI p → p ≤ 400 → jgi w 1 0 7 = nI (min 7 (p - st)) → jgl w 1 0 9 = lN (wv P st (min 7 (p - st))) → ∃ w', f_X9_readWord_L10 kk f w = kk w' ∧ pSame KTk w w' ∧ jgi w' 1 0 3 = nI (tE gL P p) ∧ jgi w' 1 0 7 = nI (min 7 (tE gL P p - st)) ∧ jgl w' 1 0 9 = lN (wv P st (min 7 (tE gL P p - st))) ∧ jgi w' 1 0 5 = jgi w 1 0 5) (fun p h hg ih => ?_) (fun p h => ?_)
  · intro f w hs hf hT hp h4 h7 h9
    obtain ⟨f, rfl⟩ : ∃ f', f = f' + 1 := ⟨f - 1, by omega⟩
    have hL := hT.2.2.1
    have hb := hT.2.2.2 p h
    have hb97 : 97 ≤ P.2 p := by
      unfold gL at hg
      rw [Bool.and_eq_true, Nat.ble_eq, Nat.ble_eq] at hg
      exact hg.1
    rw [tE_T h hg]
    by_cases c : 7 ≤ p - st
    · have s1 : pSame KTk w (jsi w 1 0 3 (nI (p + 1))) := pSame.jsi (by unfold KTk; omega)
      obtain ⟨w2, e2, s2, r⟩ := ih f (jsi w 1 0 3 (nI (p + 1))) (by omega) (by omega) (hT.tk s1) jgi_eq (by omega) (by rw [jgi_ne (by omega), h7]; congr 1; omega) (by rw [jgl_jsi, h9]; congr 2; omega)
      refine ⟨w2, ?_, s1.trans s2, r.1, r.2.1, r.2.2.1, by rw [r.2.2.2, jgi_ne (by omega)]⟩
      rw [f_X9_readWord_L10, m_here hT hp h4, jcb_s2, m_isL hT, jcb_s2, if_pos (c := p < P.1 ∧ gL (P.2 p) = true) ⟨h, hg⟩, if_neg n10, jlt_eq, h7, jlt_eq, if_pos (show (7 : Int32) ≤ nI (min 7 (p - st)) from (nI_leI (a := 7) (by omega) (by omega)).mpr (by omega))]
      dsimp only
      rw [jlt_eq, hp, jlt_eq, nI_1]
      exact e2
    · have m1 : min 7 (p - st) = p - st := by omega
      have m2 : min 7 (p + 1 - st) = p - st + 1 := by omega
      have s1 : pSame KTk w (jsi (jsi (jsl w 1 0 9 (lN (27 * wv P st (p - st) + (P.2 p - 96)))) 1 0 7 (nI (p - st + 1))) 1 0 3 (nI (p + 1))) := ((pSame.jsl (by unfold KTk; omega)).trans (pSame.jsi (by unfold KTk; omega))).trans (pSame.jsi (by unfold KTk; omega))
      obtain ⟨w2, e2, s2, r⟩ := ih f _ (by omega) (by omega) (hT.tk s1) jgi_eq (by omega) (by rw [jgi_ne (by omega), jgi_eq, m2]) (by rw [jgl_jsi, jgl_jsi, jgl_eq, m2, wv_s, Nat.add_sub_cancel' hs])
      refine ⟨w2, ?_, s1.trans s2, r.1, r.2.1, r.2.2.1, by rw [r.2.2.2, jgi_ne (by omega), jgi_ne (by omega)]; rfl⟩
      have ev : (((27 * lN (wv P st (p - st))) + (nI (P.2 p)).toInt64) - 97) + 1 = lN (27 * wv P st (p - st) + (P.2 p - 96)) := (wv_step hb97).resolve_right (by omega)
      have hw : bt P p = nI (P.2 p) := if_pos h
      rw [f_X9_readWord_L10, m_here hT hp h4, jcb_s2, m_isL hT, jcb_s2, if_pos (c := p < P.1 ∧ gL (P.2 p) = true) ⟨h, hg⟩, if_neg n10, jlt_eq, h7, jlt_eq, if_neg (show ¬ (7 : Int32) ≤ nI (min 7 (p - st)) from fun z => by have := (nI_leI (a := 7) (by omega) (by omega)).mp z; omega), jlt_eq, h9, m_here hT hp h4, jcb_s2, hw, m1, ev, jlt_eq, jlt_eq, show jgi (jsl w 1 0 9 (lN (27 * wv P st (p - st) + (P.2 p - 96)))) 1 0 7 = jgi w 1 0 7 from rfl, h7, m1, nI_1, jlt_eq]
      dsimp only
      rw [jlt_eq, jgi_ne (by omega), show jgi (jsl w 1 0 9 (lN (27 * wv P st (p - st) + (P.2 p - 96)))) 1 0 3 = jgi w 1 0 3 from rfl, hp, jlt_eq, nI_1]
      exact e2
  · intro f w hs hf hT hp h4 h7 h9
    obtain ⟨f, rfl⟩ : ∃ f', f = f' + 1 := ⟨f - 1, by omega⟩
    rw [tE_F h]
    exact ⟨w, by rw [f_X9_readWord_L10, m_here hT hp h4, jcb_s2, m_isL hT, jcb_s2, if_neg h, if_pos rfl], pSame.refl, hp, h7, h9, rfl⟩
/-- a number's worth: its first digits -/
def nv (P : pP) (st m : Nat) : Nat := pIt (fun i v => 10 * v + (P.2 (st + i) - 48)) m 0 0
theorem nv_s {st m : Nat} : nv P st (m + 1) = 10 * nv P st m + (P.2 (st + m) - 48) := pIt_last
theorem nv_step {v b : Nat} (hb : 48 ≤ b) : ((10 * nI v) + nI b) - 48 = nI (10 * v + (b - 48)) := by
  rw [show (10 : Int32) * nI v = nI 10 * nI v from rfl, nI_mul, nI_add, show (48 : Int32) = nI 48 from rfl, nI_sub (by omega)]
  congr 1
  omega
theorem gD_iff {b : Nat} : gD b = true ↔ 48 ≤ b ∧ b ≤ 57 := by
  unfold gD
  rw [Bool.and_eq_true, Nat.ble_eq, Nat.ble_eq]
theorem gL_iff {b : Nat} : gL b = true ↔ 97 ≤ b ∧ b ≤ 122 := by
  unfold gL
  rw [Bool.and_eq_true, Nat.ble_eq, Nat.ble_eq]
theorem m_digits {kk : Int32 → j_St → Option (Unit × j_St)} {st : Nat} : ∀ p f w, st ≤ p → P.1 - p < f → TpM P w → jgi w 1 0 3 = nI p → p ≤ 400 → jgi w 1 0 6 = nI (if p - st ≤ 3 then nv P st (p - st) else 0) → ∃ w', f_X9_readNumber_L46 kk f (nI (p - st)) w = kk (nI (tE gD P p - st)) w' ∧ pSame (fun κ i k => κ = 1 ∧ i = 0 ∧ (k = 3 ∨ k = 6)) w w' ∧ jgi w' 1 0 3 = nI (tE gD P p) ∧ jgi w' 1 0 6 = nI (if tE gD P p - st ≤ 3 then nv P st (tE gD P p - st) else 0) := by
  refine tE_ind (P := P) (g := gD) (motive := fun p => ∀ f w, st ≤ p → P.1 - p < f → TpM P w → jgi w 1 0 3 = nI p → p ≤ 400 → jgi w 1 0 6 = nI (if p - st ≤ 3 then nv P st (p - st) else 0) → ∃ w', f_X9_readNumber_L46 kk f (nI (p - st)) w = kk (nI (tE gD P p - st)) w' ∧ pSame (fun κ i k => κ = 1 ∧ i = 0 ∧ (k = 3 ∨ k = 6)) w w' ∧ jgi w' 1 0 3 = nI (tE gD P p) ∧ jgi w' 1 0 6 = nI (if tE gD P p - st ≤ 3 then nv P st (tE gD P p - st) else 0)) (fun p h hg ih => ?_) (fun p h => ?_)
  · intro f w hs hf hT hp h4 h6
    obtain ⟨f, rfl⟩ : ∃ f', f = f' + 1 := ⟨f - 1, by omega⟩
    have hL := hT.2.2.1
    have hb := hT.2.2.2 p h
    have hb48 := (gD_iff.mp hg).1
    rw [tE_T h hg]
    have s1 : ∀ v, pSame (fun κ i k => κ = 1 ∧ i = 0 ∧ (k = 3 ∨ k = 6)) w (jsi (jsi w 1 0 6 v) 1 0 3 (nI (p + 1))) := fun v => (pSame.jsi (by omega)).trans (pSame.jsi (by omega))
    have e1 : ∀ v, jgi (jsi w 1 0 6 v) 1 0 3 = nI p := fun v => by rw [jgi_ne (by omega)]; exact hp
    by_cases c : 3 ≤ p - st
    · obtain ⟨w2, e2, s2, r⟩ := ih f (jsi (jsi w 1 0 6 0) 1 0 3 (nI (p + 1))) (by omega) (by omega) (hT.same (s1 0) ⟨by omega, fun k => by omega⟩) jgi_eq (by omega) (by rw [jgi_ne (by omega), jgi_eq, if_neg (by omega)]; rfl)
      refine ⟨w2, ?_, (s1 0).trans s2, r⟩
      rw [f_X9_readNumber_L46, m_here hT hp h4, jcb_s2, m_isD hT, jcb_s2, if_pos (c := p < P.1 ∧ gD (P.2 p) = true) ⟨h, hg⟩, if_neg n10, jlt_eq, if_pos (show (3 : Int32) ≤ nI (p - st) from (nI_leI (a := 3) (by omega) (by omega)).mpr c)]
      dsimp only
      rw [jlt_eq, jlt_eq, jlt_eq, e1, jlt_eq, nI_1, nI_1, show p - st + 1 = p + 1 - st by omega]
      exact e2
    · obtain ⟨w2, e2, s2, r⟩ := ih f (jsi (jsi w 1 0 6 (nI (10 * nv P st (p - st) + (P.2 p - 48)))) 1 0 3 (nI (p + 1))) (by omega) (by omega) (hT.same (s1 _) ⟨by omega, fun k => by omega⟩) jgi_eq (by omega) (by rw [jgi_ne (by omega), jgi_eq, if_pos (by omega), show p + 1 - st = p - st + 1 by omega, nv_s, Nat.add_sub_cancel' hs])
      refine ⟨w2, ?_, (s1 _).trans s2, r⟩
      have hw : bt P p = nI (P.2 p) := if_pos h
      rw [f_X9_readNumber_L46, m_here hT hp h4, jcb_s2, m_isD hT, jcb_s2, if_pos (c := p < P.1 ∧ gD (P.2 p) = true) ⟨h, hg⟩, if_neg n10, jlt_eq, if_neg (show ¬ (3 : Int32) ≤ nI (p - st) from fun z => by have := (nI_leI (a := 3) (by omega) (by omega)).mp z; omega), jlt_eq, h6, if_pos (by omega), m_here hT hp h4, jcb_s2, hw, nv_step hb48]
      dsimp only
      rw [jlt_eq, jlt_eq, jlt_eq, e1, jlt_eq, nI_1, nI_1, show p - st + 1 = p + 1 - st by omega]
      exact e2
  · intro f w hs hf hT hp h4 h6
    obtain ⟨f, rfl⟩ : ∃ f', f = f' + 1 := ⟨f - 1, by omega⟩
    rw [tE_F h]
    exact ⟨w, by rw [f_X9_readNumber_L46, m_here hT hp h4, jcb_s2, m_isD hT, jcb_s2, if_neg h, if_pos rfl], pSame.refl, hp, h6⟩
end SCAN
