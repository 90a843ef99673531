/-! the pure law: the samples of a trace, read by both -/
section SAMP
variable {w w' w0 : j_St} {P : pP} {n t p st : Nat}
theorem m_number {mx : Nat} (hT : TpM P w) (hk : TkM P w st) (h8 : jgi w 1 0 8 = -1) (hmx : mx < 1000) :
    (nOk P false mx st → ∃ w', f_X9_number 0 (nI mx) w = some (tV P st, w') ∧ pSame KTk w w' ∧ TkM P w' (tE gS P (tE gD P (tS P st))) ∧ jgi w' 1 0 8 = -1) ∧
    (¬ nOk P false mx st → f_X9_number 0 (nI mx) w = some (0, jsi w 1 0 8 (nI st))) := by
  obtain ⟨q1, q2, q3, q4, q5, q6, q7⟩ := id hk
  have k4 := tK_le (P := P) st
  have hL := hT.2.2.1
  constructor
  · intro ⟨o1, o2, o3⟩
    obtain ⟨r1, r2, r3⟩ := q6 o1
    have n45 : ¬ P.2 st = 45 := o2 rfl
    have tv : tV P st = nI (nv P (tS P st) (tN P st)) := if_neg n45
    obtain ⟨w1, e1, s1, t1⟩ := m_next hT r3 (tE_le (tS_le (tK2 o1).1))
    refine ⟨w1, ?_, s1, t1, by rw [s1.1 _ _ _ (by unfold KTk; omega)]; exact h8⟩
    rw [f_X9_number, jlt_eq, h8, jlt_eq, if_pos rfl, jlt_eq, q4, if_pos (show nI (tK P st) = 2 by rw [o1]; rfl), jlt_eq, r2, if_neg n45, if_pos rfl, jlt_eq, r1, tv, sp_in, if_pos ⟨(nI_leI (a := 0) (by omega) (by omega)).mpr (Nat.zero_le _), (nI_leI (by omega) (by omega)).mpr o3⟩, jcb_s2, if_neg n10, jlt_eq, r1, tv, e1, jcb_s2]
  · intro hn
    rw [f_X9_number, jlt_eq, h8, jlt_eq, if_pos rfl, jlt_eq, q4]
    by_cases o1 : tK P st = 2
    · obtain ⟨r1, r2, r3⟩ := q6 o1
      rw [if_pos (show nI (tK P st) = 2 by rw [o1]; rfl), jlt_eq, r2]
      by_cases n45 : P.2 st = 45
      · rw [if_pos n45, if_neg n10]
        dsimp only
        rw [m_bad h8, jcb_s2, q1]
      · have tv : tV P st = nI (nv P (tS P st) (tN P st)) := if_neg n45
        have lt := nv_lt (tK2 o1).2.1
        rw [if_neg n45, if_pos rfl, jlt_eq, r1, tv, sp_in, if_neg (fun z => hn ⟨o1, fun _ => n45, (nI_leI (by omega) (by omega)).mp z.2⟩), jcb_s2, if_pos rfl]
        dsimp only
        rw [m_bad h8, jcb_s2, q1]
    · rw [if_neg (show ¬ nI (tK P st) = 2 from fun z => o1 ((nI_eq (b := 2) (by omega) (by omega)).mp z))]
      dsimp only
      rw [m_bad h8, jcb_s2, q1]
/-- where the model stands behind a clause -/
def MOk (P : pP) (w : j_St) (st : Nat) : Prop := (jgi w 1 0 8 = -1 ∧ TkM P w st) ∨ (tK P st ≠ 0 ∧ tK P st ≠ 3 ∧ jgi w 1 0 8 = nI st)
abbrev pQR : Type := Nat ⊕ ((Nat → Nat) × Nat × Nat)
def wfQR (P : pP) : pQR → Prop
  | .inl e => e ≤ P.1
  | .inr (s, k, p') => 0 < k ∧ k ≤ 48 ∧ (∀ i, i < k → s i ≤ 999) ∧ p' ≤ P.1 ∧ tE gS P p' = p'
def KSa (n i1 : Nat) (w0 : j_St) (κ i k : Nat) : Prop := KL n w0 κ i k ∨ ((κ = 4 ∨ κ = 32) ∧ i = i1)
theorem TpC.sa {i1 : Nat} (h : TpC P w) (s : pSame (KSa n i1 w0) w w') : TpC P w' := h.same s ⟨by unfold KSa KL KR; omega, fun k => by unfold KSa KL KR; omega⟩
def CSa (n i1 : Nat) (w0 w : j_St) (o : Option ((Nat ⊕ Unit) × j_St)) (R : pQR) : Prop := match R with
  | .inl e => ∃ mm w', o = some (.inl mm, w') ∧ pSame (KSa n i1 w0) w w' ∧ cUp w w' ∧ jgi w' 9 mm 6 = nI e
  | .inr (s, k, p') => ∃ w', o = some (.inr (), w') ∧ pSame (KSa n i1 w0) w w' ∧ cUp w w' ∧ pCn w' i1 (sI s) k ∧ jgi w' 8 n 0 = nI p'
def KMq (κ i k : Nat) : Prop := KTk κ i k ∨ (κ = 1 ∧ i = 0 ∧ (k = 8 ∨ k = 15)) ∨ (κ = 41 ∧ i = 0)
theorem TpM.q {K : Nat → Nat → Nat → Prop} (h : TpM P w) (s : pSame KMq w w') : TpM P w' := h.same s ⟨by unfold KMq KTk; omega, fun k => by unfold KMq KTk; omega⟩
def mSa (w : j_St) (s : Nat → Nat) (k : Nat) : Prop := jgi w 1 0 15 = nI k ∧ ∀ i, i < k → jgi w 41 0 i = nI (s i)
def MSa (P : pP) (w : j_St) (o : Option (Unit × j_St)) (R : pQR) : Prop := match R with
  | .inl e => ∃ w', o = some ((), w') ∧ pSame KMq w w' ∧ jgi w' 1 0 8 = nI e
  | .inr (s, k, p') => ∃ w', o = some ((), w') ∧ pSame KMq w w' ∧ ((jgi w' 1 0 8 = -1 ∧ TkM P w' p' ∧ mSa w' s k) ∨ (tK P p' ≠ 0 ∧ tK P p' ≠ 3 ∧ jgi w' 1 0 8 = nI p'))
def cKs (n : Nat) : Nat → Nat → j_St → Option ((Nat ⊕ Unit) × j_St) := fun (c42 : Nat) (c43 : Nat) (w39 : j_St) => jlt (jgn w39 109 0) fun n44 => jlt (jbump w39 9) fun w46 => if c42 + 1 ≤ 52 ∧ c43 + 7 ≤ 364 then jlt (jnw w46 9 n44 0) fun w51 => jlt (jgi w51 8 n 0) fun v54 => if c42 + 1 + 0 ≤ 52 ∧ c43 + 7 + 0 ≤ 364 then jcb (f_X12_init n44 v54 w51) fun _ w56 => if c42 + 1 + 0 ≤ 52 ∧ c43 + 7 + 0 ≤ 364 then some (.inl n44, w56) else none else none else none
def mKs : j_St → Option (Unit × j_St) := fun (w23 : j_St) => jlt (jgi w23 1 0 8) fun v24 => if v24 = (-1) then jlt (jgi w23 1 0 4) fun v25 => if v25 = 4 then jcb (f_X9_bad w23) fun _ w27 => some ((), w27) else some ((), w23) else some ((), w23)
theorem cKs_is {p c1 c2 : Nat} (h : c1 + 1 ≤ 52 ∧ c2 + 7 ≤ 364) (hp : jgi w 8 n 0 = nI p) : ∃ mm w', cKs n c1 c2 w = some (.inl mm, w') ∧ pSame (KY n) w w' ∧ jgi w' 9 mm 6 = nI p := by
  have r8 : jgi (jnw (jbump w 9) 9 (jgn w 109 0) 0) 8 n 0 = nI p := by rw [jgi_jnw, if_neg (by omega), jgi_bump]; exact hp
  refine ⟨jgn w 109 0, _, ?_, wr_same, jgi_eq⟩
  rw [cKs, jlt_eq, jlt_eq, if_pos h, jlt_eq, jlt_eq, r8, if_pos h, c_wrong, jcb_s2, if_pos h]
/-- one sample more -/
theorem c_add {i1 k x : Nat} {s : Nat → Nat} (h : jgi w 4 i1 1 = nI k ∧ ∀ i, i < k → jgi w 32 i1 i = nI (s i)) (hk : k < 48) : ∃ w', f_X7_add i1 (nI x) w = some ((), w') ∧ pSame (fun κ i _ => (κ = 4 ∨ κ = 32) ∧ i = i1) w w' ∧ jgi w' 4 i1 1 = nI (k + 1) ∧ ∀ i, i < k + 1 → jgi w' 32 i1 i = nI (up s k x i) := by
  refine ⟨jsi (jsi w 32 i1 k (nI x)) 4 i1 1 (nI (k + 1)), ?_, (pSame.jsi ⟨Or.inr rfl, rfl⟩).trans (pSame.jsi ⟨Or.inl rfl, rfl⟩), jgi_eq, fun i hi => ?_⟩
  · rw [f_X7_add, jlt_eq, h.1, jbd_nI (by omega) (by decide), jlt_eq, jlt_eq, jgi_ne (by omega), h.1, jlt_eq, nI_1]
  · rw [jgi_ne (by omega)]
    by_cases e : i = k
    · rw [e, jgi_eq, up_same]
    · rw [jgi_ne (by omega), up_ne e]
      exact h.2 i (by omega)
end SAMP
