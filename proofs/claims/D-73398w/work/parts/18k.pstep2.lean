/-! the pure law: a step of a script, by both -/
section STEP2
variable {w w' w0 : j_St} {P : pP} {n t m : Nat}
theorem jcx_s {α β : Type} {a : β} {k : β → j_St → Option ((Nat ⊕ α) × j_St)} : jcx (some (.inr a, w)) k = k a w := id rfl
theorem jcx_e {α β : Type} {m : Nat} {k : β → j_St → Option ((Nat ⊕ α) × j_St)} : jcx (some (.inl m, w)) k = some (.inl m, w) := id rfl
theorem cUp.rfl' : cUp w w := ⟨Nat.le_refl _, Nat.le_refl _⟩
theorem c_arg {j i f p c25 c26 : Nat} {kk : Nat → Nat → j_St → Option ((Nat ⊕ Unit) × j_St)} (hT : TpC P w) (hp : jgi w 8 n 0 = nI p) (h4 : p ≤ P.1) (h7 : jgi w 7 t 2 = nI m) (hm : m < 12) (hj : j < 10) (hi : i < 2) (hc : c25 + 1 ≤ 16 ∧ c26 + 7 ≤ 5460) :
    (nOf j ≤ i → f_X10_step_L48 n t (nI j) kk (f + 1) (nI i) c25 c26 w = f_X10_step_L48 n t (nI j) kk f (nI (i + 1)) c25 c26 (jsi w 37 t (2 * m + i) (-1000000))) ∧
    (i < nOf j → tK P (tE gS P p) = 2 → ∃ w1, f_X10_step_L48 n t (nI j) kk (f + 1) (nI i) c25 c26 w = f_X10_step_L48 n t (nI j) kk f (nI (i + 1)) (c25 + 1) (c26 + 7) (jsi w1 37 t (2 * m + i) (tV P (tE gS P p))) ∧ pSame (KY n) w w1 ∧ jgi w1 8 n 0 = nI (tE gD P (tS P (tE gS P p)))) ∧
    (i < nOf j → ¬ tK P (tE gS P p) = 2 → ∃ mm w1, f_X10_step_L48 n t (nI j) kk (f + 1) (nI i) c25 c26 w = some (.inl mm, w1) ∧ pSame (KY n) w w1 ∧ jgi w1 9 mm 6 = nI (tE gS P p)) := by
  have n2 := nOf_le j
  have ix : (2 : Int32) * nI m + nI i = nI (2 * m + i) := by rw [show (2 : Int32) * nI m = nI 2 * nI m from rfl, nI_mul, nI_add]
  have ng : ¬ (2 : Int32) ≤ nI i := fun z => by have := (nI_leI (a := 2) (by omega) (by omega)).mp z; omega
  obtain ⟨a, b⟩ := c_number hT hp h4 true (mx := 999) (by decide)
  refine ⟨fun h => ?_, fun h h2 => ?_, fun h h2 => ?_⟩
  · rw [f_X10_step_L48, if_neg ng, jlt_eq, h7, if_pos ⟨by omega, by omega⟩, nOf_c hj, jcb_s2, jlt_eq, if_pos ((nI_leI (by omega) (by omega)).mpr h)]
    dsimp only
    rw [ix, jbd_nI (by omega) (by decide), jlt_eq, jlt_eq, nI_1]
  · obtain ⟨w1, e1, s1, p1⟩ := a (nOk_s.mpr h2)
    have e1 : f_X10_number n 1 999 w = some (.inr (tV P (tE gS P p)), w1) := e1
    refine ⟨w1, ?_, s1, p1⟩
    rw [f_X10_step_L48, if_neg ng, jlt_eq, h7, if_pos ⟨by omega, by omega⟩, nOf_c hj, jcb_s2, jlt_eq, if_neg (fun z => by have := (nI_leI (by omega) (by omega)).mp z; omega), if_pos hc, e1]
    rw [jcx_s]
    dsimp only
    rw [ix, jbd_nI (by omega) (by decide), jlt_eq, jlt_eq, nI_1]
  · obtain ⟨mm, w1, e1, s1, p1⟩ := b (fun z => h2 (nOk_s.mp z))
    have e1 : f_X10_number n 1 999 w = some (.inl mm, w1) := e1
    refine ⟨mm, w1, ?_, s1, p1⟩
    rw [f_X10_step_L48, if_neg ng, jlt_eq, h7, if_pos ⟨by omega, by omega⟩, nOf_c hj, jcb_s2, jlt_eq, if_neg (fun z => by have := (nI_leI (by omega) (by omega)).mp z; omega), if_pos hc, e1, jcx_e]
def KMa (o κ i k : Nat) : Prop := KTk κ i k ∨ (κ = 1 ∧ i = 0 ∧ k = 8) ∨ (κ = 45 ∧ i = 0 ∧ k = o)
theorem TpM.a {o : Nat} (h : TpM P w) (s : pSame (KMa o) w w') : TpM P w' := h.same s ⟨by unfold KMa KTk; omega, fun k => by unfold KMa KTk; omega⟩
theorem TkM.a {K : Nat → Nat → Nat → Prop} {st : Nat} (h : TkM P w st) (s : pSame K w w') (hK : ∀ κ i k, K κ i k → κ = 45 ∨ κ = 46 ∨ (κ = 1 ∧ k = 8)) : TkM P w' st := h.same s (fun k a b => by have := hK _ _ _ b; omega)
theorem tK_le (st : Nat) : tK P st ≤ 4 := by
  unfold tK
  repeat' split
  all_goals omega
theorem m_arg {j i f o st : Nat} (hT : TpM P w) (hk : TkM P w st) (h8 : jgi w 1 0 8 = -1) (hj : j < 10) (hi : 1 ≤ i ∧ i ≤ 2) (ho : o + i < 180) :
    (nOf j < i → f_X9_readStep_L56 (nI o) (nI j) (f + 1) (nI i) w = f_X9_readStep_L56 (nI o) (nI j) f (nI (i + 1)) (jsi w 45 0 (o + i) (-1000000))) ∧
    (i ≤ nOf j → tK P st = 2 → ∃ w1, f_X9_readStep_L56 (nI o) (nI j) (f + 1) (nI i) w = f_X9_readStep_L56 (nI o) (nI j) f (nI (i + 1)) w1 ∧ pSame (KMa (o + i)) w w1 ∧ jgi w1 45 0 (o + i) = tV P st ∧ jgi w1 1 0 8 = -1 ∧ TkM P w1 (tE gS P (tE gD P (tS P st)))) ∧
    (i ≤ nOf j → ¬ tK P st = 2 → ∃ w1, f_X9_readStep_L56 (nI o) (nI j) (f + 1) (nI i) w = f_X9_readStep_L56 (nI o) (nI j) f (nI (i + 1)) w1 ∧ pSame (KMa (o + i)) w w1 ∧ jgi w1 1 0 8 = nI st) := by
  have n2 := nOf_le j
  have hL := hT.2.2.1
  have ng : ¬ (3 : Int32) ≤ nI i := fun z => by have := (nI_leI (a := 3) (by omega) (by omega)).mp z; omega
  have s0 : pSame (fun κ i' k => κ = 45 ∧ i' = 0 ∧ k = o + i) w (jsi w 45 0 (o + i) (-1000000)) := pSame.jsi ⟨rfl, rfl, rfl⟩
  have t8 : jgi (jsi w 45 0 (o + i) (-1000000)) 1 0 8 = -1 := by rw [jgi_ne (by omega)]; exact h8
  have k0 : TkM P (jsi w 45 0 (o + i) (-1000000)) st := hk.a s0 (fun κ i k y => Or.inl y.1)
  refine ⟨fun h => ?_, fun h h2 => ?_, fun h h2 => ?_⟩
  · rw [f_X9_readStep_L56, if_neg ng, nI_add, jbd_nI ho (by decide), jlt_eq, nOf_m hj, jcb_s2, jlt_eq, if_pos ((nI_ltI (by omega) (by omega)).mpr h)]
    dsimp only
    rw [jlt_eq, nI_1]
  · obtain ⟨q1, q2, q3, q4, -, q6, -⟩ := id k0
    obtain ⟨r1, r2, r3⟩ := q6 h2
    have s1 : pSame (fun κ i' k => κ = 45 ∧ i' = 0 ∧ k = o + i) w (jsi (jsi w 45 0 (o + i) (-1000000)) 45 0 (o + i) (tV P st)) := s0.trans (pSame.jsi ⟨rfl, rfl, rfl⟩)
    have hT1 : TpM P (jsi (jsi w 45 0 (o + i) (-1000000)) 45 0 (o + i) (tV P st)) := hT.same s1 ⟨by omega, fun k => by omega⟩
    have he : tE gD P (tS P st) ≤ P.1 := tE_le (tS_le (tK2 h2).1)
    obtain ⟨w1, e1, g1, t1⟩ := m_next hT1 (p := tE gD P (tS P st)) (by rw [jgi_ne (by omega)]; exact r3) he
    refine ⟨w1, ?_, (s1.mono fun κ i k y => Or.inr (Or.inr y)).trans (g1.mono fun κ i k y => Or.inl y), ?_, ?_, t1⟩
    · rw [f_X9_readStep_L56, if_neg ng, nI_add, jbd_nI ho (by decide), jlt_eq, nOf_m hj, jcb_s2, jlt_eq, if_neg (fun z => by have := (nI_ltI (by omega) (by omega)).mp z; omega), jlt_eq, t8, jlt_eq, if_pos rfl, jlt_eq, q4, h2, if_pos (show nI 2 = (2 : Int32) from rfl), jlt_eq, r1, jbd_nI ho (by decide), jlt_eq, e1, jcb_s2]
      dsimp only
      rw [jlt_eq, nI_1]
    · rw [g1.1 _ _ _ (by unfold KTk; omega), jgi_eq]
    · rw [g1.1 _ _ _ (by unfold KTk; omega), jgi_ne (by omega)]; exact t8
  · obtain ⟨q1, q2, q3, q4, -⟩ := id k0
    refine ⟨jsi (jsi w 45 0 (o + i) (-1000000)) 1 0 8 (nI st), ?_, (s0.mono fun κ i k y => Or.inr (Or.inr y)).trans (pSame.jsi (Or.inr (Or.inl ⟨rfl, rfl, rfl⟩))), jgi_eq⟩
    have := tK_le (P := P) st
    rw [f_X9_readStep_L56, if_neg ng, nI_add, jbd_nI ho (by decide), jlt_eq, nOf_m hj, jcb_s2, jlt_eq, if_neg (fun z => by have := (nI_ltI (by omega) (by omega)).mp z; omega), jlt_eq, t8, jlt_eq, if_pos rfl, jlt_eq, q4, if_neg (show ¬ nI (tK P st) = 2 from fun z => h2 ((nI_eq (b := 2) (by omega) (by omega)).mp z))]
    dsimp only
    rw [m_bad t8, jcb_s2, q1]
    try dsimp only
    rw [jlt_eq, nI_1]
theorem m_arg4 {j i f o e : Nat} (he : e ≤ 400) (h8 : jgi w 1 0 8 = nI e) (hj : j < 10) (hi : 1 ≤ i ∧ i ≤ 2) (ho : o + i < 180) : ∃ w1, f_X9_readStep_L56 (nI o) (nI j) (f + 1) (nI i) w = f_X9_readStep_L56 (nI o) (nI j) f (nI (i + 1)) w1 ∧ pSame (KMa (o + i)) w w1 ∧ jgi w1 1 0 8 = nI e := by
  have n2 := nOf_le j
  have ng : ¬ (3 : Int32) ≤ nI i := fun z => by have := (nI_leI (a := 3) (by omega) (by omega)).mp z; omega
  have s0 : pSame (KMa (o + i)) w (jsi w 45 0 (o + i) (-1000000)) := pSame.jsi (Or.inr (Or.inr ⟨rfl, rfl, rfl⟩))
  have t8 : jgi (jsi w 45 0 (o + i) (-1000000)) 1 0 8 = nI e := by rw [jgi_ne (by omega)]; exact h8
  by_cases h : nOf j < i
  · refine ⟨_, ?_, s0, t8⟩
    rw [f_X9_readStep_L56, if_neg ng, nI_add, jbd_nI ho (by decide), jlt_eq, nOf_m hj, jcb_s2, jlt_eq, if_pos ((nI_ltI (by omega) (by omega)).mpr h)]
    dsimp only
    rw [jlt_eq, nI_1]
  · refine ⟨jsi (jsi w 45 0 (o + i) (-1000000)) 1 0 8 (nI e), ?_, s0.trans (pSame.jsi (Or.inr (Or.inl ⟨rfl, rfl, rfl⟩))), jgi_eq⟩
    rw [f_X9_readStep_L56, if_neg ng, nI_add, jbd_nI ho (by decide), jlt_eq, nOf_m hj, jcb_s2, jlt_eq, if_neg (fun z => by have := (nI_ltI (by omega) (by omega)).mp z; omega), jlt_eq, t8, jlt_eq, if_neg (nI_ne1 (by omega))]
    dsimp only
    rw [m_bad2 (by omega) t8, jcb_s2]
    try dsimp only
    rw [jlt_eq, nI_1]
end STEP2
