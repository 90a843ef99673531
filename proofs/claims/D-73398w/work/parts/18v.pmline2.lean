/-! the pure law: a line of a trace, in the model, whole -/
section MLINE2
variable {w w' w0 : j_St} {P : pP} {st ln : Nat} {len : Nat → Nat} {le : Nat → Nat → Nat}
def KMl (ln κ i k : Nat) : Prop := KTk κ i k ∨ (κ = 1 ∧ i = 0 ∧ (k = 8 ∨ k = 16)) ∨ ((κ = 42 ∨ κ = 43 ∨ κ = 44) ∧ i = 0 ∧ k = ln)
def mKl : Int32 → j_St → Option (Unit × j_St) := fun (v18 : Int32) (w19 : j_St) => if v18 = 0 then jcb (f_X9_bad w19) fun _ w43 => some ((), w43) else jlt (jgi w19 1 0 16) fun v21 => jlt (jgl w19 1 0 9) fun v22 => jbd v21 8 fun a24 => jlt (jsl w19 44 0 a24 v22) fun w23 => jlt (jgi w23 1 0 16) fun v26 => jlt (jgi w23 1 0 7) fun v27 => jbd v26 8 fun a29 => jlt (jsi w23 43 0 a29 v27) fun w28 => jcb (f_X9_next w28) fun _ w31 => jlt (jgi w31 1 0 16) fun v34 => jcb (f_X9_number 0 47 w31) fun v35 w36 => jbd v34 8 fun a39 => jlt (jsi w36 42 0 a39 v35) fun w38 => jlt (jgi w38 1 0 16) fun v40 => jlt (jsi w38 1 0 16 (v40 + 1)) fun w41 => some ((), w41)
def wfN (ln : Nat) (len : Nat → Nat) (le : Nat → Nat → Nat) : Prop := ∀ j, j < ln → 1 ≤ len j ∧ len j ≤ 6 ∧ ∀ i, i < len j → 1 ≤ le j i ∧ le j i ≤ 26
/-- names are alike when the model's words are -/
theorem nm_iff (hn : wfN ln len le) (h6 : wl P st ≤ 6) {j : Nat} (hj : j < ln) : lN (pWord (len j) (le j)) = lN (wv P st (min 7 (wl P st))) ↔ (len j = wl P st ∧ ∀ i, i < wl P st → 96 + le j i = wc P st i) := by
  obtain ⟨n1, n2, n3⟩ := hn j hj
  have fl : ∀ i, i < wl P st → 1 ≤ wc P st i - 96 ∧ wc P st i - 96 ≤ 26 := fun i hi => by have := wc_L (P := P) (st := st) hi; omega
  have b6 : (27 : Nat) ^ (len j) ≤ 27 ^ 6 := Nat.pow_le_pow_right (by decide) n2
  have b7 : (27 : Nat) ^ (wl P st) ≤ 27 ^ 6 := Nat.pow_le_pow_right (by decide) h6
  have v1 : pWord (len j) (le j) < 27 ^ 6 := Nat.lt_of_lt_of_le (pWord_lt _ fun i hi => (n3 i hi).2) b6
  have v2 : pWord (wl P st) (fun i => P.2 (st + i) - 96) < 27 ^ 6 := Nat.lt_of_lt_of_le (pWord_lt _ fun i hi => (fl i hi).2) b7
  rw [show min 7 (wl P st) = wl P st by omega]
  unfold wv
  rw [lN_eq63 (by omega) (by omega)]
  constructor
  · intro z
    obtain ⟨a, b⟩ := pWord_inj _ _ n3 (fun i hi => fl i hi) z
    refine ⟨a, fun i hi => ?_⟩
    have q : le j i = P.2 (st + i) - 96 := b i (by omega)
    have := (wc_L (P := P) (st := st) hi).2
    unfold wc at this ⊢
    omega
  · intro ⟨a, b⟩
    rw [a]
    have cong : ∀ a (f g : Nat → Nat), (∀ i, i < a → f i = g i) → pWord a f = pWord a g := by
      intro a
      induction a with
      | zero => intro f g _; rfl
      | succ a ih =>
        intro f g hfg
        rw [pWord_s, pWord_s, ih f g (fun i hi => hfg i (by omega)), hfg a (by omega)]
    exact cong _ _ _ fun i hi => by
      have := b i hi
      unfold wc at this
      omega
theorem m_line (hT : TpM P w) (hk : TkM P w st) (h8 : jgi w 1 0 8 = -1) (hl : ln < 8) (h16 : jgi w 1 0 16 = nI ln) (hN : ∀ j, j < ln → jgl w 44 0 j = lN (pWord (len j) (le j))) (hn : wfN ln len le) :
    (¬ (1 ≤ wl P st ∧ wl P st ≤ 6 ∧ ¬ isNm ln len le (wl P st) (wc P st)) → ∃ w', f_X9_readLine w = some ((), w') ∧ pSame (KMl ln) w w' ∧ jgi w' 1 0 8 = nI st) ∧
    ((1 ≤ wl P st ∧ wl P st ≤ 6 ∧ ¬ isNm ln len le (wl P st) (wc P st)) → ¬ nOk P false 47 (tE gS P (tE gL P st)) → ∃ w', f_X9_readLine w = some ((), w') ∧ pSame (KMl ln) w w' ∧ jgi w' 1 0 8 = nI (tE gS P (tE gL P st))) ∧
    ((1 ≤ wl P st ∧ wl P st ≤ 6 ∧ ¬ isNm ln len le (wl P st) (wc P st)) → nOk P false 47 (tE gS P (tE gL P st)) → ∃ w', f_X9_readLine w = some ((), w') ∧ pSame (KMl ln) w w' ∧ jgi w' 1 0 8 = -1 ∧ TkM P w' (tE gS P (tE gD P (tS P (tE gS P (tE gL P st))))) ∧ jgi w' 42 0 ln = tV P (tE gS P (tE gL P st)) ∧ jgi w' 43 0 ln = nI (wl P st) ∧ jgl w' 44 0 ln = lN (pWord (wl P st) (fun i => wc P st i - 96)) ∧ jgi w' 1 0 16 = nI (ln + 1)) := by
  obtain ⟨q1, q2, q3, q4, q5, -⟩ := id hk
  have k4 := tK_le (P := P) st
  have bad : mKl 0 w = some ((), jsi w 1 0 8 (nI st)) := by
    rw [mKl, if_pos rfl, m_bad h8, jcb_s2, q1]
  have badR : f_X9_readLine w = mKl 0 w → ∃ w', f_X9_readLine w = some ((), w') ∧ pSame (KMl ln) w w' ∧ jgi w' 1 0 8 = nI st := fun e => ⟨_, e.trans bad, pSame.jsi (Or.inr (Or.inl ⟨rfl, rfl, Or.inl rfl⟩)), jgi_eq⟩
  have r0 : ¬ (tK P st = 1 ∧ wl P st ≤ 6) → f_X9_readLine w = mKl 0 w := fun z => by
    have g0 := mL25_0 (kk := mKl) (w := w) (ln := ln) (by omega) h16 ln 0 jFU (by omega) (jFU_gt (by omega))
    have g0 : f_X9_readLine_L25 mKl jFU 0 0 w = mKl 0 w := g0
    rw [f_X9_readLine, jlt_eq, q4, jlt_eq, jlt_eq]
    by_cases c : tK P st = 1
    · obtain ⟨s7, -⟩ := q5 c
      rw [if_pos (show nI (tK P st) = 1 by rw [c]; rfl), jlt_eq, s7, if_pos (show (6 : Int32) < nI (min 7 (tE gL P st - st)) from (nI_ltI (a := 6) (by omega) (by omega)).mpr (by unfold wl at z; omega))]
      exact g0
    · rw [if_neg (show ¬ nI (tK P st) = 1 from fun y => c ((nI_eq (b := 1) (by omega) (by omega)).mp y))]
      exact g0
  have r1 : tK P st = 1 → wl P st ≤ 6 → f_X9_readLine w = f_X9_readLine_L25 mKl jFU 1 (nI 0) w := fun c z => by
    obtain ⟨s7, -⟩ := q5 c
    rw [f_X9_readLine, jlt_eq, q4, jlt_eq, jlt_eq, if_pos (show nI (tK P st) = 1 by rw [c]; rfl), jlt_eq, s7, if_neg (show ¬ (6 : Int32) < nI (min 7 (tE gL P st - st)) from fun y => by have := (nI_ltI (a := 6) (by omega) (by omega)).mp y; unfold wl at z; omega)]
    rfl
  obtain ⟨g1, g2⟩ := mL25_1 (kk := mKl) (w := w) (ln := ln) (by omega) h16 ln 0 jFU (by omega) (jFU_gt (by omega))
  have eqv : tK P st = 1 → wl P st ≤ 6 → ∀ j, j < ln → (jgl w 44 0 j = jgl w 1 0 9 ↔ (len j = wl P st ∧ ∀ i, i < wl P st → 96 + le j i = wc P st i)) := fun c z j hj => by
    obtain ⟨-, s9, -⟩ := q5 c
    rw [hN j hj, s9]
    exact nm_iff hn z hj
  -- a good name
  have good : (1 ≤ wl P st ∧ wl P st ≤ 6 ∧ ¬ isNm ln len le (wl P st) (wc P st)) → ∃ w2, f_X9_readLine w = (jlt (jgi w2 1 0 16) fun v34 => jcb (f_X9_number 0 47 w2) fun v35 w36 => jbd v34 8 fun a39 => jlt (jsi w36 42 0 a39 v35) fun w38 => jlt (jgi w38 1 0 16) fun v40 => jlt (jsi w38 1 0 16 (v40 + 1)) fun w41 => some ((), w41)) ∧ pSame (KMl ln) w w2 ∧ TpM P w2 ∧ TkM P w2 (tE gS P (tE gL P st)) ∧ jgi w2 1 0 8 = -1 ∧ jgi w2 1 0 16 = nI ln ∧ jgi w2 43 0 ln = nI (wl P st) ∧ jgl w2 44 0 ln = lN (pWord (wl P st) (fun i => wc P st i - 96)) := fun ⟨a, b, d⟩ => by
    have c : tK P st = 1 := Classical.byContradiction fun z => by have := wl_0 (P := P) z; omega
    obtain ⟨s7, s9, s3⟩ := q5 c
    have hp1 : tE gL P st ≤ P.1 := tE_le q2
    have e1 : f_X9_readLine w = mKl 1 w := (r1 c b).trans (g1 fun j _ hj z => d ⟨j, hj, ((eqv c b j hj).mp z).1, ((eqv c b j hj).mp z).2⟩)
    have sA : pSame (fun κ i k => (κ = 43 ∨ κ = 44) ∧ i = 0 ∧ k = ln) w (jsi (jsl w 44 0 ln (lN (wv P st (min 7 (tE gL P st - st))))) 43 0 ln (nI (min 7 (tE gL P st - st)))) := (pSame.jsl ⟨Or.inr rfl, rfl, rfl⟩).trans (pSame.jsi ⟨Or.inl rfl, rfl, rfl⟩)
    have TA := hT.same sA ⟨by omega, fun k => by omega⟩
    obtain ⟨w2, e2, s2, t2⟩ := m_next TA (p := tE gL P st) (by rw [sA.1 _ _ _ (by omega)]; exact s3) hp1
    have m7 : min 7 (tE gL P st - st) = wl P st := by unfold wl at b ⊢; omega
    refine ⟨w2, ?_, (sA.mono fun κ i k y => Or.inr (Or.inr ⟨by omega, y.2⟩)).trans (s2.mono fun κ i k y => Or.inl y), TA.tk s2, t2, ?_, ?_, ?_, ?_⟩
    · rw [e1, mKl, if_neg n10, jlt_eq, h16, jlt_eq, s9, jbd_nI hl (by decide), jlt_eq, jlt_eq, show jgi (jsl w 44 0 ln (lN (wv P st (min 7 (tE gL P st - st))))) 1 0 16 = nI ln from h16, jlt_eq, show jgi (jsl w 44 0 ln (lN (wv P st (min 7 (tE gL P st - st))))) 1 0 7 = nI (min 7 (tE gL P st - st)) from s7, jbd_nI hl (by decide), jlt_eq, e2, jcb_s2]
    · rw [s2.1 _ _ _ (by unfold KTk; omega), sA.1 _ _ _ (by omega)]; exact h8
    · rw [s2.1 _ _ _ (by unfold KTk; omega), sA.1 _ _ _ (by omega)]; exact h16
    · rw [s2.1 _ _ _ (by unfold KTk; omega), jgi_eq, m7]
    · rw [s2.2.1 _ _ _ (by unfold KTk; omega), jgl_jsi, jgl_eq, m7]
      rfl
  refine ⟨fun h => ?_, fun h ho => ?_, fun h ho => ?_⟩
  · by_cases c : tK P st = 1 ∧ wl P st ≤ 6
    · have z : isNm ln len le (wl P st) (wc P st) := Classical.byContradiction fun y => h ⟨wl_pos c.1, c.2, y⟩
      obtain ⟨j, hj, a, b⟩ := z
      exact badR ((r1 c.1 c.2).trans (g2 ⟨j, Nat.zero_le _, hj, (eqv c.1 c.2 j hj).mpr ⟨a, b⟩⟩))
    · exact badR (r0 c)
  · obtain ⟨w2, e2, s2, T2, t2, g8, g16, -, -⟩ := good h
    have e3 : f_X9_number 0 47 w2 = some (0, jsi w2 1 0 8 (nI (tE gS P (tE gL P st)))) := (m_number T2 t2 g8 (mx := 47) (by decide)).2 ho
    refine ⟨jsi (jsi (jsi w2 1 0 8 (nI (tE gS P (tE gL P st)))) 42 0 ln 0) 1 0 16 (nI (ln + 1)), ?_, ((s2.trans (pSame.jsi (Or.inr (Or.inl ⟨rfl, rfl, Or.inl rfl⟩)))).trans (pSame.jsi (Or.inr (Or.inr ⟨Or.inl rfl, rfl, rfl⟩)))).trans (pSame.jsi (Or.inr (Or.inl ⟨rfl, rfl, Or.inr rfl⟩))), ?_⟩
    · rw [e2, jlt_eq, g16, e3, jcb_s2, jbd_nI hl (by decide), jlt_eq, jlt_eq, jgi_ne (by omega), jgi_ne (by omega), g16, jlt_eq, nI_1]
    · rw [jgi_ne (by omega), jgi_ne (by omega)]; exact jgi_eq
  · obtain ⟨w2, e2, s2, T2, t2, g8, g16, g43, g44⟩ := good h
    obtain ⟨w3, e3, s3, t3, h8'⟩ := (m_number T2 t2 g8 (mx := 47) (by decide)).1 ho
    have e3 : f_X9_number 0 47 w2 = some (tV P (tE gS P (tE gL P st)), w3) := e3
    have s4 : pSame (fun κ i k => κ = 42 ∨ (κ = 1 ∧ k = 16)) w3 (jsi (jsi w3 42 0 ln (tV P (tE gS P (tE gL P st)))) 1 0 16 (nI (ln + 1))) := (pSame.jsi (Or.inl rfl)).trans (pSame.jsi (Or.inr ⟨rfl, rfl⟩))
    refine ⟨jsi (jsi w3 42 0 ln (tV P (tE gS P (tE gL P st)))) 1 0 16 (nI (ln + 1)), ?_, ((s2.trans (s3.mono fun κ i k y => Or.inl y)).trans (pSame.jsi (Or.inr (Or.inr ⟨Or.inl rfl, rfl, rfl⟩)))).trans (pSame.jsi (Or.inr (Or.inl ⟨rfl, rfl, Or.inr rfl⟩))), ?_, t3.same s4 (fun k a => by omega), ?_, ?_, ?_, jgi_eq⟩
    · rw [e2, jlt_eq, g16, e3, jcb_s2, jbd_nI hl (by decide), jlt_eq, jlt_eq, jgi_ne (by omega), s3.1 _ _ _ (by unfold KTk; omega), g16, jlt_eq, nI_1]
    · rw [s4.1 _ _ _ (by omega)]; exact h8'
    · rw [jgi_ne (by omega)]; exact jgi_eq
    · rw [s4.1 _ _ _ (by omega), s3.1 _ _ _ (by unfold KTk; omega)]; exact g43
    · rw [s4.2.1 _ _ _ (by omega), s3.2.1 _ _ _ (by unfold KTk; omega)]; exact g44
end MLINE2
