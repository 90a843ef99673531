/-! the pure law: the model's next word, number or sign -/
section NEXT
variable {w w' : j_St} {P : pP}
def tS (P : pP) (st : Nat) : Nat := if P.2 st = 45 then st + 1 else st
def tN (P : pP) (st : Nat) : Nat := tE gD P (tS P st) - tS P st
/-- what kind: 0 the end, 1 a word, 2 a number, 3 the sign between, 4 else -/
def tK (P : pP) (st : Nat) : Nat := if st < P.1 then (if gL (P.2 st) = true then 1 else if gD (P.2 st) = true ∨ P.2 st = 45 then (if 1 ≤ tN P st ∧ tN P st ≤ 3 then 2 else 4) else if P.2 st = 59 then 3 else 4) else 0
def tV (P : pP) (st : Nat) : Int32 := if P.2 st = 45 then -nI (nv P (tS P st) (tN P st)) else nI (nv P (tS P st) (tN P st))
def TkM (P : pP) (w : j_St) (st : Nat) : Prop := jgi w 1 0 5 = nI st ∧ st ≤ P.1 ∧ ¬ (st < P.1 ∧ gS (P.2 st) = true) ∧ jgi w 1 0 4 = nI (tK P st) ∧
  (tK P st = 1 → jgi w 1 0 7 = nI (min 7 (tE gL P st - st)) ∧ jgl w 1 0 9 = lN (wv P st (min 7 (tE gL P st - st))) ∧ jgi w 1 0 3 = nI (tE gL P st)) ∧
  (tK P st = 2 → jgi w 1 0 6 = tV P st ∧ jgi w 1 0 10 = (if P.2 st = 45 then 1 else 0) ∧ jgi w 1 0 3 = nI (tE gD P (tS P st))) ∧ (tK P st = 3 → jgi w 1 0 3 = nI (st + 1))
theorem TkM.same {K : Nat → Nat → Nat → Prop} {st : Nat} (h : TkM P w st) (s : pSame K w w') (hK : ∀ k, (3 ≤ k ∧ k ≤ 7) ∨ k = 9 ∨ k = 10 → ¬ K 1 0 k) : TkM P w' st := by
  obtain ⟨h1, h2, h3, h4, h5, h6, h7⟩ := h
  refine ⟨by rw [s.1 _ _ _ (hK 5 (by omega))]; exact h1, h2, h3, by rw [s.1 _ _ _ (hK 4 (by omega))]; exact h4, fun e => ?_, fun e => ?_, fun e => ?_⟩
  · rw [s.1 _ _ _ (hK 7 (by omega)), s.2.1 _ _ _ (hK 9 (by omega)), s.1 _ _ _ (hK 3 (by omega))]; exact h5 e
  · rw [s.1 _ _ _ (hK 6 (by omega)), s.1 _ _ _ (hK 10 (by omega)), s.1 _ _ _ (hK 3 (by omega))]; exact h6 e
  · rw [s.1 _ _ _ (hK 3 (by omega))]; exact h7 e
theorem bt_is (h : TpM P w) {p b : Nat} (hb : b < 256) : bt P p = nI b ↔ (p < P.1 ∧ P.2 p = b) := by
  unfold bt
  by_cases c : p < P.1
  · have := h.2.2.2 p c
    rw [if_pos c]
    exact ⟨fun z => ⟨c, (nI_eq (by omega) (by omega)).mp z⟩, fun z => by rw [z.2]⟩
  · rw [if_neg c]
    exact ⟨fun z => absurd z.symm (nI_ne1 (by omega)), fun z => absurd z.1 c⟩
theorem m_readNum (hT : TpM P w) {st : Nat} (hst : st < P.1) (h3 : jgi w 1 0 3 = nI st) (h5 : jgi w 1 0 5 = nI st) : ∃ w', f_X9_readNumber w = some ((), w') ∧ pSame KTk w w' ∧ jgi w' 1 0 5 = nI st ∧ jgi w' 1 0 4 = (if 1 ≤ tN P st ∧ tN P st ≤ 3 then 2 else 4) ∧ (tN P st ≤ 3 → jgi w' 1 0 6 = tV P st) ∧ jgi w' 1 0 10 = (if P.2 st = 45 then 1 else 0) ∧ jgi w' 1 0 3 = nI (tE gD P (tS P st)) := by
  have hL := hT.2.2.1
  obtain ⟨v, hv, e4, e7⟩ : ∃ v : Nat, v ≤ 1 ∧ (if P.2 st = 45 then (1 : Int32) else 0) = nI v ∧ tS P st = st + v := by
    unfold tS
    by_cases c : P.2 st = 45
    · exact ⟨1, by decide, by rw [if_pos c]; rfl, by rw [if_pos c]⟩
    · exact ⟨0, by decide, by rw [if_neg c]; rfl, by rw [if_neg c]; rfl⟩
  have hs : tS P st ≤ P.1 := by omega
  have s0 : pSame KTk w (jsi (jsi (jsi w 1 0 10 (nI v)) 1 0 3 (nI (tS P st))) 1 0 6 0) := ((pSame.jsi (by unfold KTk; omega)).trans (pSame.jsi (by unfold KTk; omega))).trans (pSame.jsi (by unfold KTk; omega))
  have p0 : jgi (jsi (jsi (jsi w 1 0 10 (nI v)) 1 0 3 (nI (tS P st))) 1 0 6 0) 1 0 3 = nI (tS P st) := by rw [jgi_ne (by omega), jgi_eq]
  have q0 : jgi (jsi (jsi (jsi w 1 0 10 (nI v)) 1 0 3 (nI (tS P st))) 1 0 6 0) 1 0 10 = nI v := by rw [jgi_ne (by omega), jgi_ne (by omega), jgi_eq]
  have r0 : jgi (jsi (jsi (jsi w 1 0 10 (nI v)) 1 0 3 (nI (tS P st))) 1 0 6 0) 1 0 5 = nI st := by rw [jgi_ne (by omega), jgi_ne (by omega), jgi_ne (by omega)]; exact h5
  have z0 : jgi (jsi (jsi (jsi w 1 0 10 (nI v)) 1 0 3 (nI (tS P st))) 1 0 6 0) 1 0 6 = 0 := jgi_eq
  have kk : Int32 → j_St → Option (Unit × j_St) := fun v31 w32 => none
  obtain ⟨w1, e1, s1, p1, n1⟩ := m_digits (P := P) (st := tS P st) (kk := fun (v31 : Int32) (w32 : j_St) => jlt (jgi w32 1 0 10) fun v33 => jlt (fun (v36 : Int32) (w37 : j_St) => jlt (jsi w37 1 0 6 v36) fun w38 => jcb (f_X9_in v31 1 3 w38) fun v39 w40 => if v39 = 0 then jlt (jsi w40 1 0 4 4) fun w42 => some ((), w42) else jlt (jsi w40 1 0 4 2) fun w43 => some ((), w43)) fun K120 => if v33 = 0 then jlt (jgi w32 1 0 6) fun v34 => K120 v34 w32 else jlt (jgi w32 1 0 6) fun v35 => K120 (-v35) w32) (tS P st) jFU _ (Nat.le_refl _) (jFU_gt (by omega)) (hT.tk s0) p0 (by omega) (by rw [z0, Nat.sub_self]; rfl)
  have e1' := e1
  rw [Nat.sub_self] at e1'
  have t10 : jgi w1 1 0 10 = nI v := by rw [s1.1 _ _ _ (by omega)]; exact q0
  have t5 : jgi w1 1 0 5 = nI st := by rw [s1.1 _ _ _ (by omega)]; exact r0
  have lim : tE gD P (tS P st) ≤ P.1 := tE_le hs
  have cond : (1 : Int32) ≤ nI (tN P st) ∧ nI (tN P st) ≤ (3 : Int32) ↔ 1 ≤ tN P st ∧ tN P st ≤ 3 := by
    have : tN P st ≤ P.1 := by unfold tN; omega
    exact ⟨fun z => ⟨(nI_leI (a := 1) (by omega) (by omega)).mp z.1, (nI_leI (b := 3) (by omega) (by omega)).mp z.2⟩, fun z => ⟨(nI_leI (a := 1) (by omega) (by omega)).mpr z.1, (nI_leI (b := 3) (by omega) (by omega)).mpr z.2⟩⟩
  have fin : ∀ x : Int32, (tN P st ≤ 3 → x = tV P st) → ∃ w', (jlt (jsi w1 1 0 6 x) fun w38 => jcb (f_X9_in (nI (tE gD P (tS P st) - tS P st)) 1 3 w38) fun v39 w40 => if v39 = 0 then jlt (jsi w40 1 0 4 4) fun w42 => some ((), w42) else jlt (jsi w40 1 0 4 2) fun w43 => some ((), w43)) = some ((), w') ∧ pSame KTk w w' ∧ jgi w' 1 0 5 = nI st ∧ jgi w' 1 0 4 = (if 1 ≤ tN P st ∧ tN P st ≤ 3 then 2 else 4) ∧ (tN P st ≤ 3 → jgi w' 1 0 6 = tV P st) ∧ jgi w' 1 0 10 = (if P.2 st = 45 then 1 else 0) ∧ jgi w' 1 0 3 = nI (tE gD P (tS P st)) := fun x hx => by
    have sx : ∀ y, pSame KTk w (jsi (jsi w1 1 0 6 x) 1 0 4 y) := fun y => ((s0.trans (s1.mono fun κ i k y => by unfold KTk; omega)).trans (pSame.jsi (by unfold KTk; omega))).trans (pSame.jsi (by unfold KTk; omega))
    show ∃ w', (jlt (jsi w1 1 0 6 x) fun w38 => jcb (f_X9_in (nI (tN P st)) 1 3 w38) fun v39 w40 => if v39 = 0 then jlt (jsi w40 1 0 4 4) fun w42 => some ((), w42) else jlt (jsi w40 1 0 4 2) fun w43 => some ((), w43)) = some ((), w') ∧ _
    by_cases c : 1 ≤ tN P st ∧ tN P st ≤ 3
    · refine ⟨jsi (jsi w1 1 0 6 x) 1 0 4 2, by rw [jlt_eq, sp_in, if_pos (cond.mpr c), jcb_s2, if_neg n10, jlt_eq], sx 2, ?_, by rw [jgi_eq, if_pos c], fun z => ?_, ?_, ?_⟩
      · rw [jgi_ne (by omega), jgi_ne (by omega)]; exact t5
      · rw [jgi_ne (by omega), jgi_eq]; exact hx z
      · rw [jgi_ne (by omega), jgi_ne (by omega), t10, e4]
      · rw [jgi_ne (by omega), jgi_ne (by omega)]; exact p1
    · refine ⟨jsi (jsi w1 1 0 6 x) 1 0 4 4, by rw [jlt_eq, sp_in, if_neg (fun z => c (cond.mp z)), jcb_s2, if_pos rfl, jlt_eq], sx 4, ?_, by rw [jgi_eq, if_neg c], fun z => ?_, ?_, ?_⟩
      · rw [jgi_ne (by omega), jgi_ne (by omega)]; exact t5
      · rw [jgi_ne (by omega), jgi_eq]; exact hx z
      · rw [jgi_ne (by omega), jgi_ne (by omega), t10, e4]
      · rw [jgi_ne (by omega), jgi_ne (by omega)]; exact p1
  have n1' : jgi w1 1 0 6 = nI (if tN P st ≤ 3 then nv P (tS P st) (tN P st) else 0) := n1
  have start : f_X9_readNumber w = (jlt (jgi w1 1 0 10) fun v33 => jlt (fun (v36 : Int32) (w37 : j_St) => jlt (jsi w37 1 0 6 v36) fun w38 => jcb (f_X9_in (nI (tE gD P (tS P st) - tS P st)) 1 3 w38) fun v39 w40 => if v39 = 0 then jlt (jsi w40 1 0 4 4) fun w42 => some ((), w42) else jlt (jsi w40 1 0 4 2) fun w43 => some ((), w43)) fun K120 => if v33 = 0 then jlt (jgi w1 1 0 6) fun v34 => K120 v34 w1 else jlt (jgi w1 1 0 6) fun v35 => K120 (-v35) w1) := by
    refine Eq.trans ?_ e1'
    rw [f_X9_readNumber, m_here hT h3 (by omega), jcb_s2, jlt_eq]
    have b45 : bt P st = 45 ↔ (st < P.1 ∧ P.2 st = 45) := bt_is (p := st) (b := 45) hT (by decide)
    rcases (show v = 0 ∨ v = 1 by omega) with rfl | rfl
    · have c : ¬ P.2 st = 45 := fun c => by
        rw [if_pos c] at e4
        exact absurd e4 (by decide)
      rw [if_neg (fun z => c (b45.mp z).2)]
      dsimp only
      rw [if_pos (Or.inl rfl), jlt_eq, jlt_eq, jlt_eq, jlt_eq, show jgi (jsi w 1 0 10 0) 1 0 10 = 0 from jgi_eq, if_pos rfl, show jgi (jsi w 1 0 10 0) 1 0 3 = nI st by rw [jgi_ne (by omega)]; exact h3]
      dsimp only
      rw [jlt_eq, jlt_eq, e7, Int32.add_zero, Nat.add_zero]
      rfl
    · have c : P.2 st = 45 := Classical.byContradiction fun c => by
        rw [if_neg c] at e4
        exact absurd e4 (by decide)
      rw [if_pos (b45.mpr ⟨hst, c⟩)]
      dsimp only
      rw [if_pos (Or.inr rfl), jlt_eq, jlt_eq, jlt_eq, jlt_eq, show jgi (jsi w 1 0 10 1) 1 0 10 = 1 from jgi_eq, if_neg n10, show jgi (jsi w 1 0 10 1) 1 0 3 = nI st by rw [jgi_ne (by omega)]; exact h3]
      dsimp only
      rw [jlt_eq, jlt_eq, e7, nI_1]
      rfl
  rcases (show v = 0 ∨ v = 1 by omega) with rfl | rfl
  · have c : ¬ P.2 st = 45 := fun c => by
      rw [if_pos c] at e4
      exact absurd e4 (by decide)
    obtain ⟨w2, e2, r⟩ := fin (jgi w1 1 0 6) (fun z => by rw [n1', if_pos z]; unfold tV; rw [if_neg c])
    refine ⟨w2, ?_, r⟩
    rw [start, jlt_eq, t10, jlt_eq, if_pos (show nI 0 = 0 from rfl), jlt_eq]
    exact e2
  · have c : P.2 st = 45 := Classical.byContradiction fun c => by
      rw [if_neg c] at e4
      exact absurd e4 (by decide)
    obtain ⟨w2, e2, r⟩ := fin (-jgi w1 1 0 6) (fun z => by rw [n1', if_pos z]; unfold tV; rw [if_pos c])
    refine ⟨w2, ?_, r⟩
    rw [start, jlt_eq, t10, jlt_eq, if_neg (by decide), jlt_eq]
    exact e2
theorem m_next (hT : TpM P w) {p : Nat} (h3 : jgi w 1 0 3 = nI p) (hp : p ≤ P.1) : ∃ w', f_X9_next w = some ((), w') ∧ pSame KTk w w' ∧ TkM P w' (tE gS P p) := by
  have hL := hT.2.2.1
  obtain ⟨w1, e1, s1, p1⟩ := m_skip (P := P) (kk := fun (w7 : j_St) => jlt (jgi w7 1 0 3) fun v8 => jlt (jsi w7 1 0 5 v8) fun w9 => jcb (f_X9_here w9) fun v10 w11 => if v10 = (-1) then jlt (jsi w11 1 0 4 0) fun w30 => some ((), w30) else jcb (f_X9_isLetter v10 w11) fun v13 w14 => if v13 = 0 then jcb (f_X9_isDigit v10 w14) fun v16 w17 => jlt (fun (w23 : j_St) => jcb (f_X9_readNumber w23) fun _ w25 => some ((), w25)) fun K75 => if v16 = 0 then if v10 = 45 then K75 w17 else jlt (jgi w17 1 0 3) fun v19 => jlt (jsi w17 1 0 3 (v19 + 1)) fun w20 => if v10 = 59 then jlt (jsi w20 1 0 4 3) fun w22 => some ((), w22) else jlt (jsi w20 1 0 4 4) fun w21 => some ((), w21) else K75 w17 else jcb (f_X9_readWord w14) fun _ w28 => some ((), w28)) p jFU w (jFU_gt (by omega)) hT h3 (by omega)
  have hst : tE gS P p ≤ P.1 := tE_le hp
  have nb := tE_stop (g := gS) (P := P) p
  generalize tE gS P p = st at p1 hst nb
  have hT1 := hT.tk s1
  have s2 : pSame KTk w (jsi w1 1 0 5 (nI st)) := s1.trans (pSame.jsi (by unfold KTk; omega))
  have hT2 := hT.tk s2
  have q3 : jgi (jsi w1 1 0 5 (nI st)) 1 0 3 = nI st := by rw [jgi_ne (by omega)]; exact p1
  have q5 : jgi (jsi w1 1 0 5 (nI st)) 1 0 5 = nI st := jgi_eq
  have st1 : f_X9_next w = (jcb (f_X9_here (jsi w1 1 0 5 (nI st))) fun v10 w11 => if v10 = (-1) then jlt (jsi w11 1 0 4 0) fun w30 => some ((), w30) else jcb (f_X9_isLetter v10 w11) fun v13 w14 => if v13 = 0 then jcb (f_X9_isDigit v10 w14) fun v16 w17 => jlt (fun (w23 : j_St) => jcb (f_X9_readNumber w23) fun _ w25 => some ((), w25)) fun K75 => if v16 = 0 then if v10 = 45 then K75 w17 else jlt (jgi w17 1 0 3) fun v19 => jlt (jsi w17 1 0 3 (v19 + 1)) fun w20 => if v10 = 59 then jlt (jsi w20 1 0 4 3) fun w22 => some ((), w22) else jlt (jsi w20 1 0 4 4) fun w21 => some ((), w21) else K75 w17 else jcb (f_X9_readWord w14) fun _ w28 => some ((), w28)) := by
    rw [f_X9_next, e1, jlt_eq, p1, jlt_eq]
  generalize jsi w1 1 0 5 (nI st) = w2 at s2 hT2 q3 q5 st1
  rw [m_here hT2 q3 (by omega), jcb_s2] at st1
  by_cases c : st < P.1
  · have bne : ¬ bt P st = -1 := by unfold bt; rw [if_pos c]; exact nI_ne1 (by have := hT.2.2.2 st c; omega)
    rw [if_neg bne, m_isL hT2, jcb_s2] at st1
    by_cases a : gL (P.2 st) = true
    · have k1 : tK P st = 1 := by unfold tK; rw [if_pos c, if_pos a]
      rw [if_pos (c := st < P.1 ∧ gL (P.2 st) = true) ⟨c, a⟩, if_neg n10] at st1
      have s3 : pSame KTk w2 (jsi (jsl w2 1 0 9 0) 1 0 7 0) := (pSame.jsl (by unfold KTk; omega)).trans (pSame.jsi (by unfold KTk; omega))
      obtain ⟨w3, e3, g3, r3, r7, r9, r5⟩ := m_word (P := P) (st := st) (kk := fun (w21 : j_St) => jlt (jsi w21 1 0 4 1) fun w22 => some ((), w22)) st jFU (jsi (jsl w2 1 0 9 0) 1 0 7 0) (Nat.le_refl _) (jFU_gt (by omega)) (hT2.tk s3) (by rw [jgi_ne (by omega)]; exact q3) (by omega) (by rw [jgi_eq, Nat.sub_self]; rfl) (by rw [jgl_jsi, jgl_eq, Nat.sub_self]; rfl)
      have er : f_X9_readWord w2 = some ((), jsi w3 1 0 4 1) := by
        rw [f_X9_readWord, jlt_eq, jlt_eq, e3, jlt_eq]
      rw [er, jcb_s2] at st1
      refine ⟨_, st1, ((s2.trans s3).trans g3).trans (pSame.jsi (by unfold KTk; omega)), ?_, hst, nb, ?_, fun _ => ⟨?_, ?_, ?_⟩, fun e => by omega, fun e => by omega⟩
      · rw [jgi_ne (by omega), r5, jgi_ne (by omega)]; exact q5
      · rw [jgi_eq, k1]; rfl
      · rw [jgi_ne (by omega)]; exact r7
      · rw [jgl_jsi]; exact r9
      · rw [jgi_ne (by omega)]; exact r3
    · rw [if_neg (c := st < P.1 ∧ gL (P.2 st) = true) (fun z => a z.2), if_pos rfl, m_isD hT2, jcb_s2, jlt_eq] at st1
      have b45 : bt P st = 45 ↔ (st < P.1 ∧ P.2 st = 45) := bt_is (p := st) (b := 45) hT2 (by decide)
      have b59 : bt P st = 59 ↔ (st < P.1 ∧ P.2 st = 59) := bt_is (p := st) (b := 59) hT2 (by decide)
      by_cases d : gD (P.2 st) = true ∨ P.2 st = 45
      · obtain ⟨w3, e3, g3, r5, r4, r6, r10, r3⟩ := m_readNum hT2 c q3 q5
        have st2 : f_X9_next w = some ((), w3) := by
          rw [st1]
          by_cases d1 : gD (P.2 st) = true
          · rw [if_pos (c := st < P.1 ∧ gD (P.2 st) = true) ⟨c, d1⟩, if_neg n10]
            dsimp only
            rw [e3, jcb_s2]
          · rw [if_neg (c := st < P.1 ∧ gD (P.2 st) = true) (fun z => d1 z.2), if_pos rfl, if_pos (b45.mpr ⟨c, d.resolve_left d1⟩)]
            dsimp only
            rw [e3, jcb_s2]
        refine ⟨w3, st2, s2.trans g3, r5, hst, nb, ?_, fun e => ?_, fun e => ?_, fun e => ?_⟩
        · unfold tK
          rw [if_pos c, if_neg a, if_pos d, r4]
          split <;> rfl
        · unfold tK at e
          rw [if_pos c, if_neg a, if_pos d] at e
          split at e <;> omega
        · unfold tK at e
          rw [if_pos c, if_neg a, if_pos d] at e
          split at e
          · rename_i z
            exact ⟨r6 z.2, r10, r3⟩
          · omega
        · unfold tK at e
          rw [if_pos c, if_neg a, if_pos d] at e
          split at e <;> omega
      · have d1 : ¬ gD (P.2 st) = true := fun z => d (Or.inl z)
        have d2 : ¬ P.2 st = 45 := fun z => d (Or.inr z)
        rw [if_neg (c := st < P.1 ∧ gD (P.2 st) = true) (fun z => d1 z.2), if_pos rfl, if_neg (fun z => d2 (b45.mp z).2), jlt_eq, q3, jlt_eq, nI_1] at st1
        by_cases f : P.2 st = 59
        · have k3 : tK P st = 3 := by unfold tK; rw [if_pos c, if_neg a, if_neg d, if_pos f]
          rw [if_pos (b59.mpr ⟨c, f⟩), jlt_eq] at st1
          refine ⟨_, st1, (s2.trans (pSame.jsi (by unfold KTk; omega))).trans (pSame.jsi (by unfold KTk; omega)), ?_, hst, nb, ?_, fun e => by omega, fun e => by omega, fun e => ?_⟩
          · rw [jgi_ne (by omega), jgi_ne (by omega)]; exact q5
          · rw [jgi_eq, k3]; rfl
          · rw [jgi_ne (by omega), jgi_eq]
        · have k4 : tK P st = 4 := by unfold tK; rw [if_pos c, if_neg a, if_neg d, if_neg f]
          rw [if_neg (fun z => f (b59.mp z).2), jlt_eq] at st1
          refine ⟨_, st1, (s2.trans (pSame.jsi (by unfold KTk; omega))).trans (pSame.jsi (by unfold KTk; omega)), ?_, hst, nb, ?_, fun e => by omega, fun e => by omega, fun e => by omega⟩
          · rw [jgi_ne (by omega), jgi_ne (by omega)]; exact q5
          · rw [jgi_eq, k4]; rfl
  · have k0 : tK P st = 0 := by unfold tK; rw [if_neg c]
    have bm : bt P st = -1 := by unfold bt; rw [if_neg c]
    rw [if_pos bm, jlt_eq] at st1
    refine ⟨_, st1, s2.trans (pSame.jsi (by unfold KTk; omega)), ?_, hst, nb, ?_, fun e => by omega, fun e => by omega, fun e => by omega⟩
    · rw [jgi_ne (by omega)]; exact q5
    · rw [jgi_eq, k0]; rfl
end NEXT
