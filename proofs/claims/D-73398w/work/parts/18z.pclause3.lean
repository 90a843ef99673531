/-! the pure law: a clause that may not stand there; where one goes on -/
section CLB
variable {w w' w0 : j_St} {P : pP} {n t p st b j ln : Nat}
/-- may this clause stand here -/
def clOk (b j ln : Nat) : Prop := ¬ (j < 3 ∧ b.testBit j = true) ∧ (j = 3 → ln ≠ 8)
theorem c_thrI {v : Int32} : ∃ w', (jlt (jgn w 109 0) fun n77 => jlt (jbump w 9) fun w79 => jlt (jnw w79 9 n77 0) fun w84 => jcb (f_X12_init n77 v w84) fun _ w87 => some ((Sum.inl n77 : Nat ⊕ Int32), w87)) = some (.inl (jgn w 109 0), w') ∧ pSame (KY n) w w' ∧ jgi w' 9 (jgn w 109 0) 6 = v := ⟨_, by rw [jlt_eq, jlt_eq, jlt_eq, c_wrong, jcb_s2], wr_same, jgi_eq⟩
theorem bC_ne (j : Nat) : ¬ bC j = -1 := by unfold bC; repeat' split
                                            all_goals decide
theorem bC_0 (hj : j < 4) : bC j = 0 ↔ j = 3 := by
  rcases (show j = 0 ∨ j = 1 ∨ j = 2 ∨ j = 3 by omega) with rfl | rfl | rfl | rfl <;> decide
/-- the component's switch -/
theorem cC_sw (hj : j < 4) {p2 v4 : Int32} : cC n t p2 v4 (nI j) w = (jlt (fun (w74 : j_St) => jlt (jgn w74 109 0) fun n77 => jlt (jbump w74 9) fun w79 => jlt (jnw w79 9 n77 0) fun w84 => jcb (f_X12_init n77 v4 w84) fun _ w87 => some ((Sum.inl n77 : Nat ⊕ Int32), w87)) fun K214 => if bC j = (-1) then K214 w else if p2 &&& bC j = 0 then jlt (fun (w41 : j_St) => jlt (fun (w71 : j_St) => some (.inr (p2 ||| bC j), w71)) fun K287 => if bC j = 1 then jcx (f_X10_samples n (2 * t + 2) w41) fun _ w66 => K287 w66 else if bC j = 2 then jcx (f_X10_number n 0 999 w41) fun v57 w58 => jlt (jsi w58 6 t 4 v57) fun w63 => K287 w63 else if bC j = 4 then jcx (f_X10_number n 0 9 w41) fun v50 w51 => jlt (jsi w51 6 t 5 v50) fun w56 => K287 w56 else jcx (f_X10_line n t w41) fun _ w45 => K287 w45) fun K224 => if bC j = 0 then jlt (jgi w 6 t 3) fun v40 => if v40 = 8 then K214 w else K224 w else K224 w else K214 w) := by
  rcases (show j = 0 ∨ j = 1 ∨ j = 2 ∨ j = 3 by omega) with rfl | rfl | rfl | rfl <;> rfl
theorem cC_none {p2 v4 : Int32} : ∃ w', cC n t p2 v4 (-1) w = some (.inl (jgn w 109 0), w') ∧ pSame (KY n) w w' ∧ jgi w' 9 (jgn w 109 0) 6 = v4 := by
  obtain ⟨w', e, r⟩ := c_thrI (n := n) (w := w) (v := v4)
  exact ⟨w', e, r⟩
theorem cC_bad (hj : j < 4) (hb : b < 16) (h3 : jgi w 6 t 3 = nI ln) (hl : ln ≤ 8) (h : ¬ clOk b j ln) {v4 : Int32} : ∃ w', cC n t (nI (b % 8)) v4 (nI j) w = some (.inl (jgn w 109 0), w') ∧ pSame (KY n) w w' ∧ jgi w' 9 (jgn w 109 0) 6 = v4 := by
  obtain ⟨w', e, r⟩ := c_thrI (n := n) (w := w) (v := v4)
  refine ⟨w', ?_, r⟩
  obtain ⟨-, b2, -⟩ := bits_all hb hj
  rw [cC_sw hj, jlt_eq, if_neg (bC_ne j)]
  by_cases c : j < 3 ∧ b.testBit j = true
  · rw [if_neg (fun z => (b2.mp z) c)]
    exact e
  · have j3 : j = 3 ∧ ln = 8 := by
      refine Classical.byContradiction fun z => h ⟨c, fun a q => z ⟨a, q⟩⟩
    rw [if_pos (b2.mpr c), jlt_eq, if_pos ((bC_0 hj).mpr j3.1), jlt_eq, h3, if_pos (show nI ln = 8 by rw [j3.2]; rfl)]
    exact e
theorem cC_go (hj : j < 4) (hb : b < 16) (h3 : jgi w 6 t 3 = nI ln) (hl : ln ≤ 8) (h : clOk b j ln) {v4 : Int32} : cC n t (nI (b % 8)) v4 (nI j) w = (jlt (fun (w71 : j_St) => some ((Sum.inr (nI ((b ||| 2 ^ j) % 8)) : Nat ⊕ Int32), w71)) fun K287 => if bC j = 1 then jcx (f_X10_samples n (2 * t + 2) w) fun _ w66 => K287 w66 else if bC j = 2 then jcx (f_X10_number n 0 999 w) fun v57 w58 => jlt (jsi w58 6 t 4 v57) fun w63 => K287 w63 else if bC j = 4 then jcx (f_X10_number n 0 9 w) fun v50 w51 => jlt (jsi w51 6 t 5 v50) fun w56 => K287 w56 else jcx (f_X10_line n t w) fun _ w45 => K287 w45) := by
  obtain ⟨-, b2, -, b4, -⟩ := bits_all hb hj
  rw [cC_sw hj, jlt_eq, if_neg (bC_ne j), if_pos (b2.mpr h.1), jlt_eq, b4]
  by_cases c : j = 3
  · rw [if_pos ((bC_0 hj).mpr c), jlt_eq, h3, if_neg (show ¬ nI ln = 8 from fun z => h.2 c ((nI_eq (b := 8) (by omega) (by omega)).mp z))]
  · rw [if_neg (fun z => c ((bC_0 hj).mp z))]
/-- the model's switch -/
theorem mC_none (h8 : jgi w 1 0 8 = -1) (h5 : jgi w 1 0 5 = nI st) {p1 : Int32} : mC p1 (-1) w = some (p1, jsi w 1 0 8 (nI st)) := by
  rw [mC, jlt_eq, if_pos rfl]
  dsimp only
  rw [m_bad h8, jcb_s2, h5]
theorem m_hasb (hb : b < 16) (hj : j < 3) : f_X9_has (nI b) (nI j) w = some (if b.testBit j = true then 1 else 0, w) := by
  obtain ⟨b1, -⟩ := bits_all hb (show j < 4 by omega)
  rw [f_X9_has]
  by_cases c : b.testBit j = true
  · rw [if_pos ((b1 hj).mpr c), if_pos c]
  · rw [if_neg (fun z => c ((b1 hj).mp z)), if_neg c]
theorem mC_bad (hj : j < 4) (hb : b < 16) (h16 : jgi w 1 0 16 = nI ln) (hl : ln ≤ 8) (h8 : jgi w 1 0 8 = -1) (h5 : jgi w 1 0 5 = nI st) (h : ¬ clOk b j ln) : mC (nI b) (nI j) w = some (nI b, jsi w 1 0 8 (nI st)) := by
  rw [mC, jlt_eq, if_neg (nI_ne1 (by omega)), jlt_eq]
  by_cases c : j < 3
  · have t : b.testBit j = true := Classical.byContradiction fun z => h ⟨fun y => z y.2, fun y => by omega⟩
    rw [if_neg (show ¬ (3 : Int32) ≤ nI j from fun z => by have := (nI_leI (a := 3) (by omega) (by omega)).mp z; omega), m_hasb hb c, if_pos t, jcb_s2, if_neg n10]
    dsimp only
    rw [m_bad h8, jcb_s2, h5]
  · have j3 : j = 3 := by omega
    have l8 : ln = 8 := Classical.byContradiction fun z => h ⟨fun y => c y.1, fun _ => z⟩
    subst j3
    rw [if_pos (show (3 : Int32) ≤ nI 3 by decide)]
    dsimp only
    rw [jlt_eq, if_pos (show nI 3 = 3 from rfl), jlt_eq, h16, if_pos (show nI ln = 8 by rw [l8]; rfl), m_bad h8, jcb_s2, h5]
theorem mC_go (hj : j < 4) (hb : b < 16) (h16 : jgi w 1 0 16 = nI ln) (hl : ln ≤ 8) (h : clOk b j ln) : mC (nI b) (nI j) w = jcb (f_X9_next w) fun _ w22 => jlt (fun (w38 : j_St) => some (nI (b ||| 2 ^ j), w38)) fun K168 => if nI j = 0 then jcb (f_X9_readSamples w22) fun _ w25 => K168 w25 else if nI j = 1 then jcb (f_X9_number 0 999 w22) fun v27 w28 => jlt (jsi w28 1 0 17 v27) fun w30 => K168 w30 else if nI j = 2 then jcb (f_X9_number 0 9 w22) fun v31 w32 => jlt (jsi w32 1 0 18 v31) fun w34 => K168 w34 else jcb (f_X9_readLine w22) fun _ w36 => K168 w36 := by
  obtain ⟨-, -, b3, -, -⟩ := bits_all hb hj
  rw [mC, jlt_eq, if_neg (nI_ne1 (by omega)), jlt_eq, b3]
  by_cases c : j < 3
  · have t : ¬ b.testBit j = true := fun z => h.1 ⟨c, z⟩
    rw [if_neg (show ¬ (3 : Int32) ≤ nI j from fun z => by have := (nI_leI (a := 3) (by omega) (by omega)).mp z; omega), m_hasb hb c, if_neg t, jcb_s2, if_pos rfl]
    dsimp only
    rw [jlt_eq, if_neg (show ¬ nI j = 3 from fun z => by have := (nI_eq (b := 3) (by omega) (by omega)).mp z; omega)]
  · have j3 : j = 3 := by omega
    subst j3
    rw [if_pos (show (3 : Int32) ≤ nI 3 by decide)]
    dsimp only
    rw [jlt_eq, if_pos (show nI 3 = 3 from rfl), jlt_eq, h16, if_neg (show ¬ nI ln = 8 from fun z => h.2 rfl ((nI_eq (b := 8) (by omega) (by omega)).mp z))]
end CLB
