/-! the pure law: the component reads a number -/
section CNUM
variable {w w' : j_St} {P : pP} {n : Nat}
theorem tN_no {s : Nat} (h : ¬ (s < P.1 ∧ gD (P.2 s) = true)) : tE gD P s - s = 0 := by rw [tE_F h, Nat.sub_self]
theorem c_number (hT : TpC P w) {p : Nat} (hp : jgi w 8 n 0 = nI p) (h4 : p ≤ P.1) (neg : Bool) {mx : Nat} (hmx : mx < 1000) :
    (nOk P neg mx (tE gS P p) → ∃ w', f_X10_number n (pB neg) (nI mx) w = some (.inr (tV P (tE gS P p)), w') ∧ pSame (KY n) w w' ∧ jgi w' 8 n 0 = nI (tE gD P (tS P (tE gS P p)))) ∧
    (¬ nOk P neg mx (tE gS P p) → ∃ m w', f_X10_number n (pB neg) (nI mx) w = some (.inl m, w') ∧ pSame (KY n) w w' ∧ jgi w' 9 m 6 = nI (tE gS P p)) := by
  have hL := hT.2.2.1
  obtain ⟨w1, e1, s1, p1⟩ := c_peek hT hp h4
  have hst : tE gS P p ≤ P.1 := tE_le h4
  generalize tE gS P p = st at e1 p1 hst
  have hT1 := hT.rd s1
  have sy : pSame (KY n) w w1 := s1.mono fun κ i k y => Or.inl y
  have b45 : bt P st = 45 ↔ (st < P.1 ∧ P.2 st = 45) := by
    unfold bt
    by_cases c : st < P.1
    · have := hT.2.2.2 st c
      rw [if_pos c]
      exact ⟨fun z => ⟨c, (nI_eq (b := 45) (by omega) (by omega)).mp z⟩, fun z => (nI_eq (b := 45) (by omega) (by omega)).mpr z.2⟩
    · rw [if_neg c]
      exact ⟨fun z => absurd z (by decide), fun z => absurd z.1 c⟩
  have sg : ¬ gD 45 = true := by decide
  by_cases q : neg = true ∧ st < P.1 ∧ P.2 st = 45
  · obtain ⟨qn, qs, q45⟩ := q
    have s2 : pSame (KR n) w1 (jsi w1 8 n 0 (nI (st + 1))) := pSame.jsi ⟨rfl, rfl, rfl⟩
    have tSe : tS P st = st + 1 := if_pos q45
    have go := c_numIn (v8 := 1) (v4 := nI st) (s := st + 1) (mx := mx) (hT1.rd s2) (w := jsi w1 8 n 0 (nI (st + 1))) jgi_eq (by omega) hmx
    have k2 : tK P st = 2 ↔ 1 ≤ tN P st ∧ tN P st ≤ 3 := by
      unfold tK
      rw [if_pos qs, if_neg (by rw [q45]; decide), if_pos (Or.inr q45)]
      by_cases c : 1 ≤ tN P st ∧ tN P st ≤ 3
      · rw [if_pos c]; exact ⟨fun _ => c, fun _ => rfl⟩
      · rw [if_neg c]; exact ⟨fun z => absurd z (by decide), fun z => absurd z c⟩
    have ok : nOk P neg mx st ↔ (1 ≤ tE gD P (st + 1) - (st + 1) ∧ tE gD P (st + 1) - (st + 1) ≤ 3 ∧ nv P (st + 1) (tE gD P (st + 1) - (st + 1)) ≤ mx) := by
      unfold nOk
      rw [k2]
      unfold tN
      rw [tSe, qn]
      exact ⟨fun z => ⟨z.1.1, z.1.2, z.2.2⟩, fun z => ⟨⟨z.1, z.2.1⟩, fun c => Bool.noConfusion c, z.2.2⟩⟩
    have st1 : ∀ res, f_X10_number_L52 n (nI (st + 1)) (fun (v42 : Int32) (c46 : Nat) (c47 : Nat) (w43 : j_St) => jlt (jgi w43 8 n 0) fun v48 => if c46 ≤ 1 ∧ c47 ≤ 7 then jcb (f_X1_isIn ((v48 - nI (st + 1)).toInt64) 1 3 w43) fun v49 w50 => jlt (fun (c58 : Nat) (c59 : Nat) (w55 : j_St) => jlt (jgn w55 109 0) fun n60 => jlt (jbump w55 9) fun w62 => if c58 + 1 ≤ 1 ∧ c59 + 7 ≤ 7 then jlt (jnw w62 9 n60 0) fun w67 => if c58 + 1 + 0 ≤ 1 ∧ c59 + 7 + 0 ≤ 7 then jcb (f_X12_init n60 (nI st) w67) fun _ w71 => if c58 + 1 + 0 ≤ 1 ∧ c59 + 7 + 0 ≤ 7 then some (.inl n60, w71) else none else none else none) fun K135 => if v49 = 0 then K135 c46 c47 w50 else if v42 ≤ nI mx then if (1 : Int32) = 0 then if c46 ≤ 1 ∧ c47 ≤ 7 then some (.inr v42, w50) else none else if c46 ≤ 1 ∧ c47 ≤ 7 then some (.inr (-v42), w50) else none else K135 c46 c47 w50 else none) jFU 0 0 0 (jsi w1 8 n 0 (nI (st + 1))) = res → f_X10_number n (pB neg) (nI mx) w = res := fun res hr => by
      rw [f_X10_number, e1, jcb_s2, jlt_eq, p1, jlt_eq, jlt_eq, qn, if_neg (show ¬ pB true = 0 by decide), if_pos (b45.mpr ⟨qs, q45⟩)]
      dsimp only
      rw [jlt_eq, if_neg n10, jlt_eq, p1, jlt_eq, nI_1]
      dsimp only
      rw [jlt_eq, jgi_eq]
      exact hr
    have tv : tV P st = -nI (nv P (st + 1) (tE gD P (st + 1) - (st + 1))) := by
      unfold tV tN
      rw [if_pos q45, tSe]
    refine ⟨fun h => ?_, fun h => ?_⟩
    · obtain ⟨w2, e2, g2, p2⟩ := go.1 (ok.mp h)
      rw [if_neg n10] at e2
      exact ⟨w2, by rw [tv]; exact st1 _ e2, (sy.trans (s2.mono fun κ i k y => Or.inl y)).trans g2, by rw [tSe]; exact p2⟩
    · obtain ⟨m, w2, e2, g2, p2⟩ := go.2 (fun z => h (ok.mpr z))
      exact ⟨m, w2, st1 _ e2, (sy.trans (s2.mono fun κ i k y => Or.inl y)).trans g2, p2⟩
  · have go := c_numIn (v8 := 0) (v4 := nI st) (s := st) (mx := mx) hT1 p1 hst hmx
    have st1 : ∀ res, f_X10_number_L52 n (nI st) (fun (v42 : Int32) (c46 : Nat) (c47 : Nat) (w43 : j_St) => jlt (jgi w43 8 n 0) fun v48 => if c46 ≤ 1 ∧ c47 ≤ 7 then jcb (f_X1_isIn ((v48 - nI st).toInt64) 1 3 w43) fun v49 w50 => jlt (fun (c58 : Nat) (c59 : Nat) (w55 : j_St) => jlt (jgn w55 109 0) fun n60 => jlt (jbump w55 9) fun w62 => if c58 + 1 ≤ 1 ∧ c59 + 7 ≤ 7 then jlt (jnw w62 9 n60 0) fun w67 => if c58 + 1 + 0 ≤ 1 ∧ c59 + 7 + 0 ≤ 7 then jcb (f_X12_init n60 (nI st) w67) fun _ w71 => if c58 + 1 + 0 ≤ 1 ∧ c59 + 7 + 0 ≤ 7 then some (.inl n60, w71) else none else none else none) fun K135 => if v49 = 0 then K135 c46 c47 w50 else if v42 ≤ nI mx then if (0 : Int32) = 0 then if c46 ≤ 1 ∧ c47 ≤ 7 then some (.inr v42, w50) else none else if c46 ≤ 1 ∧ c47 ≤ 7 then some (.inr (-v42), w50) else none else K135 c46 c47 w50 else none) jFU 0 0 0 w1 = res → f_X10_number n (pB neg) (nI mx) w = res := fun res hr => by
      rw [f_X10_number, e1, jcb_s2, jlt_eq, p1, jlt_eq, jlt_eq]
      cases hn : neg with
      | false =>
        rw [if_pos (show pB false = 0 from rfl)]
        dsimp only
        rw [jlt_eq, if_pos rfl]
        dsimp only
        rw [jlt_eq, p1]
        exact hr
      | true =>
        rw [if_neg (show ¬ pB true = 0 by decide), if_neg (fun z => q ⟨hn, b45.mp z⟩)]
        dsimp only
        rw [jlt_eq, if_pos rfl]
        dsimp only
        rw [jlt_eq, p1]
        exact hr
    have ok : nOk P neg mx st ↔ (1 ≤ tE gD P st - st ∧ tE gD P st - st ≤ 3 ∧ nv P st (tE gD P st - st) ≤ mx) := by
      unfold nOk tK
      by_cases c : st < P.1
      · rw [if_pos c]
        by_cases a : gL (P.2 st) = true
        · rw [if_pos a]
          have nd : ¬ (st < P.1 ∧ gD (P.2 st) = true) := fun z => by
            have := gL_iff.mp a
            have := gD_iff.mp z.2
            omega
          rw [tN_no nd]
          exact ⟨fun z => absurd z.1 (by decide), fun z => absurd z.1 (by decide)⟩
        · rw [if_neg a]
          by_cases d : gD (P.2 st) = true
          · have n45 : ¬ P.2 st = 45 := fun z => by rw [z] at d; exact sg d
            have tSe : tS P st = st := if_neg n45
            rw [if_pos (Or.inl d)]
            unfold tN
            rw [tSe]
            by_cases e : 1 ≤ tE gD P st - st ∧ tE gD P st - st ≤ 3
            · rw [if_pos e]
              exact ⟨fun z => ⟨e.1, e.2, z.2.2⟩, fun z => ⟨rfl, fun _ => n45, z.2.2⟩⟩
            · rw [if_neg e]
              exact ⟨fun z => absurd z.1 (by decide), fun z => absurd ⟨z.1, z.2.1⟩ e⟩
          · rw [tN_no (fun z => d z.2)]
            refine ⟨fun z => ?_, fun z => absurd z.1 (by decide)⟩
            by_cases e : P.2 st = 45
            · cases hn : neg with
              | false => exact absurd e (z.2.1 hn)
              | true => exact absurd ⟨hn, c, e⟩ q
            · rw [if_neg (fun y => y.elim d e)] at z
              split at z <;> exact absurd z.1 (by decide)
      · rw [if_neg c, tN_no (fun z => c z.1)]
        exact ⟨fun z => absurd z.1 (by decide), fun z => absurd z.1 (by decide)⟩
    refine ⟨fun h => ?_, fun h => ?_⟩
    · have h' := ok.mp h
      obtain ⟨w2, e2, g2, p2⟩ := go.1 h'
      have n45 : ¬ P.2 st = 45 := fun z => by
        have c : st < P.1 ∧ gD (P.2 st) = true := Classical.byContradiction fun c => by
          have := tN_no c
          omega
        rw [z] at c
        exact sg c.2
      have tSe : tS P st = st := if_neg n45
      rw [if_pos rfl] at e2
      refine ⟨w2, ?_, sy.trans g2, by rw [tSe]; exact p2⟩
      have tv : tV P st = nI (nv P st (tE gD P st - st)) := by
        unfold tV tN
        rw [if_neg n45, tSe]
      rw [tv]
      exact st1 _ e2
    · obtain ⟨m, w2, e2, g2, p2⟩ := go.2 (fun z => h (ok.mpr z))
      exact ⟨m, w2, st1 _ e2, sy.trans g2, p2⟩
end CNUM
