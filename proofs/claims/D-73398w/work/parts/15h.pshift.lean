/-! the pure law: lines that are matched, the best shift -/
section SHIFT
variable {w w' : j_St} {A : pA} {X : pX} {s : Nat → Nat} {n z : Nat} {lp : Nat → Int32} {ln : Nat} {rc : Int32}
def KB (κ i k : Nat) : Prop := i = 0 ∧ (κ = 59 ∨ κ = 60 ∨ (κ = 1 ∧ k = 41))
theorem pMP.sameB (h : pMP w s n z) (g : pSame KB w w') : pMP w' s n z := by
  obtain ⟨p1, p2, p3, p4, p5⟩ := h
  refine ⟨?_, ?_, fun k hk => ?_, fun k hk => ?_, fun c hc => ?_⟩
  · rw [g.1 _ _ _ (by unfold KB; omega)]; exact p1
  · rw [g.1 _ _ _ (by unfold KB; omega)]; exact p2
  · rw [g.1 _ _ _ (by unfold KB; omega)]; exact p3 k hk
  · rw [g.1 _ _ _ (by unfold KB; omega)]; exact p4 k hk
  · rw [g.1 52 _ _ (by unfold KB; omega), g.1 53 _ _ (by unfold KB; omega), g.1 54 _ _ (by unfold KB; omega), g.1 55 _ _ (by unfold KB; omega)]; exact p5 c hc
theorem mkA_M {S : pS} {N : pN} {M M' : pM} {κ i k : Nat} (h : ¬ KB κ i k) : jgi (mkA w S N M') κ i k = jgi (mkA w S N M) κ i k := by
  unfold KB at h
  by_cases hy : i = 0
  · subst hy
    have c8 : ¬ κ = 59 := by omega
    have c9 : ¬ κ = 60 := by omega
    have d3 : ¬ (κ = 1 ∧ k = 41) := by omega
    simp [jgi, mkA, mkS, mk1, mk2, mk3, c8, c9, d3]
  · simp [jgi, mkA, mkS, mk1, mk2, mk3, hy]
/-- the model's lines are matched anew -/
theorem m_matches (hP : pMP w s n z) (hL : pLn w lp ln rc) (hA : WfA w) (h0 : 0 < n) (hn : n ≤ 48) {by_ : Int32} : ∃ w', f_X9_matches by_ w = some ((), w') ∧ pSame KB w w' ∧ pMP w' s n z ∧ pMl w' lp ln rc by_ s n z ∧ WfA w' := by
  obtain ⟨S, N, M, e, a1, a2⟩ := hA
  have hcm := cM_le (s := s) h0
  have hck := cK_le (s := s) (n := n) (z := z)
  have rd : ∀ κ i k, jgi w κ i k = jgi (mkA w S N M) κ i k := fun κ i k => congrArg (fun u => jgi u κ i k) e
  have e2 : w = mkA w (fun c => if c < cM s n then cPl s n c else S.1 c, S.2.1, S.2.2.1, S.2.2.2.1, S.2.2.2.2.1, cM s n) (fun k => if k < cM s n then cW s n k else N.1 k, N.2.1, cK s n z) M := by
    refine mkA_self (fun k => ?_) (fun k => ?_) (fun k => ?_) (fun k => ?_) (fun k => ?_) ?_ (fun k => ?_) (fun k => ?_) ?_ (fun k => ?_) (fun k => ?_) ?_
    · show _ = nI (if k < cM s n then cPl s n k else S.1 k)
      by_cases c : k < cM s n
      · rw [if_pos c]; exact (hP.2.2.2.2 k c).1
      · rw [if_neg c, rd, mkA_52]
    · rw [rd, mkA_53]
    · rw [rd, mkA_54]
    · rw [rd, mkA_55]
    · rw [rd]; rfl
    · exact hP.1
    · show _ = nI (if k < cM s n then cW s n k else N.1 k)
      by_cases c : k < cM s n
      · rw [if_pos c]; exact hP.2.2.1 k c
      · rw [if_neg c, rd, mkA_57]
    · rw [rd, mkA_58]
    · exact hP.2.1
    · rw [rd, mkA_59]
    · rw [rd, mkA_60]
    · rw [rd, mkA_t]
  have hw : ∀ j, j < cM s n → (if j < cM s n then cW s n j else N.1 j) < 48 := fun j hj => by
    rw [if_pos hj]
    have := cW_lt (s := s) h0 hj
    omega
  have hm := sp_matches (w := w) (S := (fun c => if c < cM s n then cPl s n c else S.1 c, S.2.1, S.2.2.1, S.2.2.2.1, S.2.2.2.2.1, cM s n)) (N := (fun k => if k < cM s n then cW s n k else N.1 k, N.2.1, cK s n z)) (M := M) (by_ := by_) hL (show cM s n ≤ 48 by omega) hw (show cK s n z ≤ 48 by omega) a2
  rw [← e2] at hm
  have g : pSame KB w (mkA w (fun c => if c < cM s n then cPl s n c else S.1 c, S.2.1, S.2.2.1, S.2.2.2.1, S.2.2.2.2.1, cM s n) (fun k => if k < cM s n then cW s n k else N.1 k, N.2.1, cK s n z) (pMa lp ln rc by_ (fun c => if c < cM s n then cPl s n c else S.1 c, S.2.1, S.2.2.1, S.2.2.2.1, S.2.2.2.2.1, cM s n) (fun k => if k < cM s n then cW s n k else N.1 k, N.2.1, cK s n z) M)) := ⟨fun κ i k h => by rw [mkA_M (M := M) h, ← e2], fun _ _ _ _ => rfl, fun _ _ _ _ => rfl, fun _ _ _ => rfl⟩
  refine ⟨_, hm, g, hP.sameB g, ?_, ?_⟩
  · refine pMa_ml hL.2.2.2 rfl (fun k hk => ?_) rfl
    show (if (if k < cM s n then cW s n k else N.1 k) < cM s n then cPl s n (if k < cM s n then cW s n k else N.1 k) else _) = _
    rw [if_pos hk, if_pos (cW_lt h0 hk)]
    rfl
  · refine mkA_Wf a1 ?_
    unfold pMa
    exact pMt_sm (S := (fun c => if c < cM s n then cPl s n c else S.1 c, S.2.1, S.2.2.1, S.2.2.2.1, S.2.2.2.2.1, cM s n)) (show cM s n ≤ 48 by omega) (cM s n) 0 (M.1, pBe0 8 M.2.1, 0) (Nat.zero_add _) fun q => by
      show pSm (if q < 8 then none else M.2.1 q)
      split
      · exact pSm_none
      · exact a2 q
/-- bits -/
def pBit (b : Nat → Bool) (l : Nat) (x : Int32) : Int32 := x ||| (if b l = true then (1 : Int32) <<< (nI l &&& 31) else 0)
def cBits (b : Nat → Bool) (ln : Nat) : Int32 := pIt (pBit b) ln 0 0
def pB8 (b0 b1 b2 b3 b4 b5 b6 b7 : Bool) (l : Nat) : Bool := match l with
  | 0 => b0
  | 1 => b1
  | 2 => b2
  | 3 => b3
  | 4 => b4
  | 5 => b5
  | 6 => b6
  | _ => b7
theorem pB8_all : ∀ b0 b1 b2 b3 b4 b5 b6 b7 : Bool, ∀ ln : Fin 9, cBits (pB8 (!b0) (!b1) (!b2) (!b3) (!b4) (!b5) (!b6) (!b7)) ln.val = (((1 : Int32) <<< (nI ln.val &&& 31)) - 1) &&& (cBits (pB8 b0 b1 b2 b3 b4 b5 b6 b7) ln.val ^^^ (-1)) := by decide +kernel
theorem cBits_8 {b : Nat → Bool} {ln : Nat} (h : ln ≤ 8) : cBits b ln = cBits (pB8 (b 0) (b 1) (b 2) (b 3) (b 4) (b 5) (b 6) (b 7)) ln := pIt_congr ln 0 0 fun j y _ hj => by
  unfold pBit
  have : b j = pB8 (b 0) (b 1) (b 2) (b 3) (b 4) (b 5) (b 6) (b 7) j := by
    rcases (show j = 0 ∨ j = 1 ∨ j = 2 ∨ j = 3 ∨ j = 4 ∨ j = 5 ∨ j = 6 ∨ j = 7 by omega) with rfl | rfl | rfl | rfl | rfl | rfl | rfl | rfl <;> rfl
  rw [this]
theorem cBits_not {b : Nat → Bool} {ln : Nat} (h : ln ≤ 8) : cBits (fun l => !b l) ln = (((1 : Int32) <<< (nI ln &&& 31)) - 1) &&& (cBits b ln ^^^ (-1)) := by
  rw [cBits_8 (b := b) h, cBits_8 (b := fun l => !b l) h]
  exact pB8_all (b 0) (b 1) (b 2) (b 3) (b 4) (b 5) (b 6) (b 7) ⟨ln, by omega⟩
def cTb (X : pX) (T : pT) (l : Nat) : Bool := ((cMa (sI X.1) X.2.1 (nI X.2.2.1) 0 T.1 T.2.1 T.2.2.1).2.1 l).isSome
theorem cMt_sm {P : Nat → Nat} {kp : Nat} {by_ : Int32} : ∀ (c k : Nat) (M : pM), k + c ≤ 48 → (∀ q, pSm (M.2.1 q)) → ∀ q, pSm ((cMt lp ln rc by_ P kp c k M).2.1 q) := by
  intro c
  induction c with
  | zero => intro k M _ h; exact h
  | succ c ih =>
    intro k M hk h
    exact ih (k + 1) _ (by omega) (cMs_sm (by omega) h)
theorem cMa_sm (h0 : 0 < n) (hn : n ≤ 48) {by_ : Int32} (l : Nat) : pSm ((cMa lp ln rc by_ s n z).2.1 l) := cMt_sm _ _ _ (by have := cM_le (s := s) h0; omega) (fun _ => pSm_none) l
theorem pOI_some {x : Option Nat} (h : pSm x) : (pOI x = -1) = (x.isSome = false) := by
  rw [pOI_m1 h]
  cases x <;> simp
theorem c_lines (hC : RelC A w) (hA : wfA A) (hX : aX A = some X) {x : Int32} (b : Bool) (hb : x = pB b) : ∃ w', f_X1_lines x w = some (cBits (fun l => cTb X (aT A) l == b) X.2.1, w') ∧ cOK w w' := by
  obtain ⟨⟨l1, l2, l3, l4⟩, t1, t2, t3, t4, t5⟩ := hA.x hX
  obtain ⟨w1, e1, o1, p1⟩ := c_found hC hA hX
  have hC1 := hC.ok o1
  obtain ⟨t, ht, -⟩ := hC1.xt hX
  obtain ⟨w2, e2, o2, -, -, a2⟩ := c_matched hC1 hA hX p1 ht
  have hC2 := hC1.ok o2
  obtain ⟨t', ht', hx⟩ := hC2.xt hX
  refine ⟨w2, ?_, o1.trans o2⟩
  rw [f_X1_lines, e1, jcb_s2, jlt_eq, ht, job_s2, e2, jcb_s2]
  refine pIt_is' (F := fun f m y => f_X1_lines_L18 x f y (nI m) w2) (N := X.2.1) (G := fun y => some (y, w2)) (fun f m y hm => ?_) (fun f y => ?_) X.2.1 jFU 0 0 (by omega) (jFU_gt (by omega))
  · have e3 := pOI_some (cMa_sm (lp := sI X.1) (ln := X.2.1) (rc := nI X.2.2.1) (s := (aT A).1) (z := (aT A).2.2.1) (by_ := 0) t1 t2 m)
    have hr : jgr w2 0 0 7 = some t' := ht'
    have tb : cTb X (aT A) m = ((cMa (sI X.1) X.2.1 (nI X.2.2.1) 0 (aT A).1 (aT A).2.1 (aT A).2.2.1).2.1 m).isSome := rfl
    rw [← tb] at e3
    show f_X1_lines_L18 x (f + 1) y (nI m) w2 = f_X1_lines_L18 x f (pBit (fun l => cTb X (aT A) l == b) m y) (nI (m + 1)) w2
    rw [f_X1_lines_L18]
    subst hb
    have z1 : ((0 : Int32) = pB true) = False := eq_false (by decide)
    have z2 : ((0 : Int32) = pB false) = True := eq_true (by decide)
    have z3 : ((1 : Int32) = pB true) = True := eq_true (by decide)
    have z4 : ((1 : Int32) = pB false) = False := eq_false (by decide)
    unfold pBit
    cases h1 : cTb X (aT A) m with
    | true =>
      rw [h1] at e3
      have e4 : ((true = false) : Prop) = False := eq_false (by decide)
      rw [e4] at e3
      cases b with
      | true => simp (disch := omega) only [↓jlt_e2, hr, job_s2, hx.1.1, le_F, if_false, jbd_nI, a2 m hm, e3, z3, if_true, nI_1, h1, beq_self_eq_true, if_true]
      | false =>
        have : (true == false) = false := rfl
        simp (disch := omega) only [↓jlt_e2, hr, job_s2, hx.1.1, le_F, if_false, jbd_nI, a2 m hm, e3, z4, nI_1, h1, this, Bool.false_eq_true]
    | false =>
      rw [h1] at e3
      have e4 : ((false = false) : Prop) = True := eq_true rfl
      rw [e4] at e3
      cases b with
      | true =>
        have : (false == true) = false := rfl
        simp (disch := omega) only [↓jlt_e2, hr, job_s2, hx.1.1, le_F, if_false, if_true, jbd_nI, a2 m hm, e3, z1, nI_1, h1, this, Bool.false_eq_true]
      | false => simp (disch := omega) only [↓jlt_e2, hr, job_s2, hx.1.1, le_F, if_false, if_true, jbd_nI, a2 m hm, e3, z2, nI_1, h1, beq_self_eq_true, if_true]
  · show f_X1_lines_L18 x (f + 1) y (nI X.2.1) w2 = _
    rw [f_X1_lines_L18, jlt_eq, ht', job_s2, jlt_eq, hx.1.1, if_pos ((nI_leI (by omega) (by omega)).mpr (Nat.le_refl _))]
theorem m_matched_L (hM : RelM A w) (hA : wfA A) (hX : aX A = some X) (hl : pMl w (sI X.1) X.2.1 (nI X.2.2.1) 0 (aT A).1 (aT A).2.1 (aT A).2.2.1) : f_X9_matched_L8 jFU 0 0 w = some (cBits (cTb X (aT A)) X.2.1, w) := by
  obtain ⟨⟨l1, l2, l3, l4⟩, t1, t2, t3, t4, t5⟩ := hA.x hX
  have hln := (hM.xt hX).2.1.1
  refine pIt_is' (F := fun f m y => f_X9_matched_L8 f y (nI m) w) (N := X.2.1) (G := fun y => some (y, w)) (fun f m y hm => ?_) (fun f y => ?_) X.2.1 jFU 0 0 (by omega) (jFU_gt (by omega))
  · have e3 := pOI_some (cMa_sm (lp := sI X.1) (ln := X.2.1) (rc := nI X.2.2.1) (s := (aT A).1) (z := (aT A).2.2.1) (by_ := 0) t1 t2 m)
    have tb : cTb X (aT A) m = ((cMa (sI X.1) X.2.1 (nI X.2.2.1) 0 (aT A).1 (aT A).2.1 (aT A).2.2.1).2.1 m).isSome := rfl
    rw [← tb] at e3
    have g60 := hl.2.2 m (by omega)
    show f_X9_matched_L8 (f + 1) y (nI m) w = f_X9_matched_L8 f (pBit (cTb X (aT A)) m y) (nI (m + 1)) w
    rw [f_X9_matched_L8]
    unfold pBit
    cases h1 : cTb X (aT A) m with
    | true =>
      rw [h1] at e3
      have e4 : ((true = false) : Prop) = False := eq_false (by decide)
      rw [e4] at e3
      simp (disch := omega) only [↓jlt_e2, hln, le_F, if_false, jbd_nI, g60, e3, if_true, nI_1]
    | false =>
      rw [h1] at e3
      have e4 : ((false = false) : Prop) = True := eq_true rfl
      rw [e4] at e3
      simp (disch := omega) only [↓jlt_e2, hln, le_F, if_false, if_true, jbd_nI, g60, e3, nI_1, Bool.false_eq_true]
  · show f_X9_matched_L8 (f + 1) y (nI X.2.1) w = _
    rw [f_X9_matched_L8, jlt_eq, hln, if_pos ((nI_leI (by omega) (by omega)).mpr (Nat.le_refl _))]
theorem m_matched (hM : RelM A w) (hA : wfA A) (hX : aX A = some X) : ∃ w', f_X9_matched w = some (cBits (cTb X (aT A)) X.2.1, w') ∧ mOK w w' := by
  obtain ⟨w1, e1, o1, hn1, p1, ll1⟩ := m_found hM hA hX
  exact ⟨w1, by rw [f_X9_matched, e1, jcb_s2, m_matched_L (hM.ok o1) hA hX ll1], o1⟩
/-- missed -/
theorem q_missed (hA : wfA A) : pQry A f_X1_missed f_X9_missed := by
  cases hX : aX A with
  | none =>
    refine pQry_of (r := -1) (fun w hC => ⟨w, ?_, hC.self⟩) (fun w hM => ⟨w, ?_, hM.self⟩)
    · rw [f_X1_missed, jlt_eq, hC.x0 hX, jcs_n2]
    · rw [f_X9_missed, jlt_eq, (hM.x0 hX).1, if_pos rfl]
  | some X =>
    have l1 := (hA.x hX).1.1
    refine pQry_of (r := cBits (fun l => !cTb X (aT A) l) X.2.1) (fun w hC => ?_) (fun w hM => ?_)
    · obtain ⟨t, ht, -⟩ := hC.xt hX
      obtain ⟨w1, e1, o1⟩ := c_lines hC hA hX (x := 0) false rfl
      refine ⟨w1, ?_, o1⟩
      rw [f_X1_missed, jlt_eq, ht, jcs_s2, e1, jcb_s2]
      have : (fun l => cTb X (aT A) l == false) = fun l => !cTb X (aT A) l := by
        funext l
        cases cTb X (aT A) l <;> rfl
      rw [this]
    · obtain ⟨w1, e1, o1⟩ := m_matched hM hA hX
      refine ⟨w1, ?_, o1⟩
      rw [f_X9_missed, jlt_eq, (hM.xt hX).1, if_neg n10, jlt_eq, (hM.xt hX).2.1.1, e1, jcb_s2, cBits_not l1]
/-- shift: what is tried, one behind another -/
def pBy (m : Nat) : Int32 := if m % 2 = 1 then -nI ((m + 1) / 2) else nI (m / 2)
def cCnt (X : pX) (T : pT) (by_ : Int32) : Nat := (cMa (sI X.1) X.2.1 (nI X.2.2.1) by_ T.1 T.2.1 T.2.2.1).2.2
def pSh1 (X : pX) (T : pT) (by_ : Int32) (g : Int32 × Nat) : Int32 × Nat := if g.2 < cCnt X T by_ then (by_, cCnt X T by_) else g
def cSh (X : pX) (T : pT) : Int32 × Nat := pIt (fun m g => pSh1 X T (pBy m) g) 18 1 (0, cCnt X T 0)
theorem pIt_two {α : Type} {st : Nat → α → α} : ∀ (c m : Nat) (x : α), pIt st (2 * c) (2 * m + 1) x = pIt (fun f y => st (2 * f + 2) (st (2 * f + 1) y)) c m x := by
  intro c
  induction c with
  | zero => intro m x; rfl
  | succ c ih =>
    intro m x
    show pIt st (2 * c) (2 * m + 1 + 1 + 1) _ = pIt _ c (m + 1) _
    rw [show 2 * m + 1 + 1 + 1 = 2 * (m + 1) + 1 by omega, ih]
theorem cMt_le {P : Nat → Nat} {kp : Nat} {by_ : Int32} : ∀ (c k : Nat) (M : pM), (cMt lp ln rc by_ P kp c k M).2.2 ≤ M.2.2 + c := by
  intro c
  induction c with
  | zero => intro k M; exact Nat.le_refl _
  | succ c ih =>
    intro k M
    have h1 := ih (k + 1) (cMs lp ln rc by_ P kp k M)
    have h2 : (cMs lp ln rc by_ P kp k M).2.2 ≤ M.2.2 + 1 := by
      unfold cMs
      split
      · show M.2.2 ≤ M.2.2 + 1; omega
      · show M.2.2 + 1 ≤ M.2.2 + 1; omega
    show (cMt lp ln rc by_ P kp c (k + 1) (cMs lp ln rc by_ P kp k M)).2.2 ≤ _
    omega
theorem cCnt_le {T : pT} (h0 : 0 < T.2.1) (hn : T.2.1 ≤ 48) {by_ : Int32} : cCnt X T by_ ≤ 48 := by
  have h1 := cMt_le (lp := sI X.1) (ln := X.2.1) (rc := nI X.2.2.1) (by_ := by_) (P := cP T.1 T.2.1) (kp := cK T.1 T.2.1 T.2.2.1) (cM T.1 T.2.1) 0 (fun _ => none, fun _ => none, 0)
  have h2 := cM_le (s := T.1) h0
  have h3 : ((fun _ => none, fun _ => none, 0) : pM).2.2 = 0 := rfl
  unfold cCnt cMa
  omega
theorem pBy_sl {m : Nat} (h : m ≤ 18) : (pBy m).toInt = (if m % 2 = 1 then -(((m + 1) / 2 : Nat) : Int) else ((m / 2 : Nat) : Int)) := by
  have hd : ∀ y : Fin 19, (pBy y.val).toInt = (if y.val % 2 = 1 then -(((y.val + 1) / 2 : Nat) : Int) else ((y.val / 2 : Nat) : Int)) := by decide +kernel
  exact hd ⟨m, by omega⟩
theorem pSl_By {m k : Nat} (h0 : 0 < n) (hn : n ≤ 48) (hk : k < cM s n) (h : m ≤ 18) : pSl (nI (cP s n k) + pBy m) := by
  have hp := cP_lt (s := s) h0 hk
  have e := pBy_sl h
  have b : pSl (pBy m) := by
    unfold pSl
    rw [e]
    split <;> omega
  have e2 := pSl_add (pSl_nI (show cP s n k ≤ 10000 by omega)) b
  unfold pSl
  rw [e2, nI_toInt (by omega), e]
  split <;> omega
/-- component: matched by so much, again and again -/
theorem c_shift1 (hC : RelC A w) (hA : wfA A) (hX : aX A = some X) (hP : pCP w 0 1 (aT A).1 (aT A).2.1 (aT A).2.2.1) {m : Nat} (hm : m ≤ 18) {t : Nat} (ht : jgr w 0 0 7 = some t) : ∃ w', f_X5_matches 0 t (pBy m) w = some (nI (cCnt X (aT A) (pBy m)), w') ∧ cOK w w' ∧ pCP w' 0 1 (aT A).1 (aT A).2.1 (aT A).2.2.1 := by
  obtain ⟨hwX, t1, t2, t3, t4, t5⟩ := hA.x hX
  obtain ⟨t', ht', hx, -⟩ := hC.xt hX
  have : t' = t := Option.some.inj (ht'.symm.trans ht)
  subst this
  obtain ⟨w', e, g, -, -⟩ := cq_matches hx hP t1 t2 (by_ := pBy m) (fun k hk => pSl_By t1 t2 hk hm)
  exact ⟨w', e, cOK_T hC g, hP.same g (fun κ i k z => by unfold KT; omega)⟩
theorem c_shift_in (hC : RelC A w) (hA : wfA A) (hX : aX A = some X) (hP : pCP w 0 1 (aT A).1 (aT A).2.1 (aT A).2.2.1) {fa : Nat} (hfa : fa < 9) {kk : Int32 → Int32 → j_St → Option (Int32 × j_St)} (g : Int32 × Nat) (hg : g.2 ≤ 48) : ∃ w', f_X1_shift_L51 (nI (fa + 1)) kk jFU g.1 (nI g.2) (-1) w = kk (pSh1 X (aT A) (pBy (2 * fa + 2)) (pSh1 X (aT A) (pBy (2 * fa + 1)) g)).1 (nI (pSh1 X (aT A) (pBy (2 * fa + 2)) (pSh1 X (aT A) (pBy (2 * fa + 1)) g)).2) w' ∧ cOK w w' ∧ pCP w' 0 1 (aT A).1 (aT A).2.1 (aT A).2.2.1 := by
  obtain ⟨hwX, t1, t2, t3, t4, t5⟩ := hA.x hX
  have v1 : (-1 : Int32) * nI (fa + 1) = pBy (2 * fa + 1) := by
    have hd : ∀ y : Fin 9, (-1 : Int32) * nI (y.val + 1) = pBy (2 * y.val + 1) := by decide +kernel
    exact hd ⟨fa, hfa⟩
  have v2 : (1 : Int32) * nI (fa + 1) = pBy (2 * fa + 2) := by
    have hd : ∀ y : Fin 9, (1 : Int32) * nI (y.val + 1) = pBy (2 * y.val + 2) := by decide +kernel
    exact hd ⟨fa, hfa⟩
  obtain ⟨t, ht, -⟩ := hC.xt hX
  obtain ⟨w1, e1, o1, p1⟩ := c_shift1 hC hA hX hP (m := 2 * fa + 1) (by omega) ht
  have hC1 := hC.ok o1
  obtain ⟨t', ht', -⟩ := hC1.xt hX
  obtain ⟨w2, e2, o2, p2⟩ := c_shift1 hC1 hA hX p1 (m := 2 * fa + 2) (by omega) ht'
  refine ⟨w2, ?_, o1.trans o2, p2⟩
  have st : ∀ (b : Int32) (v : Int32) (w0 w0' : j_St) (t0 : Nat) (f : Nat) (mm : Nat) (g : Int32 × Nat), g.2 ≤ 48 → ¬ (1 : Int32) < v → v * nI (fa + 1) = pBy mm → jgr w0 0 0 7 = some t0 → f_X5_matches 0 t0 (pBy mm) w0 = some (nI (cCnt X (aT A) (pBy mm)), w0') → f_X1_shift_L51 (nI (fa + 1)) kk (f + 1) g.1 (nI g.2) v w0 = f_X1_shift_L51 (nI (fa + 1)) kk f (pSh1 X (aT A) (pBy mm) g).1 (nI (pSh1 X (aT A) (pBy mm) g).2) (v + 2) w0' := fun b v w0 w0' t0 f mm g hg h1 h2 h3 h4 => by
    have cl := cCnt_le (X := X) (T := aT A) (by_ := pBy mm) t1 t2
    rw [f_X1_shift_L51, if_neg h1, jlt_eq, h3, job_s2, h2, h4, jcb_s2, jlt_eq]
    unfold pSh1
    by_cases c : g.2 < cCnt X (aT A) (pBy mm)
    · rw [if_pos ((nI_ltI (by omega) (by omega)).mpr c), if_pos c, jlt_eq]
      rfl
    · rw [if_neg (fun z => c ((nI_ltI (by omega) (by omega)).mp z)), if_neg c]
      rfl
  have hg1 : (pSh1 X (aT A) (pBy (2 * fa + 1)) g).2 ≤ 48 := by
    have := cCnt_le (X := X) (T := aT A) (by_ := pBy (2 * fa + 1)) t1 t2
    unfold pSh1
    split
    · exact this
    · exact hg
  rw [show jFU = 19999 + 1 from rfl, st 0 (-1) w w1 t 19999 (2 * fa + 1) g hg (by decide) v1 ht e1, show (-1 : Int32) + 2 = 1 by decide, st 0 1 w1 w2 t' 19998 (2 * fa + 2) _ hg1 (by decide) v2 ht' e2, show (1 : Int32) + 2 = 3 by decide, f_X1_shift_L51, if_pos (by decide)]
theorem pSh1_le (h0 : 0 < (aT A).2.1) (hn : (aT A).2.1 ≤ 48) {by_ : Int32} {g : Int32 × Nat} (hg : g.2 ≤ 48) : (pSh1 X (aT A) by_ g).2 ≤ 48 := by
  have := cCnt_le (X := X) (T := aT A) (by_ := by_) h0 hn
  unfold pSh1
  split
  · exact this
  · exact hg
theorem c_shift_L (hA : wfA A) (hX : aX A = some X) {kk : Int32 → Int32 → j_St → Option (Int32 × j_St)} : ∀ (c f fa : Nat) (g : Int32 × Nat) (w : j_St), RelC A w → pCP w 0 1 (aT A).1 (aT A).2.1 (aT A).2.2.1 → fa + c = 9 → c < f → g.2 ≤ 48 → ∃ w', f_X1_shift_L41 kk f g.1 (nI g.2) (nI (fa + 1)) w = kk (pIt (fun f y => pSh1 X (aT A) (pBy (2 * f + 2)) (pSh1 X (aT A) (pBy (2 * f + 1)) y)) c fa g).1 (nI (pIt (fun f y => pSh1 X (aT A) (pBy (2 * f + 2)) (pSh1 X (aT A) (pBy (2 * f + 1)) y)) c fa g).2) w' ∧ cOK w w' := by
  obtain ⟨hwX, t1, t2, t3, t4, t5⟩ := hA.x hX
  intro c
  induction c with
  | zero =>
    intro f fa g w hC hP hm hf hg
    obtain ⟨f, rfl⟩ : ∃ f', f = f' + 1 := ⟨f - 1, by omega⟩
    refine ⟨w, ?_, hC.self⟩
    rw [f_X1_shift_L41, if_pos (show (9 : Int32) < nI (fa + 1) from (nI_ltI (a := 9) (b := fa + 1) (by decide) (by omega)).mpr (by omega))]
    rfl
  | succ c ih =>
    intro f fa g w hC hP hm hf hg
    obtain ⟨f, rfl⟩ : ∃ f', f = f' + 1 := ⟨f - 1, by omega⟩
    obtain ⟨w1, e1, o1, p1⟩ := c_shift_in hC hA hX hP (fa := fa) (by omega) (kk := fun (v39 : Int32) (v40 : Int32) (w41 : j_St) => jlt (nI (fa + 1) + 1) fun v42 => f_X1_shift_L41 kk f v39 v40 v42 w41) g hg
    obtain ⟨w2, e2, o2⟩ := ih f (fa + 1) (pSh1 X (aT A) (pBy (2 * fa + 2)) (pSh1 X (aT A) (pBy (2 * fa + 1)) g)) w1 (hC.ok o1) p1 (by omega) (by omega) (pSh1_le t1 t2 (pSh1_le t1 t2 hg))
    refine ⟨w2, ?_, o1.trans o2⟩
    rw [f_X1_shift_L41, if_neg (show ¬ (9 : Int32) < nI (fa + 1) from fun z => by have := (nI_ltI (a := 9) (b := fa + 1) (by decide) (by omega)).mp z; omega), e1, jlt_eq, nI_1]
    exact e2
/-- model: matched by so much -/
theorem m_shift_L (hA : wfA A) (hX : aX A = some X) {kk : Int32 → Int32 → j_St → Option (Int32 × j_St)} : ∀ (c f m : Nat) (g : Int32 × Nat) (w : j_St), RelM A w → pMP w (aT A).1 (aT A).2.1 (aT A).2.2.1 → m + c = 19 → 0 < m → c < f → g.2 ≤ 48 → ∃ w', f_X9_shift_L30 kk f g.1 (nI g.2) (nI m) w = kk (pIt (fun m g => pSh1 X (aT A) (pBy m) g) c m g).1 (nI (pIt (fun m g => pSh1 X (aT A) (pBy m) g) c m g).2) w' ∧ mOK w w' := by
  obtain ⟨hwX, t1, t2, t3, t4, t5⟩ := hA.x hX
  intro c
  induction c with
  | zero =>
    intro f m g w hM hP hm hm0 hf hg
    obtain ⟨f, rfl⟩ : ∃ f', f = f' + 1 := ⟨f - 1, by omega⟩
    refine ⟨w, ?_, hM.self⟩
    rw [f_X9_shift_L30, if_pos (show (18 : Int32) < nI m from (nI_ltI (a := 18) (b := m) (by decide) (by omega)).mpr (by omega))]
    rfl
  | succ c ih =>
    intro f m g w hM hP hm hm0 hf hg
    obtain ⟨f, rfl⟩ : ∃ f', f = f' + 1 := ⟨f - 1, by omega⟩
    obtain ⟨w1, e1, g1, p1, l1, a1⟩ := m_matches hP (hM.xt hX).2.1 hM.2.2.2.2.2.2 t1 t2 (by_ := pBy m)
    have o1 : mOK w w1 := ⟨g1.mono fun κ i k z => by unfold KB at z; unfold KMQ KA; omega, a1⟩
    have cl := cCnt_le (X := X) (T := aT A) (by_ := pBy m) t1 t2
    obtain ⟨w2, e2, o2⟩ := ih f (m + 1) (pSh1 X (aT A) (pBy m) g) w1 (hM.ok o1) p1 (by omega) (by omega) (by omega) (pSh1_le t1 t2 hg)
    refine ⟨w2, ?_, o1.trans o2⟩
    have hd : ∀ y : Fin 19, ((nI y.val - nI y.val / 2 * 2 = 1) ↔ y.val % 2 = 1) ∧ (y.val % 2 = 1 → (-(nI y.val + 1)) / 2 = pBy y.val) ∧ (¬ y.val % 2 = 1 → nI y.val / 2 = pBy y.val) := by decide +kernel
    obtain ⟨d1, d2, d3⟩ := hd ⟨m, by omega⟩
    simp only [] at d1 d2 d3
    have k41 : jgi w1 1 0 41 = nI (cCnt X (aT A) (pBy m)) := l1.1
    have rest : ∀ v, v = pBy m → (jcb (f_X9_matches v w) fun _ w15 => jlt (jgi w15 1 0 41) fun v17 => jlt (fun (v19 : Int32) (v20 : Int32) (w21 : j_St) => jlt (nI m + 1) fun v22 => f_X9_shift_L30 kk f v19 v20 v22 w21) fun K83 => if v17 ≤ nI g.2 then K83 g.1 (nI g.2) w15 else jlt (jgi w15 1 0 41) fun v18 => K83 v v18 w15) = kk (pIt (fun m g => pSh1 X (aT A) (pBy m) g) (c + 1) m g).1 (nI (pIt (fun m g => pSh1 X (aT A) (pBy m) g) (c + 1) m g).2) w2 := fun v hv => by
      subst hv
      refine Eq.trans ?_ e2
      rw [e1, jcb_s2, jlt_eq, k41, jlt_eq]
      unfold pSh1
      by_cases q : g.2 < cCnt X (aT A) (pBy m)
      · rw [if_neg (fun z => by have := (nI_leI (by omega) (by omega)).mp z; omega), if_pos q, jlt_eq]
        dsimp only
        rw [jlt_eq, nI_1]
      · rw [if_pos ((nI_leI (by omega) (by omega)).mpr (by omega)), if_neg q]
        dsimp only
        rw [jlt_eq, nI_1]
    rw [f_X9_shift_L30, if_neg (show ¬ (18 : Int32) < nI m from fun z => by have := (nI_ltI (a := 18) (b := m) (by decide) (by omega)).mp z; omega), jlt_eq]
    by_cases od : m % 2 = 1
    · rw [if_pos (d1.mpr od)]
      exact rest _ (d2 od)
    · rw [if_neg (fun z => od (d1.mp z))]
      exact rest _ (d3 od)
/-- shift -/
theorem q_shift (hA : wfA A) (x : Int32) : pQry A (f_X1_shift x) (f_X9_shift x) := by
  cases hX : aX A with
  | none =>
    refine pQry_of (r := -1000000) (fun w hC => ⟨w, ?_, hC.self⟩) (fun w hM => ⟨w, ?_, hM.self⟩)
    · rw [f_X1_shift, jlt_eq, hC.x0 hX, jcs_n2]
    · rw [f_X9_shift, jlt_eq, (hM.x0 hX).1, if_pos rfl]
  | some X =>
    obtain ⟨hwX, t1, t2, t3, t4, t5⟩ := hA.x hX
    have cl := cCnt_le (X := X) (T := aT A) (by_ := 0) t1 t2
    by_cases h : qAt x 2
    · refine pQry_of (r := if x = 0 then (cSh X (aT A)).1 else nI (cSh X (aT A)).2) (fun w hC => ?_) (fun w hM => ?_)
      · obtain ⟨t, ht, -⟩ := hC.xt hX
        obtain ⟨w1, e1, o1, p1⟩ := c_found hC hA hX
        have hC1 := hC.ok o1
        obtain ⟨t', ht', -⟩ := hC1.xt hX
        obtain ⟨w2, e2, o2, p2⟩ := c_shift1 hC1 hA hX p1 (m := 0) (by omega) ht'
        obtain ⟨w3, e3, o3⟩ := c_shift_L hA hX (kk := fun (v43 : Int32) (v44 : Int32) (w45 : j_St) => if x = 0 then some (v43, w45) else some (v44, w45)) 9 jFU 0 (0, cCnt X (aT A) 0) w2 (hC1.ok o2) p2 (by omega) (jFU_gt (by omega)) cl
        refine ⟨w3, ?_, (o1.trans o2).trans o3⟩
        rw [f_X1_shift, jlt_eq, ht, jcs_s2, cIn_T h (by decide) rfl (by decide), jcb_s2, if_neg n10, e1, jcb_s2, jlt_eq, ht', job_s2, show (0 : Int32) = pBy 0 from rfl, e2, jcb_s2]
        refine e3.trans ?_
        have := pIt_two (st := fun m g => pSh1 X (aT A) (pBy m) g) 9 0 (0, cCnt X (aT A) 0)
        unfold cSh
        rw [show (18 : Nat) = 2 * 9 from rfl, show (1 : Nat) = 2 * 0 + 1 from rfl, this]
        show (if x = 0 then _ else _) = some (if x = 0 then _ else _, w3)
        by_cases x0 : x = 0
        · rw [if_pos x0, if_pos x0]
        · rw [if_neg x0, if_neg x0]
      · obtain ⟨w1, e1, o1, hn1, p1, ll1⟩ := m_found hM hA hX
        have hM1 := hM.ok o1
        obtain ⟨w2, e2, g2, p2, l2, a2⟩ := m_matches p1 (hM1.xt hX).2.1 hM1.2.2.2.2.2.2 t1 t2 (by_ := 0)
        have o2 : mOK w1 w2 := ⟨g2.mono fun κ i k z => by unfold KB at z; unfold KMQ KA; omega, a2⟩
        have k41 : jgi w2 1 0 41 = nI (cCnt X (aT A) 0) := l2.1
        obtain ⟨w3, e3, o3⟩ := m_shift_L hA hX (kk := fun (v23 : Int32) (v24 : Int32) (w25 : j_St) => if x = 0 then some (v23, w25) else some (v24, w25)) 18 19999 1 (0, cCnt X (aT A) 0) w2 (hM1.ok o2) p2 (by omega) (by omega) (by omega) cl
        refine ⟨w3, ?_, (o1.trans o2).trans o3⟩
        rw [f_X9_shift, jlt_eq, (hM.xt hX).1, if_neg n10, mIn_T h (by decide) (by decide), jcb_s2, if_neg n10, e1, jcb_s2, show jFU = 19999 + 1 from rfl, f_X9_shift_L30, if_neg (by decide), jlt_eq, if_neg (by decide), show (0 : Int32) / 2 = 0 by decide]
        dsimp only
        rw [e2, jcb_s2, jlt_eq, k41, jlt_eq, if_neg (fun z => by
          have := Int32.le_iff_toInt_le.mp z
          rw [nI_toInt (by omega), show (-1 : Int32).toInt = -1 from rfl] at this
          omega), jlt_eq]
        dsimp only
        rw [jlt_eq, show (0 : Int32) + 1 = nI 1 by decide]
        refine e3.trans ?_
        show (if x = 0 then _ else _) = some (if x = 0 then _ else _, w3)
        by_cases x0 : x = 0
        · rw [if_pos x0, if_pos x0]; rfl
        · rw [if_neg x0, if_neg x0]; rfl
    · refine pQry_of (r := -1000000) (fun w hC => ⟨w, ?_, hC.self⟩) (fun w hM => ⟨w, ?_, hM.self⟩)
      · obtain ⟨t, ht, -⟩ := hC.xt hX
        rw [f_X1_shift, jlt_eq, ht, jcs_s2, cIn_F h (by decide) rfl (by decide), jcb_s2, if_pos rfl]
      · rw [f_X9_shift, jlt_eq, (hM.xt hX).1, if_neg n10, mIn_F h (by decide) (by decide), jcb_s2, if_pos rfl]
end SHIFT
