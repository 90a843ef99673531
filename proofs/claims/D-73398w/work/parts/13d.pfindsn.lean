/-! the pure law: what the model finds, by numbers -/
def KA (κ i k : Nat) : Prop := i = 0 ∧ ((52 ≤ κ ∧ κ ≤ 60) ∨ (κ = 1 ∧ (k = 35 ∨ k = 38 ∨ k = 41)))
section FN
variable {w w' : j_St} {s : Nat → Nat} {n z : Nat} {lp : Nat → Int32} {ln : Nat} {rc by_ : Int32} {S : pS} {N : pN} {M : pM}
/-- the model's peaks are typed -/
def WfA (w : j_St) : Prop := ∃ (S : pS) (N : pN) (M : pM), w = mkA w S N M ∧ (∀ q, pSm (S.2.2.2.2.1 q)) ∧ ∀ q, pSm (M.2.1 q)
theorem mkA_self (h52 : ∀ k, jgi w 52 0 k = nI (S.1 k)) (h53 : ∀ k, jgi w 53 0 k = pOI (S.2.1 k)) (h54 : ∀ k, jgi w 54 0 k = S.2.2.1 k) (h55 : ∀ k, jgi w 55 0 k = pOI (S.2.2.2.1 k)) (h56 : ∀ k, jgi w 56 0 k = pOI (S.2.2.2.2.1 k)) (h35 : jgi w 1 0 35 = nI S.2.2.2.2.2)
    (h57 : ∀ k, jgi w 57 0 k = nI (N.1 k)) (h58 : ∀ k, jgi w 58 0 k = nI (N.2.1 k)) (h38 : jgi w 1 0 38 = nI N.2.2) (h59 : ∀ k, jgi w 59 0 k = pOI (M.1 k)) (h60 : ∀ k, jgi w 60 0 k = pOI (M.2.1 k)) (h41 : jgi w 1 0 41 = nI M.2.2) : w = mkA w S N M := Prod.ext (funext fun x => funext fun y => funext fun k => by
  show jgi w x y k = jgi (mkA w S N M) x y k
  by_cases hy : y = 0
  · subst hy
    by_cases c1 : x = 52
    · subst c1; rw [h52, mkA_52]
    by_cases c2 : x = 53
    · subst c2; rw [h53, mkA_53]
    by_cases c3 : x = 54
    · subst c3; rw [h54, mkA_54]
    by_cases c4 : x = 55
    · subst c4; rw [h55, mkA_55]
    by_cases c5 : x = 56
    · subst c5; rw [h56]; rfl
    by_cases c6 : x = 57
    · subst c6; rw [h57, mkA_57]
    by_cases c7 : x = 58
    · subst c7; rw [h58, mkA_58]
    by_cases c8 : x = 59
    · subst c8; rw [h59, mkA_59]
    by_cases c9 : x = 60
    · subst c9; rw [h60, mkA_60]
    by_cases d1 : x = 1 ∧ k = 35
    · obtain ⟨rfl, rfl⟩ := d1; rw [h35, mkA_c]
    by_cases d2 : x = 1 ∧ k = 38
    · obtain ⟨rfl, rfl⟩ := d2; rw [h38, mkA_k]
    by_cases d3 : x = 1 ∧ k = 41
    · obtain ⟨rfl, rfl⟩ := d3; rw [h41, mkA_t]
    simp [jgi, mkA, mkS, mk1, mk2, mk3, c1, c2, c3, c4, c5, c6, c7, c8, c9, d1, d2, d3]
  · simp [jgi, mkA, mkS, mk1, mk2, mk3, hy]) rfl
theorem mkA_oth {κ i k : Nat} (h : ¬ KA κ i k) : jgi (mkA w S N M) κ i k = jgi w κ i k := by
  unfold KA at h
  by_cases hy : i = 0
  · subst hy
    have c1 : ¬ κ = 52 := by omega
    have c2 : ¬ κ = 53 := by omega
    have c3 : ¬ κ = 54 := by omega
    have c4 : ¬ κ = 55 := by omega
    have c5 : ¬ κ = 56 := by omega
    have c6 : ¬ κ = 57 := by omega
    have c7 : ¬ κ = 58 := by omega
    have c8 : ¬ κ = 59 := by omega
    have c9 : ¬ κ = 60 := by omega
    have d1 : ¬ (κ = 1 ∧ k = 35) := by omega
    have d2 : ¬ (κ = 1 ∧ k = 38) := by omega
    have d3 : ¬ (κ = 1 ∧ k = 41) := by omega
    simp [jgi, mkA, mkS, mk1, mk2, mk3, c1, c2, c3, c4, c5, c6, c7, c8, c9, d1, d2, d3]
  · simp [jgi, mkA, mkS, mk1, mk2, mk3, hy]
theorem mkA_same : pSame KA w (mkA w S N M) := ⟨fun _ _ _ h => mkA_oth h, fun _ _ _ _ => rfl, fun _ _ _ _ => rfl, fun _ _ _ => rfl⟩
theorem mkA_Wf (h1 : ∀ q, pSm (S.2.2.2.2.1 q)) (h2 : ∀ q, pSm (M.2.1 q)) : WfA (mkA w S N M) := ⟨S, N, M, mkA_self (fun _ => mkA_52) (fun _ => mkA_53) (fun _ => mkA_54) (fun _ => mkA_55) (fun _ => rfl) mkA_c (fun _ => mkA_57) (fun _ => mkA_58) mkA_k (fun _ => mkA_59) (fun _ => mkA_60) mkA_t, h1, h2⟩
theorem WfA.same {K : Nat → Nat → Nat → Prop} (h : WfA w) (g : pSame K w w') (hK : ∀ κ i k, KA κ i k → ¬ K κ i k) : WfA w' := by
  obtain ⟨S, N, M, e, h1, h2⟩ := h
  have rd : ∀ κ i k, KA κ i k → jgi w' κ i k = jgi (mkA w S N M) κ i k := fun κ i k hk => by rw [← e]; exact g.1 κ i k (hK κ i k hk)
  refine ⟨S, N, M, mkA_self (fun k => ?_) (fun k => ?_) (fun k => ?_) (fun k => ?_) (fun k => ?_) ?_ (fun k => ?_) (fun k => ?_) ?_ (fun k => ?_) (fun k => ?_) ?_, h1, h2⟩
  all_goals exact rd _ _ _ (by unfold KA; omega)
/-- the lines that peaks take, by numbers -/
def cTk (lp : Nat → Int32) (ln : Nat) (rc by_ : Int32) (P : Nat → Nat) (kp k : Nat) (tk : Nat → Option Nat) : Option Nat := if k < kp then pNr lp rc (nI (P k) + by_) tk ln 0 none else none
def cMs (lp : Nat → Int32) (ln : Nat) (rc by_ : Int32) (P : Nat → Nat) (kp k : Nat) (M : pM) : pM := match cTk lp ln rc by_ P kp k M.2.1 with
  | none => (up M.1 k none, M.2.1, M.2.2)
  | some l => (up M.1 k (some l), up M.2.1 l (some k), M.2.2 + 1)
def cMt (lp : Nat → Int32) (ln : Nat) (rc by_ : Int32) (P : Nat → Nat) (kp : Nat) : Nat → Nat → pM → pM
  | 0, _, M => M
  | c + 1, k, M => cMt lp ln rc by_ P kp c (k + 1) (cMs lp ln rc by_ P kp k M)
def cMa (lp : Nat → Int32) (ln : Nat) (rc by_ : Int32) (s : Nat → Nat) (n z : Nat) : pM := cMt lp ln rc by_ (cP s n) (cK s n z) (cM s n) 0 (fun _ => none, fun _ => none, 0)
theorem pNr_congr {x : Int32} {tk tk' : Nat → Option Nat} : ∀ (c l : Nat) (b : Option Nat), (∀ j, l ≤ j → j < l + c → tk j = tk' j) → pNr lp rc x tk c l b = pNr lp rc x tk' c l b := by
  intro c
  induction c with
  | zero => intro l b _; rfl
  | succ c ih =>
    intro l b h
    show pNr lp rc x tk c (l + 1) (pNs lp rc x tk l b) = pNr lp rc x tk' c (l + 1) (pNs lp rc x tk' l b)
    have e : pNs lp rc x tk l b = pNs lp rc x tk' l b := by
      unfold pNs pNc
      rw [h l (Nat.le_refl _) (by omega)]
    rw [e]
    exact ih (l + 1) _ (fun j h1 h2 => h j (by omega) (by omega))
theorem cTk_lt {P : Nat → Nat} {kp k : Nat} {tk : Nat → Option Nat} : ∀ l, cTk lp ln rc by_ P kp k tk = some l → l < ln := fun l e => by
  unfold cTk at e
  split at e
  · exact pNr_lt ln 0 none (by omega) (fun q e => by cases e) l e
  · cases e
theorem pMt_is (hln : ln ≤ 8) {P : Nat → Nat} {cm : Nat} (hP : ∀ k, k < cm → S.1 (N.1 k) = P k) : ∀ (c k : Nat) (M M' : pM), k + c ≤ cm → (∀ j, j < k → M.1 j = M'.1 j) → (∀ l, l < 8 → M.2.1 l = M'.2.1 l) → M.2.2 = M'.2.2 →
    (∀ j, j < k + c → (pMt lp ln rc by_ S N c k M).1 j = (cMt lp ln rc by_ P N.2.2 c k M').1 j) ∧ (∀ l, l < 8 → (pMt lp ln rc by_ S N c k M).2.1 l = (cMt lp ln rc by_ P N.2.2 c k M').2.1 l) ∧ (pMt lp ln rc by_ S N c k M).2.2 = (cMt lp ln rc by_ P N.2.2 c k M').2.2 := by
  intro c
  induction c with
  | zero => intro k M M' _ h1 h2 h3; exact ⟨h1, h2, h3⟩
  | succ c ih =>
    intro k M M' hk h1 h2 h3
    have e : pTk lp ln rc by_ S N k M.2.1 = cTk lp ln rc by_ P N.2.2 k M'.2.1 := by
      unfold pTk cTk
      rw [hP k (by omega), pNr_congr ln 0 none (fun j _ hj => h2 j (by omega))]
    have go := ih (k + 1) (pMs lp ln rc by_ S N k M) (cMs lp ln rc by_ P N.2.2 k M') (by omega) (fun j hj => ?_) (fun l hl => ?_) ?_
    · rw [show k + (c + 1) = k + 1 + c by omega]
      exact go
    · unfold pMs cMs
      rw [e]
      cases cTk lp ln rc by_ P N.2.2 k M'.2.1 with
      | none => exact up_eq fun z => h1 j (by omega)
      | some l => exact up_eq fun z => h1 j (by omega)
    · unfold pMs cMs
      rw [e]
      cases cTk lp ln rc by_ P N.2.2 k M'.2.1 with
      | none => exact h2 l hl
      | some l' => exact up_eq fun z => h2 l hl
    · unfold pMs cMs
      rw [e]
      cases cTk lp ln rc by_ P N.2.2 k M'.2.1 with
      | none => exact h3
      | some l => exact congrArg (· + 1) h3
/-- the model's peaks, read -/
def pMP (w : j_St) (s : Nat → Nat) (n z : Nat) : Prop := jgi w 1 0 35 = nI (cM s n) ∧ jgi w 1 0 38 = nI (cK s n z) ∧ (∀ k, k < cM s n → jgi w 57 0 k = nI (cW s n k)) ∧ (∀ k, k < cM s n → jgi w 58 0 (cW s n k) = nI k) ∧
  ∀ c, c < cM s n → jgi w 52 0 c = nI (cPl s n c) ∧ jgi w 53 0 c = pOI (cVa s n c) ∧ jgi w 54 0 c = nI (cDn s n c) ∧ jgi w 55 0 c = pOI (cPa s n c)
/-- the lines, read -/
def pMl (w : j_St) (lp : Nat → Int32) (ln : Nat) (rc by_ : Int32) (s : Nat → Nat) (n z : Nat) : Prop := jgi w 1 0 41 = nI (cMa lp ln rc by_ s n z).2.2 ∧ (∀ k, k < cM s n → jgi w 59 0 k = pOI ((cMa lp ln rc by_ s n z).1 k)) ∧ ∀ l, l < 8 → jgi w 60 0 l = pOI ((cMa lp ln rc by_ s n z).2.1 l)
theorem pMt_sm (hc : S.2.2.2.2.2 ≤ 48) : ∀ (c k : Nat) (M : pM), k + c = S.2.2.2.2.2 → (∀ q, pSm (M.2.1 q)) → ∀ q, pSm ((pMt lp ln rc by_ S N c k M).2.1 q) := by
  intro c
  induction c with
  | zero => intro k M _ h; exact h
  | succ c ih =>
    intro k M hk h
    exact ih (k + 1) _ (by omega) (pMs_sm (by omega) h)
theorem pMa_ml (hln : ln ≤ 8) (h1 : S.2.2.2.2.2 = cM s n) (h2 : ∀ k, k < cM s n → S.1 (N.1 k) = cP s n k) (h3 : N.2.2 = cK s n z) : pMl (mkA w S N (pMa lp ln rc by_ S N M)) lp ln rc by_ s n z := by
  have := pMt_is (S := S) (N := N) (lp := lp) (rc := rc) (by_ := by_) hln h2 (cM s n) 0 (M.1, pBe0 8 M.2.1, 0) (fun _ => none, fun _ => none, 0) (by omega) (fun j hj => by omega) (fun l hl => pBe0_lt hl) rfl
  rw [h3, Nat.zero_add] at this
  obtain ⟨g1, g2, g3⟩ := this
  unfold pMl pMa cMa
  rw [h1]
  refine ⟨?_, fun k hk => ?_, fun l hl => ?_⟩
  · rw [mkA_t, g3]
  · rw [mkA_59, g1 k hk]
  · rw [mkA_60, g2 l hl]
theorem pNu_out {wh : Nat → Nat} {x : Nat} : ∀ (c k : Nat) (nu : Nat → Nat), (∀ j, k ≤ j → j < k + c → wh j ≠ x) → pNu wh c k nu x = nu x := by
  intro c
  induction c with
  | zero => intro k nu _; rfl
  | succ c ih =>
    intro k nu h
    show pNu wh c (k + 1) (up nu (wh k) k) x = nu x
    rw [ih (k + 1) _ (fun j h1 h2 => h j (by omega) (by omega)), up_ne (h k (Nat.le_refl _) (by omega)).symm]
theorem pNu_val {wh : Nat → Nat} : ∀ (c k : Nat) (nu : Nat → Nat), (∀ i j, k ≤ i → i < j → j < k + c → wh i ≠ wh j) → ∀ j, k ≤ j → j < k + c → pNu wh c k nu (wh j) = j := by
  intro c
  induction c with
  | zero => intro k nu _ j h1 h2; omega
  | succ c ih =>
    intro k nu h j h1 h2
    show pNu wh c (k + 1) (up nu (wh k) k) (wh j) = j
    by_cases e : j = k
    · subst e
      rw [pNu_out c (j + 1) _ (fun i a1 a2 => (h j i (Nat.le_refl _) (by omega) (by omega)).symm), up_same]
    · exact ih (k + 1) _ (fun i j a1 a2 a3 => h i j (by omega) a2 (by omega)) j (by omega) (by omega)
theorem pKp_congr {kt kt' : Nat → Bool} : ∀ (c k x : Nat), (∀ j, k ≤ j → j < k + c → kt j = kt' j) → pKp kt c k x = pKp kt' c k x := by
  intro c
  induction c with
  | zero => intro k x _; rfl
  | succ c ih =>
    intro k x h
    show pKp kt c (k + 1) _ = pKp kt' c (k + 1) _
    rw [h k (Nat.le_refl _) (by omega)]
    exact ih (k + 1) _ (fun j h1 h2 => h j (by omega) (by omega))
theorem pFn_is (hs : ∀ k, k < n → s k ≤ 999) (h0 : 0 < n) (hz : z ≤ 999) (hF : pF S (cS (sI s) n)) : (∀ k, k < cM s n → (pFn (sI s) (nI z) S N).1 k = cW s n k) ∧ (∀ k, k < cM s n → (pFn (sI s) (nI z) S N).2.1 (cW s n k) = k) ∧ (pFn (sI s) (nI z) S N).2.2 = cK s n z := by
  have e : S.2.2.2.2.2 = cM s n := hF.1
  have h1 : ∀ k, k < cM s n → pWh 1 (pMv (sI s) S) (cM s n) 0 N.1 k = cW s n k := fun k hk => pWh_congr (N := cM s n) (fun c q hc hq => cAh_is hs h0 hF hc hq) (cM s n) 0 N.1 (fun _ => 0) (by omega) (fun j hj => by omega) (fun j hj => by omega) k (by omega)
  unfold pFn
  simp only []
  rw [e]
  refine ⟨h1, fun k hk => ?_, ?_⟩
  · rw [← h1 k hk]
    exact pNu_val (cM s n) 0 N.2.1 (fun i j _ hij hj => by rw [h1 i (by omega), h1 j (by omega)]; exact cW_ne h0 (by omega) (by omega) (by omega)) k (Nat.zero_le _) (by omega)
  · refine pKp_congr _ _ _ fun k _ hk => ?_
    have hk : k < cM s n := by omega
    have hw := cW_lt h0 hk
    obtain ⟨f1, f2⟩ := hF
    obtain ⟨a1, a2, a3, a4⟩ := f2 (cW s n k) (by rw [e]; exact hw)
    have e1 : pLf (sI s) S (cW s n k) = nI (cLf s n (cW s n k)) := by rw [← cLf_is hs h0 hw]; unfold pLf; rw [a1, a3]
    have l1 := cLf_le hs h0 hw
    unfold pKt cKt
    rw [h1 k hk, e1]
    have d1 : (nI (cLf s n (cW s n k)) ≤ nI z) = (cLf s n (cW s n k) ≤ z) := propext (nI_leI (by omega) (by omega))
    have d2 : (!decide (cLf s n (cW s n k) ≤ z)) = decide (z < cLf s n (cW s n k)) := by
      rw [Bool.eq_iff_iff]
      simp
    simp only [d1]
    rw [d2]
theorem pMP_of (hs : ∀ k, k < n → s k ≤ 999) (h0 : 0 < n) (hF : pF S (cS (sI s) n)) (h1 : ∀ k, k < cM s n → N.1 k = cW s n k) (h2 : ∀ k, k < cM s n → N.2.1 (cW s n k) = k) (h3 : N.2.2 = cK s n z) : pMP (mkA w S N M) s n z := by
  obtain ⟨f1, f2⟩ := hF
  have e : S.2.2.2.2.2 = cM s n := f1
  refine ⟨by rw [mkA_c, e], by rw [mkA_k, h3], fun k hk => by rw [mkA_57, h1 k hk], fun k hk => by rw [mkA_58, h2 k hk], fun c hc => ?_⟩
  obtain ⟨a1, a2, a3, a4⟩ := f2 c (by rw [e]; exact hc)
  refine ⟨by rw [mkA_52, a1]; rfl, by rw [mkA_53, a2]; rfl, by rw [mkA_54, a3, cDn_is hs h0 hc], by rw [mkA_55, a4]; rfl⟩
/-- WHAT THE MODEL FINDS -/
theorem sp_findsN (h : pMn w (sI s) n (nI z)) (hL : pLn w lp ln rc) (h0 : 0 < n) (hs : ∀ k, k < n → s k ≤ 999) (hz : z ≤ 999) (hA : WfA w) :
    ∃ w', f_X9_finds w = some ((), w') ∧ pSame KA w w' ∧ pMP w' s n z ∧ pMl w' lp ln rc 0 s n z ∧ WfA w' := by
  obtain ⟨S, N, M, e, a1, a2⟩ := hA
  have hn := h.2.2.2
  have hF := pLet_F (a := sI s) (o := cO (sI s) n) (S := S) h0 cO_ord
  obtain ⟨k1, k2⟩ := pLet_ok (a := sI s) (S := S) hn cO_ord a1
  have hfin := sp_finds (S := S) (N := N) (M := M) h hL h0 (cO_ord (a := sI s) (n := n)) a1 a2
  rw [← e] at hfin
  refine ⟨_, hfin, mkA_same, ?_, ?_, ?_⟩
  all_goals generalize pLet (sI s) n (cO (sI s) n) S = T at *
  all_goals obtain ⟨g1, g2, g3⟩ := pFn_is (N := N) hs h0 hz hF
  all_goals have ec : T.2.2.2.2.2 = cM s n := hF.1
  all_goals have hcm := cM_le (s := s) h0
  · exact pMP_of hs h0 hF g1 g2 g3
  · refine pMa_ml hL.2.2.2 ec (fun k hk => ?_) g3
    rw [g1 k hk, (hF.2 _ (by rw [ec]; exact cW_lt h0 hk)).1]
    rfl
  · refine mkA_Wf k1.1 ?_
    unfold pMa
    exact pMt_sm (by omega) _ _ _ (by omega) fun q => by
      show pSm (if q < 8 then none else M.2.1 q)
      split
      · exact pSm_none
      · exact a2 q
end FN
