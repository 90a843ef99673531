/-! the pure law: what the model reads of its peaks -/
section MQ
variable {w : j_St} {s : Nat → Nat} {n z : Nat}
theorem cM48 (hM : pMn w (sI s) n (nI z)) (h0 : 0 < n) : n ≤ 48 ∧ cM s n ≤ n := ⟨hM.2.2.2, cM_le h0⟩
theorem mq_placeOf (hM : pMn w (sI s) n (nI z)) (hP : pMP w s n z) (h0 : 0 < n) {k : Nat} (hk : k < cM s n) : f_X9_placeOf (nI k) w = some (nI (cP s n k), w) := by
  obtain ⟨g1, g2⟩ := cM48 hM h0
  have hw := cW_lt (s := s) h0 hk
  obtain ⟨p1, p2, p3, p4, p5⟩ := hP
  simp (disch := omega) only [f_X9_placeOf, jbd_nI, ↓jlt_e2, p3 k hk, (p5 _ hw).1]
  rfl
theorem mq_height (hM : pMn w (sI s) n (nI z)) (hP : pMP w s n z) (h0 : 0 < n) {k : Nat} (hk : k < cM s n) : f_X9_height (nI k) w = some (nI (s (cP s n k)), w) := by
  obtain ⟨g1, g2⟩ := cM48 hM h0
  have hp := cP_lt (s := s) h0 hk
  rw [f_X9_height, mq_placeOf hM hP h0 hk, jcb_s2]
  simp (disch := omega) only [jbd_nI, ↓jlt_e2, hM.2.2.1 _ hp, sI_e]
theorem mq_lifeOf (hM : pMn w (sI s) n (nI z)) (hP : pMP w s n z) (h0 : 0 < n) (hs : ∀ k, k < n → s k ≤ 999) {c : Nat} (hc : c < cM s n) : f_X9_lifeOf (nI c) w = some (nI (cLf s n c), w) := by
  obtain ⟨g1, g2⟩ := cM48 hM h0
  obtain ⟨p1, p2, p3, p4, p5⟩ := hP
  obtain ⟨c1, c2, c3, c4⟩ := p5 c hc
  have hp := cPl_lt (s := s) h0 hc
  simp (disch := omega) only [f_X9_lifeOf, jbd_nI, ↓jlt_e2, c1, c3, hM.2.2.1 _ hp, sI_e]
  rw [nI_sub (cDn_le hs h0 hc)]
  rfl
theorem mq_life (hM : pMn w (sI s) n (nI z)) (hP : pMP w s n z) (h0 : 0 < n) (hs : ∀ k, k < n → s k ≤ 999) {k : Nat} (hk : k < cM s n) : f_X9_life (nI k) w = some (nI (cL s n k), w) := by
  obtain ⟨g1, g2⟩ := cM48 hM h0
  have hw := cW_lt (s := s) h0 hk
  rw [f_X9_life, jbd_nI (by omega) (by decide), jlt_eq, hP.2.2.1 k hk, mq_lifeOf hM hP h0 hs hw, jcb_s2]
  rfl
theorem mq_isKept (hP : pMP w s n z) (h0 : 0 < n) (hn : n ≤ 48) {k : Nat} (hk : k < cM s n) : f_X9_isKept (nI k) w = some (if k < cK s n z then 1 else 0, w) := by
  have g2 := cM_le (s := s) h0
  have k1 := cK_le (s := s) (n := n) (z := z)
  have k2 := cK_pos (s := s) (z := z) h0
  rw [f_X9_isKept, jlt_eq, hP.2.1, nI_m1 k2, sp_in, jcb_s2]
  by_cases h : k < cK s n z
  · have c : (0 ≤ nI k ∧ nI k ≤ nI (cK s n z - 1)) = True := eq_true ⟨nI_pos' (by omega), (nI_leI (by omega) (by omega)).mpr (by omega)⟩
    simp only [c, if_true, h, or_true]
  · have c : (0 ≤ nI k ∧ nI k ≤ nI (cK s n z - 1)) = False := eq_false (fun y => by have := (nI_leI (by omega) (by omega)).mp y.2; omega)
    simp only [c, if_false, h, true_or, if_true]
theorem mq_low (hM : pMn w (sI s) n (nI z)) (hs : ∀ k, k < n → s k ≤ 999) {fr to : Nat} (h1 : fr < to) (h2 : to < n) : f_X9_lowBetween (nI fr) (nI to) w = some (nI (cLow s fr to), w) := by
  have hn := hM.2.2.2
  rw [f_X9_lowBetween, jlt_eq, nI_1, jlt_eq, show nI fr + 2 = nI (fr + 2) from nI_add fr 2]
  refine pIt_is (F := fun f m b => f_X9_lowBetween_L9 (nI to) f (nI b) (nI m) w) (step := pLo s) (I := fun m b => fr + 2 ≤ m ∧ b < n) (N := max to (fr + 2)) (G := fun b => some (nI b, w)) (fun f m b hm hI => ?_) (fun m b hm hI => ?_) (fun f b hI => ?_) (to - (fr + 2)) jFU (fr + 2) (fr + 1) (by omega) (jFU_gt (by omega)) ⟨by omega, by omega⟩
  · obtain ⟨i1, i2⟩ := hI
    have hm2 : m < to := by omega
    have b1 := hs m (by omega)
    have b2 := hs b i2
    show f_X9_lowBetween_L9 (nI to) (f + 1) (nI b) (nI m) w = f_X9_lowBetween_L9 (nI to) f (nI (pLo s m b)) (nI (m + 1)) w
    rw [f_X9_lowBetween_L9]
    simp (disch := omega) only [le_F, if_false, jbd_nI, ↓jlt_e2, hM.2.2.1 m (by omega), hM.2.2.1 b i2, sI_e, le_E, nI_1, pLo]
    by_cases c : s b ≤ s m
    · simp only [c, if_true]
    · simp only [c, if_false]
  · unfold pLo
    split <;> omega
  · show f_X9_lowBetween_L9 (nI to) (f + 1) (nI b) (nI (max to (fr + 2))) w = some (nI b, w)
    rw [f_X9_lowBetween_L9, if_pos ((nI_leI (by omega) (by omega)).mpr (by omega))]
theorem pOI_s {k : Nat} : pOI (some k) = nI k := id rfl
theorem pOI_n : pOI none = -1 := id rfl
theorem m1_F {k : Nat} (h : k < 2 ^ 31) : (nI k = -1) = False := eq_false (nI_ne1 h)
theorem mq_beside_s (hM : pMn w (sI s) n (nI z)) (hP : pMP w s n z) (h0 : 0 < n) {p : Nat} (hp : p < n) {rt : Bool} {f m : Nat} {b : Option Nat} (hm : m < cK s n z) (hb : ∀ j, b = some j → j < cM s n) : f_X9_beside_L5 (nI p) (if rt = true then 1 else -1) (f + 1) (pOI b) (nI m) w = f_X9_beside_L5 (nI p) (if rt = true then 1 else -1) f (pOI (pBs (cP s n) p rt m b)) (nI (m + 1)) w := by
  obtain ⟨g1, g2⟩ := cM48 hM h0
  have k1 := cK_le (s := s) (n := n) (z := z)
  have hpm := cP_lt (s := s) h0 (show m < cM s n by omega)
  have e1 := mq_placeOf hM hP h0 (show m < cM s n by omega)
  have zz : ((0 : Int32) = 0) = True := eq_true rfl
  have oo : ((1 : Int32) = 0) = False := eq_false (by decide)
  have d1 : pDi (cP s n m) p < 48 := pDi_lt (by omega) (by omega)
  rw [f_X9_beside_L5]
  cases rt with
  | true =>
    have q1 : ((1 : Int32) ≤ 0) = False := eq_false (by decide)
    by_cases c : p < cP s n m
    · have cb : pBsd p true (cP s n m) = true := by simp [pBsd, c]
      cases b with
      | none =>
        have m1 : (pOI none = (-1 : Int32)) = True := eq_true rfl
        have r1 : pBs (cP s n) p true m none = some m := by simp [pBs, cb]
        simp (disch := omega) only [↓jlt_e2, hP.2.1, le_F, if_false, if_true, q1, e1, jcb_s2, oo, m1, r1, nI_1, pOI_s]
      | some j =>
        have hj := hb j rfl
        have e2 := mq_placeOf hM hP h0 hj
        have hpj := cP_lt (s := s) h0 hj
        have d2 : pDi (cP s n j) p < 48 := pDi_lt (by omega) (by omega)
        by_cases d : pDi (cP s n j) p ≤ pDi (cP s n m) p
        · have r1 : pBs (cP s n) p true m (some j) = some j := by simp [pBs, cb, d]
          simp (disch := omega) only [↓jlt_e2, hP.2.1, le_F, if_false, if_true, q1, e1, e2, jcb_s2, oo, pOI_s, m1_F, sp_apart, pAp_nI, le_T, r1, nI_1]
        · have r1 : pBs (cP s n) p true m (some j) = some m := by simp [pBs, cb, d]
          simp (disch := omega) only [↓jlt_e2, hP.2.1, le_F, if_false, if_true, q1, e1, e2, jcb_s2, oo, pOI_s, m1_F, sp_apart, pAp_nI, r1, nI_1]
    · have cb : pBsd p true (cP s n m) = false := by simp [pBsd, c]
      have r1 : pBs (cP s n) p true m b = b := by simp [pBs, cb]
      simp (disch := omega) only [↓jlt_e2, hP.2.1, le_F, if_false, if_true, q1, e1, jcb_s2, le_T, zz, r1, nI_1]
  | false =>
    have q1 : ((-1 : Int32) ≤ 0) = True := eq_true (by decide)
    have ff : (false = true) = False := eq_false (by decide)
    by_cases c : cP s n m < p
    · have cb : pBsd p false (cP s n m) = true := by simp [pBsd, c]
      cases b with
      | none =>
        have m1 : (pOI none = (-1 : Int32)) = True := eq_true rfl
        have r1 : pBs (cP s n) p false m none = some m := by simp [pBs, cb]
        simp (disch := omega) only [↓jlt_e2, hP.2.1, le_F, if_false, if_true, ff, q1, e1, jcb_s2, oo, m1, r1, nI_1, pOI_s]
      | some j =>
        have hj := hb j rfl
        have e2 := mq_placeOf hM hP h0 hj
        have hpj := cP_lt (s := s) h0 hj
        have d2 : pDi (cP s n j) p < 48 := pDi_lt (by omega) (by omega)
        by_cases d : pDi (cP s n j) p ≤ pDi (cP s n m) p
        · have r1 : pBs (cP s n) p false m (some j) = some j := by simp [pBs, cb, d]
          simp (disch := omega) only [↓jlt_e2, hP.2.1, le_F, if_false, if_true, ff, q1, e1, e2, jcb_s2, oo, pOI_s, m1_F, sp_apart, pAp_nI, le_T, r1, nI_1]
        · have r1 : pBs (cP s n) p false m (some j) = some m := by simp [pBs, cb, d]
          simp (disch := omega) only [↓jlt_e2, hP.2.1, le_F, if_false, if_true, ff, q1, e1, e2, jcb_s2, oo, pOI_s, m1_F, sp_apart, pAp_nI, r1, nI_1]
    · have cb : pBsd p false (cP s n m) = false := by simp [pBsd, c]
      have r1 : pBs (cP s n) p false m b = b := by simp [pBs, cb]
      simp (disch := omega) only [↓jlt_e2, hP.2.1, le_F, if_false, if_true, ff, q1, e1, jcb_s2, le_T, zz, r1, nI_1]
theorem mq_beside (hM : pMn w (sI s) n (nI z)) (hP : pMP w s n z) (h0 : 0 < n) {p : Nat} (hp : p < n) {rt : Bool} : f_X9_beside (nI p) (if rt = true then 1 else -1) w = some (pOI (cNb s n z p rt), w) := by
  obtain ⟨g1, g2⟩ := cM48 hM h0
  have k1 := cK_le (s := s) (n := n) (z := z)
  refine pIt_is (F := fun f m b => f_X9_beside_L5 (nI p) (if rt = true then 1 else -1) f (pOI b) (nI m) w) (step := pBs (cP s n) p rt) (I := fun m b => ∀ j, b = some j → j < m) (N := cK s n z) (G := fun b => some (pOI b, w)) (fun f m b hm hI => ?_) (fun m b hm hI => ?_) (fun f b hI => ?_) (cK s n z) jFU 0 none (by omega) (jFU_gt (by omega)) (fun j e => by cases e)
  · exact mq_beside_s hM hP h0 hp hm (fun j e => by have := hI j e; omega)
  · intro j e
    unfold pBs at e
    split at e
    · cases b with
      | none => cases e; omega
      | some i =>
        have := hI i rfl
        simp only [] at e
        split at e
        · cases e; omega
        · cases e; omega
    · have := hI j e; omega
  · show f_X9_beside_L5 (nI p) (if rt = true then 1 else -1) (f + 1) (pOI b) (nI (cK s n z)) w = some (pOI b, w)
    rw [f_X9_beside_L5, jlt_eq, hP.2.1, if_pos ((nI_leI (by omega) (by omega)).mpr (Nat.le_refl _))]
theorem mq_first (hM : pMn w (sI s) n (nI z)) (hP : pMP w s n z) (h0 : 0 < n) (hs : ∀ k, k < n → s k ≤ 999) {k : Nat} (hk : k < cM s n) : f_X9_firstOf (nI k) w = some (nI (cFi s n z k), w) := by
  obtain ⟨g1, g2⟩ := cM48 hM h0
  have hp := cP_lt (s := s) h0 hk
  have hb := mq_beside hM hP h0 hp (rt := false)
  rw [if_neg (by decide)] at hb
  rw [f_X9_firstOf, mq_placeOf hM hP h0 hk, jcb_s2, hb, jcb_s2]
  unfold cFi
  cases e : cNb s n z (cP s n k) false with
  | none => rw [pOI_n, if_pos rfl]; rfl
  | some j =>
    obtain ⟨c1, c2⟩ := cNb_lt e
    simp only [pBsd, Bool.false_eq_true, if_false, decide_eq_true_eq] at c2
    rw [pOI_s, if_neg (nI_ne1 (by omega)), mq_placeOf hM hP h0 c1, jcb_s2, mq_placeOf hM hP h0 hk, jcb_s2, mq_low hM hs c2 hp, jcb_s2]
theorem mq_last (hM : pMn w (sI s) n (nI z)) (hP : pMP w s n z) (h0 : 0 < n) (hs : ∀ k, k < n → s k ≤ 999) {k : Nat} (hk : k < cM s n) : f_X9_lastOf (nI k) w = some (nI (cLa s n z k), w) := by
  obtain ⟨g1, g2⟩ := cM48 hM h0
  have hp := cP_lt (s := s) h0 hk
  have hb := mq_beside hM hP h0 hp (rt := true)
  rw [if_pos rfl] at hb
  rw [f_X9_lastOf, mq_placeOf hM hP h0 hk, jcb_s2, hb, jcb_s2]
  unfold cLa
  cases e : cNb s n z (cP s n k) true with
  | none => rw [pOI_n, if_pos rfl, sp_many hM, jcb_s2, nI_m1 h0]
  | some j =>
    obtain ⟨c1, c2⟩ := cNb_lt e
    simp only [pBsd, if_true, decide_eq_true_eq] at c2
    have := cLow_b (s := s) c2
    rw [pOI_s, if_neg (nI_ne1 (by omega)), mq_placeOf hM hP h0 hk, jcb_s2, mq_placeOf hM hP h0 c1, jcb_s2, mq_low hM hs c2 (cP_lt h0 c1), jcb_s2, nI_m1 (by omega)]
theorem jmax0_sub {x y : Nat} (hx : x ≤ 999) (hy : y ≤ 999) : jmax 0 (nI x - nI y) = nI (x - y) := by
  by_cases h : y ≤ x
  · rw [nI_sub h, show (0 : Int32) = nI 0 from rfl, jmax_nI (by omega) (by omega), show max 0 (x - y) = x - y by omega]
  · unfold jmax
    have hx0 : x - y = 0 := by omega
    rw [hx0, if_neg]
    · rfl
    · rw [Int32.lt_iff_toInt_lt]
      have e : (nI x - nI y).toInt = (x : Int) - y := by
        rw [Int32.toInt_sub, nI_toInt (by omega), nI_toInt (by omega)]
        exact Int.bmod_eq_of_le (by omega) (by omega)
      rw [e]
      show ¬ (0 : Int32).toInt < _
      rw [show (0 : Int32).toInt = 0 from rfl]
      omega
theorem mq_area (hM : pMn w (sI s) n (nI z)) (hP : pMP w s n z) (h0 : 0 < n) (hs : ∀ k, k < n → s k ≤ 999) {k : Nat} (hk : k < cM s n) : f_X9_areaOf (nI k) w = some (nI (cAr s n z k), w) := by
  obtain ⟨g1, g2⟩ := cM48 hM h0
  have hp := cP_lt (s := s) h0 hk
  have hw := cW_lt (s := s) h0 hk
  obtain ⟨l1, l2⟩ := cLa_ge (s := s) (z := z) h0 hk
  have l3 := cFi_le (s := s) (z := z) h0 hk
  have hd := cD_le hs h0 hk
  have hs1 := hs _ hp
  have hl := mq_last hM hP h0 hs hk
  rw [f_X9_areaOf, mq_first hM hP h0 hs hk, jcb_s2]
  unfold cAr
  refine pIt_is' (F := fun f m x => f_X9_areaOf_L8 (nI k) f (nI x) (nI m) w) (N := cLa s n z k + 1) (G := fun x => some (nI x, w)) (fun f m x hm => ?_) (fun f x => ?_) _ jFU _ 0 (by omega) (jFU_gt (by omega))
  · have b1 := hs m (by omega)
    have hdn : jgi w 54 0 (cW s n k) = nI (cD s n k) := (hP.2.2.2.2 _ hw).2.2.1
    show f_X9_areaOf_L8 (nI k) (f + 1) (nI x) (nI m) w = f_X9_areaOf_L8 (nI k) f (nI (x + (s m - cD s n k))) (nI (m + 1)) w
    rw [f_X9_areaOf_L8, hl, jcb_s2]
    simp (disch := omega) only [lt_F, if_false, jbd_nI, ↓jlt_e2, hM.2.2.1 m (by omega), hP.2.2.1 k hk, hdn, sI_e, nI_1, jmax0_sub, nI_add]
  · show f_X9_areaOf_L8 (nI k) (f + 1) (nI x) (nI (cLa s n z k + 1)) w = some (nI x, w)
    rw [f_X9_areaOf_L8, hl, jcb_s2, if_pos ((nI_ltI (by omega) (by omega)).mpr (by omega))]
theorem nI_half {x : Nat} (h : x ≤ 999) : nI x / 2 = nI (x / 2) := by
  have hd : ∀ y : Fin 1000, nI y.val / 2 = nI (y.val / 2) := by decide +kernel
  exact hd ⟨x, by omega⟩
theorem mq_width (hM : pMn w (sI s) n (nI z)) (hP : pMP w s n z) (h0 : 0 < n) (hs : ∀ k, k < n → s k ≤ 999) {k : Nat} (hk : k < cM s n) : f_X9_widthOf (nI k) w = some (nI (cWi s n k), w) := by
  obtain ⟨g1, g2⟩ := cM48 hM h0
  have hp := cP_lt (s := s) h0 hk
  have hd := cD_le hs h0 hk
  have hs1 := hs _ hp
  have hl := cL_le hs h0 hk
  have hle : cL s n k / 2 ≤ s (cP s n k) := by have := cL_is (s := s) (n := n) (k := k); omega
  have hh : cHw s n k ≤ 999 := by unfold cHw; omega
  rw [f_X9_widthOf, mq_placeOf hM hP h0 hk, jcb_s2, mq_height hM hP h0 hk, jcb_s2, mq_life hM hP h0 hs hk, jcb_s2, nI_half hl, nI_sub hle]
  have hr : ∀ x, f_X9_around_L37 (nI (cHw s n k)) jFU (nI x) (nI (cP s n k + 1)) w = some (nI (x + pCnt (fun j => decide (cHw s n k ≤ s j)) (n - (cP s n k + 1)) (cP s n k + 1)), w) := fun x => by
    refine pCnt_is (F := fun f m x => f_X9_around_L37 (nI (cHw s n k)) f (nI x) (nI m) w) (N := n) (G := fun x => some (nI x, w)) (fun f m x hm => ?_) (fun f x => ?_) _ jFU _ x (by omega) (jFU_gt (by omega))
    · have b1 := hs m hm
      show f_X9_around_L37 (nI (cHw s n k)) (f + 1) (nI x) (nI m) w = _
      rw [f_X9_around_L37, sp_many hM, jcb_s2]
      simp (disch := omega) only [le_F, if_false, jbd_nI, ↓jlt_e2, hM.2.2.1 m hm, sI_e, lt_E, nI_1, decide_eq_true_eq]
      by_cases c : cHw s n k ≤ s m
      · have c' : ¬ s m < cHw s n k := by omega
        simp only [c, c', if_true, if_false]
      · have c' : s m < cHw s n k := by omega
        simp only [c, c', if_true, if_false]
    · show f_X9_around_L37 (nI (cHw s n k)) (f + 1) (nI x) (nI n) w = some (nI x, w)
      rw [f_X9_around_L37, sp_many hM, jcb_s2, if_pos ((nI_leI (by omega) (by omega)).mpr (Nat.le_refl _))]
  have hr2 := hr (1 + pCnt (fun j => decide (cHw s n k ≤ s (cP s n k - 1 - j))) (cP s n k) 0)
  rw [f_X9_around, jlt_eq]
  have idx : ∀ j, j < cP s n k → nI (cP s n k - j) - 1 = nI (cP s n k - 1 - j) := fun j hj => by rw [nI_m1 (by omega)]; congr 1; omega
  have hL := pCnt_is (F := fun f m x => f_X9_around_L7 (nI (cHw s n k)) (fun (v10 : Int32) (w11 : j_St) => jlt (nI (cP s n k) + 1) fun v12 => f_X9_around_L37 (nI (cHw s n k)) jFU v10 v12 w11) f (nI x) (nI (cP s n k - m) - 1) w) (b := fun j => decide (cHw s n k ≤ s (cP s n k - 1 - j))) (N := cP s n k) (G := fun x => f_X9_around_L37 (nI (cHw s n k)) jFU (nI x) (nI (cP s n k + 1)) w) (fun f m x hm => ?_) (fun f x => ?_) (cP s n k) jFU 0 1 (by omega) (jFU_gt (by omega))
  · rw [hr2] at hL
    have hL' : f_X9_around_L7 (nI (cHw s n k)) (fun (v10 : Int32) (w11 : j_St) => jlt (nI (cP s n k) + 1) fun v12 => f_X9_around_L37 (nI (cHw s n k)) jFU v10 v12 w11) jFU 1 (nI (cP s n k) - 1) w = _ := hL
    show jcb (f_X9_around_L7 (nI (cHw s n k)) (fun (v10 : Int32) (w11 : j_St) => jlt (nI (cP s n k) + 1) fun v12 => f_X9_around_L37 (nI (cHw s n k)) jFU v10 v12 w11) jFU 1 (nI (cP s n k) - 1) w) _ = _
    rw [hL', jcb_s2]
    rfl
  · have hi : cP s n k - 1 - m < n := by omega
    have b1 := hs _ hi
    show f_X9_around_L7 (nI (cHw s n k)) _ (f + 1) (nI x) (nI (cP s n k - m) - 1) w = _
    have i2 : nI (cP s n k - 1 - m) + (-1) = nI (cP s n k - (m + 1)) - 1 := by
      rw [show cP s n k - (m + 1) = cP s n k - 1 - m by omega, Int32.sub_eq_add_neg]
    rw [idx m hm, f_X9_around_L7]
    simp (disch := omega) only [nI_neg, if_false, jbd_nI, ↓jlt_e2, hM.2.2.1 _ hi, sI_e, lt_E, nI_1, decide_eq_true_eq, i2]
    by_cases c : cHw s n k ≤ s (cP s n k - 1 - m)
    · have c' : ¬ s (cP s n k - 1 - m) < cHw s n k := by omega
      simp only [c, c', if_true, if_false]
    · have c' : s (cP s n k - 1 - m) < cHw s n k := by omega
      simp only [c, c', if_true, if_false]
  · show f_X9_around_L7 (nI (cHw s n k)) _ (f + 1) (nI x) (nI (cP s n k - cP s n k) - 1) w = _
    rw [Nat.sub_self, nI_00, f_X9_around_L7, if_pos (by decide), jlt_eq, nI_1]
theorem pGen_is (h0 : 0 < n) {c f g : Nat} (hc : c < cM s n) (hf : c < f) (hg : c < g) : pGen (cPa s n) f c = pGen (cPa s n) g c := by
  induction c using Nat.strongRecOn generalizing f g with
  | _ c ih =>
    obtain ⟨f, rfl⟩ : ∃ f', f = f' + 1 := ⟨f - 1, by omega⟩
    obtain ⟨g, rfl⟩ : ∃ f', g = f' + 1 := ⟨g - 1, by omega⟩
    unfold pGen
    by_cases e : c = 0
    · subst e
      rw [cPa_0 h0]
    · obtain ⟨p, l, -, -, h3, h4⟩ := cVa_s (s := s) h0 (by omega) hc
      rw [h3]
      simp only []
      rw [ih l h4 (by omega) (f := f) (g := g) (by omega) (by omega)]
theorem mq_gen_L (hM : pMn w (sI s) n (nI z)) (hP : pMP w s n z) (h0 : 0 < n) {c f g : Nat} (hc : c < cM s n) (hf : c < f) (hg : c < g) {x : Nat} : f_X9_generationOf_L9 f (nI x) (nI c) w = some (nI (x + pGen (cPa s n) g c), w) := by
  obtain ⟨g1, g2⟩ := cM48 hM h0
  induction c using Nat.strongRecOn generalizing f g x with
  | _ c ih =>
    obtain ⟨f, rfl⟩ : ∃ f', f = f' + 1 := ⟨f - 1, by omega⟩
    obtain ⟨g, rfl⟩ : ∃ f', g = f' + 1 := ⟨g - 1, by omega⟩
    have h55 := (hP.2.2.2.2 c hc).2.2.2
    unfold pGen
    by_cases e : c = 0
    · subst e
      rw [cPa_0 h0] at h55 ⊢
      rw [f_X9_generationOf_L9, jbd_nI (by omega) (by decide), jlt_eq, h55, pOI_n, if_pos rfl]
      rfl
    · obtain ⟨p, l, -, -, h3, h4⟩ := cVa_s (s := s) h0 (by omega) hc
      rw [h3] at h55 ⊢
      rw [f_X9_generationOf_L9, jbd_nI (by omega) (by decide), jlt_eq, h55, pOI_s, if_neg (nI_ne1 (by omega)), jlt_eq, nI_1, jbd_nI (by omega) (by decide), jlt_eq, h55, pOI_s, ih l h4 (by omega) (g := g) (by omega) (by omega)]
      simp only []
      rw [show x + 1 + pGen (cPa s n) g l = x + (pGen (cPa s n) g l + 1) by omega]
theorem mq_gen (hM : pMn w (sI s) n (nI z)) (hP : pMP w s n z) (h0 : 0 < n) {k : Nat} (hk : k < cM s n) : f_X9_generationOf (nI k) w = some (nI (cGe s n k), w) := by
  obtain ⟨g1, g2⟩ := cM48 hM h0
  have hw := cW_lt (s := s) h0 hk
  rw [f_X9_generationOf, jbd_nI (by omega) (by decide), jlt_eq, hP.2.2.1 k hk]
  have := mq_gen_L hM hP h0 (x := 0) hw (f := jFU) (g := 48) (jFU_gt (by omega)) (by omega)
  rw [Nat.zero_add] at this
  exact this
end MQ
