/-! the pure law: unlike; a script's step -/
section UNL
variable {w w' : j_St} {A : pA} {X : pX} {s : Nat → Nat} {n z : Nat}
theorem pDi_comm {x y : Nat} : pDi x y = pDi y x := by
  unfold pDi
  split <;> split <;> omega
theorem pDi_0 : pDi 0 0 = 0 := by decide
/-- how long the k-th lives, 0 if there is none -/
def cL0 (T : pT) (k : Nat) : Nat := if k < cM T.1 T.2.1 then cL T.1 T.2.1 k else 0
def cUn (T U : pT) : Nat := pIt (fun k x => x + pDi (cL0 T k) (cL0 U k)) 48 0 0
theorem pIt_split {α : Type} {st : Nat → α → α} : ∀ (c d m : Nat) (b : α), pIt st (c + d) m b = pIt st d (m + c) (pIt st c m b) := by
  intro c
  induction c with
  | zero => intro d m b; rw [Nat.zero_add]; rfl
  | succ c ih =>
    intro d m b
    rw [show c + 1 + d = (c + d) + 1 by omega]
    show pIt st (c + d) (m + 1) (st m b) = _
    rw [ih, show m + 1 + c = m + (c + 1) by omega]
    rfl
theorem pIt_id {α : Type} {st : Nat → α → α} : ∀ (c m : Nat) (b : α), (∀ j y, m ≤ j → st j y = y) → pIt st c m b = b := by
  intro c
  induction c with
  | zero => intro m b _; rfl
  | succ c ih =>
    intro m b h
    show pIt st c (m + 1) (st m b) = b
    rw [h m b (Nat.le_refl _)]
    exact ih (m + 1) b (fun j y hj => h j y (by omega))
theorem cUn_to {T U : pT} {N : Nat} (h1 : cM T.1 T.2.1 ≤ N) (h2 : cM U.1 U.2.1 ≤ N) (hN : N ≤ 48) : cUn T U = pIt (fun k x => x + pDi (cL0 T k) (cL0 U k)) N 0 0 := by
  unfold cUn
  obtain ⟨d, hd⟩ : ∃ d, 48 = N + d := ⟨48 - N, by omega⟩
  rw [hd, pIt_split]
  refine pIt_id _ _ _ fun j y hj => ?_
  have a1 : cL0 T j = 0 := by unfold cL0; rw [if_neg (by omega)]
  have a2 : cL0 U j = 0 := by unfold cL0; rw [if_neg (by omega)]
  rw [a1, a2, pDi_0]
  rfl
theorem cL0_le {T : pT} (hT : wfT T) (k : Nat) : cL0 T k ≤ 999 := by
  unfold cL0
  split
  · exact cL_le hT.2.2.1 hT.1 (by assumption)
  · omega
theorem jabs_nI {x y : Nat} (hx : x ≤ 999) (hy : y ≤ 999) : jabs (nI x - nI y) = nI (pDi x y) := by
  rw [jabs_ap (pSl_nI (by omega)) (pSl_nI (by omega)), pAp_nI (by omega) (by omega)]
theorem c_at5 {i0 i1 : Nat} {T : pT} (hT : wfT T) (hP : pCP w i0 i1 T.1 T.2.1 T.2.2.1) {k : Nat} (hk : k < cM T.1 T.2.1) : f_X5_at i0 (nI k) w = some (nI (cL0 T k), w) := by
  have hcm := cM_le (s := T.1) hT.1
  have := hT.2.1
  unfold cL0
  rw [if_pos hk, f_X5_at, jbd_nI (by omega) (by decide), jlt_eq, cq_row hP hk, job_s2, cq_pers hP hT.1 hT.2.2.1 hk, jcb_s2]
theorem c_apart {T U : pT} (hT : wfT T) (hU : wfT U) (h1 : pCP w 0 1 T.1 T.2.1 T.2.2.1) (h2 : pCP w 1 3 U.1 U.2.1 U.2.2.1) : f_X3_apart 0 1 w = some (nI (cUn T U), w) := by
  have a1 := cM_le (s := T.1) hT.1
  have a2 := cM_le (s := U.1) hU.1
  have b1 := hT.2.1
  have b2 := hU.2.1
  rw [cUn_to (T := T) (U := U) (N := max (cM T.1 T.2.1) (cM U.1 U.2.1)) (by omega) (by omega) (by omega)]
  have m1 : f_X5_many 0 w = some (nI (cM T.1 T.2.1), w) := by rw [f_X5_many, jlt_eq, h1.2.1]
  have m2 : f_X5_many 1 w = some (nI (cM U.1 U.2.1), w) := by rw [f_X5_many, jlt_eq, h2.2.1]
  refine pIt_is' (F := fun f m x => f_X3_apart_L4 0 1 f (nI x) (nI m) w) (step := fun k x => x + pDi (cL0 T k) (cL0 U k)) (N := max (cM T.1 T.2.1) (cM U.1 U.2.1)) (G := fun x => some (nI x, w)) (fun f m x hm => ?_) (fun f x => ?_) _ jFU 0 0 (by omega) (jFU_gt (by omega))
  · show f_X3_apart_L4 0 1 (f + 1) (nI x) (nI m) w = f_X3_apart_L4 0 1 f (nI (x + pDi (cL0 T m) (cL0 U m))) (nI (m + 1)) w
    have l1 := cL0_le hT m
    have l2 := cL0_le hU m
    have fin : ∀ v, v = nI (cL0 U m) → (jlt (nI x + jabs (nI (cL0 T m) - v)) fun v26 => jlt (nI m + 1) fun v27 => f_X3_apart_L4 0 1 f v26 v27 w) = f_X3_apart_L4 0 1 f (nI (x + pDi (cL0 T m) (cL0 U m))) (nI (m + 1)) w := fun v hv => by
      rw [hv, jlt_eq, jlt_eq, jabs_nI l1 l2, nI_add, nI_1]
    have second : ∀ v, v = nI (cL0 T m) → (jcb (f_X5_many 1 w) fun v18 w19 => jlt (fun (v24 : Int32) (w25 : j_St) => jlt (nI x + jabs (v - v24)) fun v26 => jlt (nI m + 1) fun v27 => f_X3_apart_L4 0 1 f v26 v27 w25) fun K66 => if v18 ≤ nI m then K66 0 w19 else jcb (f_X5_at 1 (nI m) w19) fun v21 w22 => K66 v21 w22) = f_X3_apart_L4 0 1 f (nI (x + pDi (cL0 T m) (cL0 U m))) (nI (m + 1)) w := fun v hv => by
      rw [m2, jcb_s2, jlt_eq]
      by_cases c : m < cM U.1 U.2.1
      · rw [if_neg (fun z => by have := (nI_leI (by omega) (by omega)).mp z; omega), c_at5 hU h2 c, jcb_s2, hv]
        exact fin _ rfl
      · rw [if_pos ((nI_leI (by omega) (by omega)).mpr (by omega)), hv]
        exact fin 0 (by unfold cL0; rw [if_neg c]; rfl)
    rw [f_X3_apart_L4, m1, jcb_s2, m2, jcb_s2, jmax_nI (by omega) (by omega), if_neg (fun z => by have := (nI_leI (by omega) (by omega)).mp z; omega), m1, jcb_s2, jlt_eq]
    by_cases c : m < cM T.1 T.2.1
    · rw [if_neg (fun z => by have := (nI_leI (by omega) (by omega)).mp z; omega), c_at5 hT h1 c, jcb_s2]
      exact second _ rfl
    · rw [if_pos ((nI_leI (by omega) (by omega)).mpr (by omega))]
      exact second 0 (by unfold cL0; rw [if_neg c]; rfl)
  · show f_X3_apart_L4 0 1 (f + 1) (nI x) (nI (max (cM T.1 T.2.1) (cM U.1 U.2.1))) w = _
    rw [f_X3_apart_L4, m1, jcb_s2, m2, jcb_s2, jmax_nI (by omega) (by omega), if_pos ((nI_leI (by omega) (by omega)).mpr (Nat.le_refl _))]
/-- a row is laid over another one -/
theorem pIt_fill {g G : Nat → Int32} : ∀ (c m : Nat), ∀ k, pIt (fun m (f : Nat → Int32) => up f m (G m)) c m g k = if m ≤ k ∧ k < m + c then G k else g k := by
  intro c
  induction c generalizing g with
  | zero => intro m k; show g k = _; rw [if_neg (by omega)]
  | succ c ih =>
    intro m k
    show pIt _ c (m + 1) (up g m (G m)) k = _
    rw [ih]
    by_cases e : k = m
    · subst e
      rw [if_neg (by omega), up_same, if_pos (by omega)]
    · rw [up_ne e]
      by_cases c1 : m + 1 ≤ k ∧ k < m + 1 + c
      · rw [if_pos c1, if_pos (by omega)]
      · rw [if_neg c1, if_neg (by omega)]
theorem m_putAside : ∃ g, f_X9_putAside w = some ((), jas w 64 0 g) ∧ ∀ k, k < 50 → g k = jgi w 47 0 k := by
  refine ⟨pIt (fun m (f : Nat → Int32) => up f m (jgi w 47 0 m)) 50 0 (jgi w 64 0), ?_, fun k hk => by rw [pIt_fill, if_pos (by omega)]⟩
  have := pIt_is' (F := fun f m (g : Nat → Int32) => f_X9_putAside_L2 f (nI m) (jas w 64 0 g)) (step := fun m f => up f m (jgi w 47 0 m)) (N := 50) (G := fun g => some ((), jas w 64 0 g)) (fun f m g hm => ?_) (fun f g => ?_) 50 jFU 0 (jgi w 64 0) (by omega) (jFU_gt (by omega))
  · rw [f_X9_putAside]
    refine Eq.trans ?_ this
    show f_X9_putAside_L2 jFU 0 w = f_X9_putAside_L2 jFU (nI 0) (jas w 64 0 (jgi w 64 0))
    rw [jas_self]
    rfl
  · show f_X9_putAside_L2 (f + 1) (nI m) (jas w 64 0 g) = f_X9_putAside_L2 f (nI (m + 1)) (jas w 64 0 (up g m (jgi w 47 0 m)))
    rw [f_X9_putAside_L2, if_neg (show ¬ (50 : Int32) ≤ nI m from fun z => by have := (nI_leI (a := 50) (b := m) (by omega) (by omega)).mp z; omega), jbd_nI (by omega) (by decide), jlt_eq, jas_ne (by omega), jbd_nI (by omega) (by decide), jlt_eq, jas_set, jlt_eq, nI_1]
  · show f_X9_putAside_L2 (f + 1) (nI 50) (jas w 64 0 g) = _
    rw [f_X9_putAside_L2, if_pos (by decide)]
theorem m_bringBack : ∃ g, f_X9_bringBack w = some ((), jas w 47 0 g) ∧ (∀ k, k < 50 → g k = jgi w 64 0 k) ∧ ∀ k, 50 ≤ k → g k = jgi w 47 0 k := by
  refine ⟨pIt (fun m (f : Nat → Int32) => up f m (jgi w 64 0 m)) 50 0 (jgi w 47 0), ?_, fun k hk => by rw [pIt_fill, if_pos (by omega)], fun k hk => by rw [pIt_fill, if_neg (by omega)]⟩
  have := pIt_is' (F := fun f m (g : Nat → Int32) => f_X9_bringBack_L2 f (nI m) (jas w 47 0 g)) (step := fun m f => up f m (jgi w 64 0 m)) (N := 50) (G := fun g => some ((), jas w 47 0 g)) (fun f m g hm => ?_) (fun f g => ?_) 50 jFU 0 (jgi w 47 0) (by omega) (jFU_gt (by omega))
  · rw [f_X9_bringBack]
    refine Eq.trans ?_ this
    show f_X9_bringBack_L2 jFU 0 w = f_X9_bringBack_L2 jFU (nI 0) (jas w 47 0 (jgi w 47 0))
    rw [jas_self]
    rfl
  · show f_X9_bringBack_L2 (f + 1) (nI m) (jas w 47 0 g) = f_X9_bringBack_L2 f (nI (m + 1)) (jas w 47 0 (up g m (jgi w 64 0 m)))
    rw [f_X9_bringBack_L2, if_neg (show ¬ (50 : Int32) ≤ nI m from fun z => by have := (nI_leI (a := 50) (b := m) (by omega) (by omega)).mp z; omega), jbd_nI (by omega) (by decide), jlt_eq, jas_ne (by omega), jbd_nI (by omega) (by decide), jlt_eq, jas_set, jlt_eq, nI_1]
  · show f_X9_bringBack_L2 (f + 1) (nI 50) (jas w 47 0 g) = _
    rw [f_X9_bringBack_L2, if_pos (by decide)]
theorem m_life0 {T : pT} (hT : wfT T) (hn : pMn w (sI T.1) T.2.1 (nI T.2.2.1)) (hP : pMP w T.1 T.2.1 T.2.2.1) {k : Nat} (hk : k < cM T.1 T.2.1) : f_X9_life (nI k) w = some (nI (cL0 T k), w) := by
  rw [mq_life hn hP hT.1 hT.2.2.1 hk]
  unfold cL0
  rw [if_pos hk]
theorem m_lives {T : pT} (hT : wfT T) (hn : pMn w (sI T.1) T.2.1 (nI T.2.2.1)) (hP : pMP w T.1 T.2.1 T.2.2.1) {kk : j_St → Option (Int32 × j_St)} : ∃ g, f_X9_unlike_L45 kk jFU 0 w = kk (jas w 65 0 g) ∧ ∀ k, k < 48 → g k = nI (cL0 T k) := by
  have a1 := cM_le (s := T.1) hT.1
  have b1 := hT.2.1
  refine ⟨pIt (fun m (f : Nat → Int32) => up f m (nI (cL0 T m))) 48 0 (jgi w 65 0), ?_, fun k hk => by rw [pIt_fill (G := fun m => nI (cL0 T m)), if_pos (by omega)]⟩
  have g65 : ∀ g, pSame (fun κ _ _ => κ = 65) w (jas w 65 0 g) := fun g => jas_same fun _ => rfl
  have := pIt_is' (F := fun f m (g : Nat → Int32) => f_X9_unlike_L45 kk f (nI m) (jas w 65 0 g)) (step := fun m f => up f m (nI (cL0 T m))) (N := 48) (G := fun g => kk (jas w 65 0 g)) (fun f m g hm => ?_) (fun f g => ?_) 48 jFU 0 (jgi w 65 0) (by omega) (jFU_gt (by omega))
  · refine Eq.trans ?_ this
    show f_X9_unlike_L45 kk jFU 0 w = f_X9_unlike_L45 kk jFU (nI 0) (jas w 65 0 (jgi w 65 0))
    rw [jas_self]
    rfl
  · have hn' := hn.same (g65 g) (fun k => by omega)
    have hP' := hP.same (g65 g) (fun κ i k a b => by unfold KA at a; omega)
    show f_X9_unlike_L45 kk (f + 1) (nI m) (jas w 65 0 g) = f_X9_unlike_L45 kk f (nI (m + 1)) (jas w 65 0 (up g m (nI (cL0 T m))))
    rw [f_X9_unlike_L45, if_neg (show ¬ (48 : Int32) ≤ nI m from fun z => by have := (nI_leI (a := 48) (b := m) (by omega) (by omega)).mp z; omega), jlt_eq, hP'.1, jlt_eq]
    have fin : ∀ v, v = nI (cL0 T m) → (jbd (nI m) 48 fun a28 => jlt (jsi (jas w 65 0 g) 65 0 a28 v) fun w27 => jlt (nI m + 1) fun v29 => f_X9_unlike_L45 kk f v29 w27) = f_X9_unlike_L45 kk f (nI (m + 1)) (jas w 65 0 (up g m (nI (cL0 T m)))) := fun v hv => by
      rw [hv, jbd_nI (by omega) (by decide), jlt_eq, jas_set, jlt_eq, nI_1]
    by_cases c : m < cM T.1 T.2.1
    · rw [if_neg (fun z => by have := (nI_leI (by omega) (by omega)).mp z; omega), m_life0 hT hn' hP' c, jcb_s2]
      exact fin _ rfl
    · rw [if_pos ((nI_leI (by omega) (by omega)).mpr (by omega))]
      exact fin 0 (by unfold cL0; rw [if_neg c]; rfl)
  · show f_X9_unlike_L45 kk (f + 1) (nI 48) (jas w 65 0 g) = _
    rw [f_X9_unlike_L45, if_pos (by decide)]
theorem m_apartL {T U : pT} (hT : wfT T) (hU : wfT U) (hn : pMn w (sI T.1) T.2.1 (nI T.2.2.1)) (hP : pMP w T.1 T.2.1 T.2.2.1) (hl : ∀ k, k < 48 → jgi w 65 0 k = nI (cL0 U k)) : f_X9_unlike_L92 jFU 0 0 w = some (nI (cUn T U), w) := by
  have a1 := cM_le (s := T.1) hT.1
  have b1 := hT.2.1
  refine pIt_is' (F := fun f m x => f_X9_unlike_L92 f (nI x) (nI m) w) (step := fun k x => x + pDi (cL0 T k) (cL0 U k)) (N := 48) (G := fun x => some (nI x, w)) (fun f m x hm => ?_) (fun f x => ?_) 48 jFU 0 0 (by omega) (jFU_gt (by omega))
  · show f_X9_unlike_L92 (f + 1) (nI x) (nI m) w = f_X9_unlike_L92 f (nI (x + pDi (cL0 T m) (cL0 U m))) (nI (m + 1)) w
    have l1 := cL0_le hT m
    have l2 := cL0_le hU m
    rw [f_X9_unlike_L92, if_neg (show ¬ (48 : Int32) ≤ nI m from fun z => by have := (nI_leI (a := 48) (b := m) (by omega) (by omega)).mp z; omega), jbd_nI (by omega) (by decide), jlt_eq, hl m hm, jlt_eq, hP.1, jlt_eq]
    have fin : ∀ v, v = nI (cL0 T m) → (jcb (f_X9_apart (nI (cL0 U m)) v w) fun v49 w50 => jlt (nI x + v49) fun v52 => jlt (nI m + 1) fun v53 => f_X9_unlike_L92 f v52 v53 w50) = f_X9_unlike_L92 f (nI (x + pDi (cL0 T m) (cL0 U m))) (nI (m + 1)) w := fun v hv => by
      rw [hv, sp_apart, jcb_s2, pAp_nI (by omega) (by omega), pDi_comm, jlt_eq, jlt_eq, nI_add, nI_1]
    by_cases c : m < cM T.1 T.2.1
    · rw [if_neg (fun z => by have := (nI_leI (by omega) (by omega)).mp z; omega), m_life0 hT hn hP c, jcb_s2]
      exact fin _ rfl
    · rw [if_pos ((nI_leI (by omega) (by omega)).mpr (by omega))]
      exact fin 0 (by unfold cL0; rw [if_neg c]; rfl)
  · show f_X9_unlike_L92 (f + 1) (nI x) (nI 48) w = _
    rw [f_X9_unlike_L92, if_pos (by decide)]
theorem wfA.im (h : wfA A) (hi : aHi A = true) : wfT (aIm A) ∧ ∃ X, aX A = some X := by
  refine ⟨h.2.2.2.2.1 hi, ?_⟩
  cases e : aX A with
  | none =>
    have := (h.2.2.1 e).2
    rw [hi] at this
    cases this
  | some X => exact ⟨X, rfl⟩
/-- unlike -/
theorem q_unlike (hA : wfA A) : pQry A f_X1_unlike f_X9_unlike := by
  cases hi : aHi A with
  | false =>
    refine pQry_of (r := -1) (fun w hC => ⟨w, ?_, hC.self⟩) (fun w hM => ⟨w, ?_, hM.self⟩)
    · rw [f_X1_unlike, jlt_eq, hC.2.2.2.1.1, hi, if_pos (by decide)]
    · rw [f_X9_unlike, jlt_eq, hM.2.2.2.1.1, hi, if_pos (by decide)]
  | true =>
    obtain ⟨hU, X, hX⟩ := hA.im hi
    obtain ⟨hwX, hT⟩ := hA.x hX
    have hT' := hT
    obtain ⟨t1, t2, t3, t4, t5⟩ := hT'
    refine pQry_of2 (r := nI (cUn (aT A) (aIm A))) (fun w hC => ?_) (fun w hM => ?_)
    · obtain ⟨w1, e1, o1, p1⟩ := c_found hC hA hX
      have hC1 := hC.ok o1
      obtain ⟨r1, r2, -, -⟩ := hC1.2.2.2.1.2 hi
      obtain ⟨w2, e2, o2, g2, p2⟩ := c_of (i0 := 1) (Or.inr rfl) hC1 r1 hU.1 hU.2.2.1 hU.2.2.2.1
      have p1' : pCP w2 0 1 (aT A).1 (aT A).2.1 (aT A).2.2.1 := by
        obtain ⟨q1, q2, q3, q4, q5, q6⟩ := p1
        have hcm := cM_le (s := (aT A).1) t1
        have hw := fun k hk => cW_lt (s := (aT A).1) (k := k) t1 hk
        refine ⟨?_, ?_, ?_, fun k hk => ?_, fun c hc => ?_, fun k hk => ?_⟩
        · rw [g2.2.2.1 _ _ _ (by unfold KP; omega)]; exact q1
        · rw [g2.1 _ _ _ (by unfold KP; omega)]; exact q2
        · rw [g2.1 _ _ _ (by unfold KP; omega)]; exact q3
        · rw [g2.2.2.1 _ _ _ (by unfold KP; omega)]; exact q4 k hk
        · rw [g2.1 3 _ 0 (by unfold KP; omega), g2.1 3 _ 1 (by unfold KP; omega), g2.1 3 _ 2 (by unfold KP; omega), g2.1 3 _ 3 (by unfold KP; omega), g2.2.2.1 3 _ 5 (by unfold KP; omega)]; exact q5 c hc
        · have := hw k hk
          rw [g2.1 3 _ 6 (by unfold KP; omega)]; exact q6 k hk
      refine ⟨w2, ?_, o1.trans o2⟩
      rw [f_X1_unlike, jlt_eq, hC.2.2.2.1.1, hi, if_neg (by decide), e1, jcb_s2, jlt_eq, r2]
      rw [e2, jcb_s2, c_apart hT hU p1' p2, jcb_s2]
    · have hq := hM.xt hX
      obtain ⟨g1, e1, a1⟩ := m_putAside (w := w)
      have im := hM.2.2.2.1.2 hi
      -- the image's row is laid over
      have L15 : ∀ kk : j_St → Option (Int32 × j_St), f_X9_unlike_L15 kk jFU 0 (jas w 64 0 g1) = kk (jas (jas w 64 0 g1) 47 0 (pIt (fun m (f : Nat → Int32) => up f m (jgi w 63 0 m)) 50 0 (jgi (jas w 64 0 g1) 47 0))) := fun kk => by
        have := pIt_is' (F := fun f m (g : Nat → Int32) => f_X9_unlike_L15 kk f (nI m) (jas (jas w 64 0 g1) 47 0 g)) (step := fun m f => up f m (jgi w 63 0 m)) (N := 50) (G := fun g => kk (jas (jas w 64 0 g1) 47 0 g)) (fun f m g hm => ?_) (fun f g => ?_) 50 jFU 0 (jgi (jas w 64 0 g1) 47 0) (by omega) (jFU_gt (by omega))
        · refine Eq.trans ?_ this
          show f_X9_unlike_L15 kk jFU 0 (jas w 64 0 g1) = f_X9_unlike_L15 kk jFU (nI 0) (jas (jas w 64 0 g1) 47 0 (jgi (jas w 64 0 g1) 47 0))
          rw [jas_self]
          rfl
        · show f_X9_unlike_L15 kk (f + 1) (nI m) (jas (jas w 64 0 g1) 47 0 g) = f_X9_unlike_L15 kk f (nI (m + 1)) _
          rw [f_X9_unlike_L15, if_neg (show ¬ (50 : Int32) ≤ nI m from fun z => by have := (nI_leI (a := 50) (b := m) (by omega) (by omega)).mp z; omega), jbd_nI (by omega) (by decide), jlt_eq, jas_ne (by omega), jas_ne (by omega), jbd_nI (by omega) (by decide), jlt_eq, jas_set, jlt_eq, nI_1]
        · show f_X9_unlike_L15 kk (f + 1) (nI 50) (jas (jas w 64 0 g1) 47 0 g) = _
          rw [f_X9_unlike_L15, if_pos (by decide)]
      have gx : ∀ k, pIt (fun m (f : Nat → Int32) => up f m (jgi w 63 0 m)) 50 0 (jgi (jas w 64 0 g1) 47 0) k = if k < 50 then jgi w 63 0 k else jgi w 47 0 k := fun k => by
        rw [pIt_fill (G := fun m => jgi w 63 0 m)]
        by_cases c : k < 50
        · rw [if_pos (by omega), if_pos c]
        · rw [if_neg (by omega), if_neg c, jas_ne (by omega)]
      generalize pIt (fun m (f : Nat → Int32) => up f m (jgi w 63 0 m)) 50 0 (jgi (jas w 64 0 g1) 47 0) = g2 at L15 gx
      have s12 : pSame (fun κ i k => i = 0 ∧ (κ = 64 ∨ κ = 47)) w (jas (jas w 64 0 g1) 47 0 g2) := (jas_same fun k => ⟨rfl, Or.inl rfl⟩).trans (jas_same fun k => ⟨rfl, Or.inr rfl⟩)
      have d47 : ∀ k, jgi (jas (jas w 64 0 g1) 47 0 g2) 47 0 k = if k < 50 then jgi w 63 0 k else jgi w 47 0 k := fun k => by rw [jas_get]; exact gx k
      have d64 : ∀ k, k < 50 → jgi (jas (jas w 64 0 g1) 47 0 g2) 64 0 k = jgi w 47 0 k := fun k hk => by rw [jas_ne (by omega), jas_get]; exact a1 k hk
      generalize jas (jas w 64 0 g1) 47 0 g2 = w2 at L15 s12 d47 d64
      obtain ⟨i1, i2, i3, i4, i5⟩ := im
      rw [Nat.zero_add] at i1 i2
      have n2 : pMn w2 (sI (aIm A).1) (aIm A).2.1 (nI (aIm A).2.2.1) := ⟨by rw [d47]; exact i1, by rw [d47]; exact i2, fun k hk => by
        have := hU.2.1
        rw [d47, if_pos (by omega)]
        have := i4 k hk
        rw [Nat.zero_add] at this
        exact this, hU.2.1⟩
      have L2 := hq.2.1.same s12 (fun k => by omega) ⟨by omega, by omega⟩
      have W2 := hM.2.2.2.2.2.2.same s12 (fun κ i k a b => by unfold KA at a; omega)
      obtain ⟨w3, e3, s3, p3, l3, W3⟩ := sp_findsN n2 L2 hU.1 hU.2.2.1 hU.2.2.2.1 W2
      have n3 := n2.same s3 (fun k => by unfold KA; omega)
      have L3 := L2.same s3 (fun k => by unfold KA; omega) ⟨by unfold KA; omega, by unfold KA; omega⟩
      obtain ⟨g4, e4, a4⟩ := m_lives hU n3 p3 (kk := fun (w30 : j_St) => jcb (f_X9_bringBack w30) fun _ w32 => jcb (f_X9_finds w32) fun _ w35 => f_X9_unlike_L92 jFU 0 0 w35)
      have s4 : pSame (fun κ i k => i = 0 ∧ κ = 65) w3 (jas w3 65 0 g4) := jas_same fun k => ⟨rfl, rfl⟩
      have d65 : ∀ k, k < 48 → jgi (jas w3 65 0 g4) 65 0 k = nI (cL0 (aIm A) k) := fun k hk => by rw [jas_get]; exact a4 k hk
      generalize jas w3 65 0 g4 = w4 at e4 s4 d65
      obtain ⟨g5, e5, a5, b5⟩ := m_bringBack (w := w4)
      have s5 : pSame (fun κ i k => i = 0 ∧ κ = 47) w4 (jas w4 47 0 g5) := jas_same fun k => ⟨rfl, rfl⟩
      have d5 : ∀ k, jgi (jas w4 47 0 g5) 47 0 k = jgi w 47 0 k := fun k => by
        rw [jas_get]
        by_cases c : k < 50
        · rw [a5 k c, s4.1 _ _ _ (by omega), s3.1 _ _ _ (by unfold KA; omega), d64 k c]
        · rw [b5 k (by omega), s4.1 _ _ _ (by omega), s3.1 _ _ _ (by unfold KA; omega), d47, if_neg c]
      generalize jas w4 47 0 g5 = w5 at e5 s5 d5
      have n5 : pMn w5 (sI (aT A).1) (aT A).2.1 (nI (aT A).2.2.1) := by
        obtain ⟨b1, b2, b3, b4⟩ := hM.mn hA hX
        exact ⟨by rw [d5]; exact b1, by rw [d5]; exact b2, fun k hk => by rw [d5]; exact b3 k hk, b4⟩
      have L5 := (L3.same s4 (fun k => by omega) ⟨by omega, by omega⟩).same s5 (fun k => by omega) ⟨by omega, by omega⟩
      have W5 := (W3.same s4 (fun κ i k a b => by unfold KA at a; omega)).same s5 (fun κ i k a b => by unfold KA at a; omega)
      obtain ⟨w6, e6, s6, p6, l6, W6⟩ := sp_findsN n5 L5 t1 t3 t4 W5
      have n6 := n5.same s6 (fun k => by unfold KA; omega)
      have gall : pSame KM47 w w6 := ((((s12.mono (K' := KM47) fun κ i k y => by unfold KM47 KMQ; omega).trans (s3.mono (K' := KM47) fun κ i k y => Or.inl (Or.inl y))).trans (s4.mono (K' := KM47) fun κ i k y => by unfold KM47 KMQ; omega)).trans (s5.mono (K' := KM47) fun κ i k y => by unfold KM47; omega)).trans (s6.mono (K' := KM47) fun κ i k y => Or.inl (Or.inl y))
      have r47 : ∀ k, jgi w6 47 0 k = jgi w 47 0 k := fun k => by rw [s6.1 _ _ _ (by unfold KA; omega), d5]
      refine ⟨w6, ?_, hM.same47 gall r47 W6, gall.mono fun κ i k y => y.xm⟩
      rw [f_X9_unlike, jlt_eq, hM.2.2.2.1.1, hi, if_neg (by decide), e1, jcb_s2, L15, e3, jcb_s2, e4, e5, jcb_s2, e6, jcb_s2]
      exact m_apartL hT hU n6 p6 (fun k hk => by rw [s6.1 _ _ _ (by unfold KA; omega), s5.1 _ _ _ (by omega)]; exact d65 k hk)
/-- a script's step -/
theorem c_isScript_T (hC : RelC A w) (hA : wfA A) {x : Int32} (h : qAt x (aSm A)) : f_X1_isScript x w = some (1, w) := by
  have := hA.2.1.1
  rw [f_X1_isScript, jlt_eq, hC.2.1.1, cIn_T h (by omega) rfl rfl, jcb_s2, if_pos (Or.inr rfl)]
theorem c_isScript_F (hC : RelC A w) (hA : wfA A) {x : Int32} (h : ¬ qAt x (aSm A)) : f_X1_isScript x w = some (0, w) := by
  have := hA.2.1.1
  rw [f_X1_isScript, jlt_eq, hC.2.1.1, cIn_F h (by omega) rfl rfl, jcb_s2, if_pos (Or.inl rfl)]
theorem m_isScript_T (hM : RelM A w) (hA : wfA A) {x : Int32} (h : qAt x (aSm A)) : f_X9_isScript x w = some (1, w) := by
  have := hA.2.1.1
  rw [f_X9_isScript, jlt_eq, hM.2.1.1, mIn_T h (by omega) rfl, jcb_s2, if_pos (Or.inr rfl)]
theorem m_isScript_F (hM : RelM A w) (hA : wfA A) {x : Int32} (h : ¬ qAt x (aSm A)) : f_X9_isScript x w = some (0, w) := by
  have := hA.2.1.1
  rw [f_X9_isScript, jlt_eq, hM.2.1.1, mIn_F h (by omega) rfl, jcb_s2, if_pos (Or.inl rfl)]
theorem q_step (hA : wfA A) (x y u : Int32) : pQry A (f_X1_step x y u) (f_X9_step x y u) := by
  have hsm := hA.2.1.1
  by_cases h : qAt x (aSm A)
  · have h' := h
    obtain ⟨j, hj, rfl⟩ := h
    obtain ⟨m1, m2, -⟩ := hA.2.1.2 j hj
    by_cases h2 : qAt y (aSc A j).1
    · have h2' := h2
      obtain ⟨i, hi, rfl⟩ := h2
      by_cases h3 : qAt u 3
      · have h3' := h3
        obtain ⟨k, hk, rfl⟩ := h3
        refine pQry_of (r := (aSc A j).2 (3 * i + k)) (fun w hC => ⟨w, ?_, hC.self⟩) (fun w hM => ⟨w, ?_, hM.self⟩)
        · obtain ⟨q, hq, s1, s2, s3⟩ := hC.2.1.2 j hj
          obtain ⟨r1, r2, r3⟩ := s3 i hi
          rw [f_X1_step, c_isScript_T hC hA h', jcb_s2, if_neg n10, jbd_nI (by omega) (by decide), jlt_eq, hq, job_s2, jlt_eq, s2, cIn_T h2' (by omega) rfl rfl, jcb_s2, if_neg n10, cIn_T h3' (by decide) rfl (by decide), jcb_s2, if_neg n10]
          rcases (show k = 0 ∨ k = 1 ∨ k = 2 by omega) with rfl | rfl | rfl
          · rw [if_pos (by decide), jbd_nI (by omega) (by decide), jlt_eq, hq, job_s2, jbd_nI (by omega) (by decide), jlt_eq, r1]
            rfl
          · rw [if_neg (by decide), jbd_nI (by omega) (by decide), jlt_eq, hq, job_s2, f_X13_number, show (2 : Int32) * nI i + (nI 1 - 1) = nI (2 * i) by rw [show (2 : Int32) = nI 2 from rfl, nI_mul, nI_m1 (by decide), nI_add]; rfl, jbd_nI (by omega) (by decide), jlt_eq, r2, jcb_s2]
          · rw [if_neg (by decide), jbd_nI (by omega) (by decide), jlt_eq, hq, job_s2, f_X13_number, show (2 : Int32) * nI i + (nI 2 - 1) = nI (2 * i + 1) by rw [show (2 : Int32) * nI i = nI 2 * nI i from rfl, nI_mul, nI_m1 (by decide), nI_add], jbd_nI (by omega) (by decide), jlt_eq, r3, jcb_s2]
        · obtain ⟨s1, s2⟩ := hM.2.1.2 j hj
          have ix : (3 : Int32) * (12 * nI j + nI i) + nI k = nI (36 * j + (3 * i + k)) := by
            rw [show (3 : Int32) * (12 * nI j + nI i) = nI 3 * (nI 12 * nI j + nI i) from rfl, nI_mul, nI_add, nI_mul, nI_add]
            congr 1
            omega
          rw [f_X9_step, m_isScript_T hM hA h', jcb_s2, if_neg n10, jbd_nI (by omega) (by decide), jlt_eq, s1, mIn_T h2' (by omega) rfl, jcb_s2, if_neg n10, mIn_T h3' (by decide) (by decide), jcb_s2, if_neg n10, ix, jbd_nI (by omega) (by decide), jlt_eq, s2 _ (by omega)]
      · refine pQry_of (r := -1000000) (fun w hC => ⟨w, ?_, hC.self⟩) (fun w hM => ⟨w, ?_, hM.self⟩)
        · obtain ⟨q, hq, s1, s2, s3⟩ := hC.2.1.2 j hj
          rw [f_X1_step, c_isScript_T hC hA h', jcb_s2, if_neg n10, jbd_nI (by omega) (by decide), jlt_eq, hq, job_s2, jlt_eq, s2, cIn_T h2' (by omega) rfl rfl, jcb_s2, if_neg n10, cIn_F h3 (by decide) rfl (by decide), jcb_s2, if_pos rfl]
        · obtain ⟨s1, s2⟩ := hM.2.1.2 j hj
          rw [f_X9_step, m_isScript_T hM hA h', jcb_s2, if_neg n10, jbd_nI (by omega) (by decide), jlt_eq, s1, mIn_T h2' (by omega) rfl, jcb_s2, if_neg n10, mIn_F h3 (by decide) (by decide), jcb_s2, if_pos rfl]
    · refine pQry_of (r := -1000000) (fun w hC => ⟨w, ?_, hC.self⟩) (fun w hM => ⟨w, ?_, hM.self⟩)
      · obtain ⟨q, hq, s1, s2, s3⟩ := hC.2.1.2 j hj
        rw [f_X1_step, c_isScript_T hC hA h', jcb_s2, if_neg n10, jbd_nI (by omega) (by decide), jlt_eq, hq, job_s2, jlt_eq, s2, cIn_F h2 (by omega) rfl rfl, jcb_s2, if_pos rfl]
      · obtain ⟨s1, s2⟩ := hM.2.1.2 j hj
        rw [f_X9_step, m_isScript_T hM hA h', jcb_s2, if_neg n10, jbd_nI (by omega) (by decide), jlt_eq, s1, mIn_F h2 (by omega) rfl, jcb_s2, if_pos rfl]
  · refine pQry_of (r := -1000000) (fun w hC => ⟨w, ?_, hC.self⟩) (fun w hM => ⟨w, ?_, hM.self⟩)
    · rw [f_X1_step, c_isScript_F hC hA h, jcb_s2, if_pos rfl]
    · rw [f_X9_step, m_isScript_F hM hA h, jcb_s2, if_pos rfl]
end UNL
