/-! the pure law: what is drawn -/
section WAYS
variable {w w' : j_St} {A A' : pA} {X : pX}
def drS (x : Int64) : Int64 := x * 6364136223846793005 + 1442695040888963407
def drV (x : Int64) (j : Nat) : Nat := ((drS x).toUInt64 >>> ((33 : Int32).toInt64.toUInt64 &&& Int64.toUInt64 63)).toNat % j
theorem lN_div {x y : Nat} (hx : x < 2 ^ 31) (hy : y < 2 ^ 31) : lN x / lN y = lN (x / y) := by
  apply Int64.toInt_inj.mp
  have h1 : x / y ≤ x := Nat.div_le_self x y
  rw [Int64.toInt_div, lN_toInt hx, lN_toInt hy, lN_toInt (by omega)]
  rw [← Int.ofNat_tdiv]
  generalize x / y = d at h1
  exact Int.bmod_eq_of_le (by omega) (by omega)
theorem dr_small (y : UInt64) : (y >>> ((33 : Int32).toInt64.toUInt64 &&& Int64.toUInt64 63)).toNat < 2 ^ 31 := by
  rw [show ((33 : Int32).toInt64.toUInt64 &&& Int64.toUInt64 63) = 33 by decide, UInt64.toNat_shiftRight, show (33 : UInt64).toNat % 64 = 33 by decide, Nat.shiftRight_eq_div_pow]
  have := y.toNat_lt
  omega
theorem u_lN (y : UInt64) : y.toInt64 = lN y.toNat := by
  rw [lN, ← UInt64.toInt64_ofNat', UInt64.ofNat_toNat]
theorem dr_is {y : UInt64} {j : Nat} (h0 : 0 < j) (hj : j < 2 ^ 31) : (y >>> ((33 : Int32).toInt64.toUInt64 &&& Int64.toUInt64 63)).toInt64 - (y >>> ((33 : Int32).toInt64.toUInt64 &&& Int64.toUInt64 63)).toInt64 / (nI j).toInt64 * (nI j).toInt64 = lN ((y >>> ((33 : Int32).toInt64.toUInt64 &&& Int64.toUInt64 63)).toNat % j) := by
  have h := dr_small y
  rw [u_lN, nI_l hj]
  generalize (y >>> ((33 : Int32).toInt64.toUInt64 &&& Int64.toUInt64 63)).toNat = v at h
  have e : j * (v / j) + v % j = v := Nat.div_add_mod v j
  rw [lN_div h hj, lN_mul, lN_sub (by rw [Nat.mul_comm]; omega)]
  congr 1
  rw [Nat.mul_comm]
  omega
theorem drV_lt {x : Int64} {j : Nat} (h0 : 0 < j) : drV x j < j := Nat.mod_lt _ h0
theorem jgl_eq {κ i k : Nat} {v : Int64} : jgl (jsl w κ i k v) κ i k = v := by rw [jgl_jsl, if_pos ⟨rfl, rfl, rfl⟩]
theorem c_draw {x : Int64} (h : jgl w 0 0 20 = x) {j : Nat} (h0 : 0 < j) (hj : j < 2 ^ 31) : f_X1_draw (nI j) w = some (nI (drV x j), jsl w 0 0 20 (drS x)) := by
  have z : ¬ lN j = 0 := fun e => by
    have := (lN_eq (a := j) (b := 0) hj (by decide)).mp e
    omega
  rw [f_X1_draw, jlt_eq, h, jlt_eq, jlt_eq, jgl_eq, jlt_eq, jlt_eq, if_neg (by rw [nI_l hj]; exact z), dr_is h0 hj, lN_i]
  rfl
theorem m_draw {x : Int64} (h : jgl w 1 0 45 = x) {j : Nat} (h0 : 0 < j) (hj : j < 2 ^ 31) : f_X9_draw (nI j) w = some (nI (drV x j), jsl w 1 0 45 (drS x)) := by
  have z : ¬ lN j = 0 := fun e => by
    have := (lN_eq (a := j) (b := 0) hj (by decide)).mp e
    omega
  rw [f_X9_draw, jlt_eq, h, jlt_eq, jlt_eq, jgl_eq, jlt_eq, jlt_eq, if_neg (by rw [nI_l hj]; exact z), dr_is h0 hj, lN_i]
  rfl
theorem RelC.drawn (h : RelC A w) {x : Int64} : RelC A (jsl w 0 0 20 x) := by
  have g : pSame (fun κ i k => κ = 0 ∧ k = 20) w (jsl w 0 0 20 x) := pSame.jsl ⟨rfl, rfl⟩
  exact h.same (g.mono fun κ i k y => by unfold KQ; omega) (pRise_of g (fun κ hκ => by omega)) (h.2.2.2.2.2.2.2.1.low g fun κ i k y => by omega) (h.2.2.2.2.2.2.2.2.1.low g fun κ i k y => by omega)
theorem RelM.drawn (h : RelM A w) {x : Int64} : RelM A (jsl w 1 0 45 x) := by
  have g : pSame (fun κ i k => κ = 1 ∧ k = 45) w (jsl w 1 0 45 x) := pSame.jsl ⟨rfl, rfl⟩
  exact h.same g (fun κ i k y => Or.inl (by unfold KMQ; omega)) (h.2.2.2.2.2.2.same g fun κ i k a b => by unfold KA at a; omega)
/-- the way that is drawn: which, its numbers, what is drawn from then -/
def wayQ (x : Int64) (n : Nat) : Nat × Int32 × Int32 × Int64 :=
  if drV x 8 ≤ 2 then (drV x 8, 0, 0, drS x)
  else if drV x 8 = 6 then (8, nI (drV (drS x) 200), 0, drS (drS x))
  else if drV x 8 = 7 then (6, nI (drV (drS x) 100), nI (drV (drS (drS x)) 9 + 1), drS (drS (drS x)))
  else (7, nI (drV (drS x) n), nI (drV (drS (drS x)) 1000), drS (drS (drS x)))
theorem wayQ_lt {x : Int64} {n : Nat} : (wayQ x n).1 < 10 := by
  unfold wayQ
  repeat' split
  · show drV x 8 < 10
    omega
  · exact show 8 < 10 by decide
  · exact show 6 < 10 by decide
  · exact show 7 < 10 by decide
theorem wayQ_why {x : Int64} {n : Nat} (h0 : 0 < n) (hn : n ≤ 48) : dWhy (wayQ x n).1 (wayQ x n).2.1 (wayQ x n).2.2.1 n = -1 := by
  have in9 : ∀ {k l : Nat}, k ≤ l → l < 2 ^ 31 → 0 ≤ nI k ∧ nI k ≤ nI l := fun h hl => ⟨(nI_leI (a := 0) (by omega) (by omega)).mpr (Nat.zero_le _), (nI_leI (by omega) hl).mpr h⟩
  have v1 := drV_lt (x := drS x) (j := 200) (by decide)
  have v2 := drV_lt (x := drS x) (j := 100) (by decide)
  have v3 := drV_lt (x := drS (drS x)) (j := 9) (by decide)
  have v4 := drV_lt (x := drS x) (j := n) h0
  have v5 := drV_lt (x := drS (drS x)) (j := 1000) (by decide)
  unfold wayQ
  split
  · rename_i h
    show dWhy (drV x 8) 0 0 n = -1
    unfold dWhy
    rw [if_neg (by omega), if_neg (by omega), if_neg (by omega), if_neg (by omega), if_neg (by omega)]
  · split
    · show dWhy 8 (nI (drV (drS x) 200)) 0 n = -1
      unfold dWhy
      rw [if_pos (by omega), if_pos (show 0 ≤ nI _ ∧ nI _ ≤ (999 : Int32) from in9 (l := 999) (by omega) (by omega))]
    · split
      · show dWhy 6 (nI (drV (drS x) 100)) (nI (drV (drS (drS x)) 9 + 1)) n = -1
        unfold dWhy
        rw [if_neg (by omega), if_neg (by omega), if_pos rfl, if_pos ⟨in9 (l := 99) (by omega) (by omega), (nI_leI (a := 1) (by omega) (by omega)).mpr (by omega), (nI_leI (b := 99) (by omega) (by omega)).mpr (by omega)⟩]
      · show dWhy 7 (nI (drV (drS x) n)) (nI (drV (drS (drS x)) 1000)) n = -1
        unfold dWhy
        rw [if_neg (by omega), if_neg (by omega), if_neg (by omega), if_pos rfl, if_pos ((rng_iff (by omega)).mpr ((qAt_nI (by omega) (by omega)).mpr v4)), if_pos (show 0 ≤ nI _ ∧ nI _ ≤ (999 : Int32) from in9 (l := 999) (by omega) (by omega))]
theorem c_way (hC : RelC A w) (hA : wfA A) (hX : aX A = some X) {x : Int64} (hx : jgl w 0 0 20 = x) : ∃ r w', f_X1_happens w = some (r, w') ∧ RelC (actA A (wayQ x (aT A).2.1).1 (wayQ x (aT A).2.1).2.1 (wayQ x (aT A).2.1).2.2.1) w' ∧ pSame KXC w w' ∧ jgl w' 0 0 20 = (wayQ x (aT A).2.1).2.2.2 := by
  obtain ⟨-, t1, t2, -⟩ := hA.x hX
  have hq := wayQ_lt (x := x) (n := (aT A).2.1)
  have hy := wayQ_why (x := x) t1 t2
  have s1 : ∀ {w : j_St} {x : Int64}, pSame KXC w (jsl w 0 0 20 x) := pSame.jsl (Or.inl rfl)
  have i2 : ∀ {k : Nat}, k < 8 → ((2 : Int32) < nI k ↔ 2 < k) := fun hk => nI_ltI (a := 2) (by omega) (by omega)
  have v8 := drV_lt (x := x) (j := 8) (by decide)
  rw [f_X1_happens, show (8 : Int32) = nI 8 from rfl, c_draw hx (by decide) (by decide), jcb_s2]
  try dsimp only
  by_cases a : drV x 8 ≤ 2
  · have e : wayQ x (aT A).2.1 = (drV x 8, 0, 0, drS x) := by unfold wayQ; rw [if_pos a]
    rw [e] at hq hy ⊢
    obtain ⟨w1, e1, r1, g1, -, l1⟩ := c_acts_T hC.drawn hA hX hq hy
    exact ⟨-1, w1, by rw [if_neg (by rw [i2 v8]; omega), e1, jcb_s2], r1, s1.trans g1, by rw [l1.1, jgl_eq]⟩
  · rw [if_pos (by rw [i2 v8]; omega)]
    by_cases b : drV x 8 = 6
    · have e : wayQ x (aT A).2.1 = (8, nI (drV (drS x) 200), 0, drS (drS x)) := by unfold wayQ; rw [if_neg a, if_pos b]
      rw [e] at hq hy ⊢
      obtain ⟨w1, e1, r1, g1, -, l1⟩ := c_acts_T hC.drawn.drawn hA hX hq hy
      refine ⟨-1, w1, ?_, r1, (s1.trans s1).trans g1, by rw [l1.1, jgl_eq]⟩
      rw [b, if_pos (by decide), show (200 : Int32) = nI 200 from rfl, c_draw jgl_eq (by decide) (by decide), jcb_s2]
      try dsimp only
      rw [e1, jcb_s2]
    · rw [if_neg (show ¬ nI (drV x 8) = 6 from fun z => b ((nI_eq (b := 6) (by omega) (by omega)).mp z)), jlt_eq]
      try dsimp only
      by_cases c : drV x 8 = 7
      · have e : wayQ x (aT A).2.1 = (6, nI (drV (drS x) 100), nI (drV (drS (drS x)) 9 + 1), drS (drS (drS x))) := by unfold wayQ; rw [if_neg a, if_neg b, if_pos c]
        rw [e] at hq hy ⊢
        obtain ⟨w1, e1, r1, g1, -, l1⟩ := c_acts_T hC.drawn.drawn.drawn hA hX hq hy
        refine ⟨-1, w1, ?_, r1, ((s1.trans s1).trans s1).trans g1, by rw [l1.1, jgl_eq]⟩
        rw [c, if_pos (by decide), show (100 : Int32) = nI 100 from rfl, c_draw jgl_eq (by decide) (by decide), jcb_s2, if_pos (by decide), show (9 : Int32) = nI 9 from rfl, c_draw jgl_eq (by decide) (by decide), jcb_s2]
        try dsimp only
        rw [show (6 : Int32) = nI 6 from rfl, nI_1, e1, jcb_s2]
      · have e : wayQ x (aT A).2.1 = (7, nI (drV (drS x) (aT A).2.1), nI (drV (drS (drS x)) 1000), drS (drS (drS x))) := by unfold wayQ; rw [if_neg a, if_neg b, if_neg c]
        rw [e] at hq hy ⊢
        obtain ⟨w1, e1, r1, g1, -, l1⟩ := c_acts_T hC.drawn.drawn.drawn hA hX hq hy
        refine ⟨-1, w1, ?_, r1, ((s1.trans s1).trans s1).trans g1, by rw [l1.1, jgl_eq]⟩
        have n7 : ¬ nI (drV x 8) = 7 := fun z => c ((nI_eq (b := 7) (by omega) (by omega)).mp z)
        rw [if_neg n7, jlt_eq, show jgi (jsl w 0 0 20 (drS x)) 4 1 1 = jgi w 4 1 1 from rfl, (hC.now hX).1.1, c_draw jgl_eq t1 (by omega), jcb_s2, if_neg n7, show (1000 : Int32) = nI 1000 from rfl, c_draw jgl_eq (by decide) (by decide), jcb_s2]
        try dsimp only
        rw [show (7 : Int32) = nI 7 from rfl, e1, jcb_s2]
theorem m_way (hM : RelM A w) (hA : wfA A) (hX : aX A = some X) {x : Int64} (hx : jgl w 1 0 45 = x) : ∃ w', f_X9_drawWay w = some ((), w') ∧ RelM (actA A (wayQ x (aT A).2.1).1 (wayQ x (aT A).2.1).2.1 (wayQ x (aT A).2.1).2.2.1) w' ∧ pSame KXM w w' ∧ jgl w' 1 0 45 = (wayQ x (aT A).2.1).2.2.2 := by
  obtain ⟨-, t1, t2, -⟩ := hA.x hX
  have hq := wayQ_lt (x := x) (n := (aT A).2.1)
  have hy := wayQ_why (x := x) t1 t2
  have s1 : ∀ {w : j_St} {x : Int64}, pSame KXM w (jsl w 1 0 45 x) := pSame.jsl (Or.inl rfl)
  have i3 : ∀ {k : Nat}, k < 8 → ((3 : Int32) ≤ nI k ↔ 3 ≤ k) := fun hk => nI_leI (a := 3) (by omega) (by omega)
  have i6 : ∀ {k : Nat}, k < 8 → ((6 : Int32) ≤ nI k ↔ 6 ≤ k) := fun hk => nI_leI (a := 6) (by omega) (by omega)
  have v8 := drV_lt (x := x) (j := 8) (by decide)
  rw [f_X9_drawWay, show (8 : Int32) = nI 8 from rfl, m_draw hx (by decide) (by decide), jcb_s2]
  try dsimp only
  by_cases a : drV x 8 ≤ 2
  · have e : wayQ x (aT A).2.1 = (drV x 8, 0, 0, drS x) := by unfold wayQ; rw [if_pos a]
    rw [e] at hq hy ⊢
    obtain ⟨w1, e1, r1, g1, l1⟩ := m_act hM.drawn hA hX hq hy
    exact ⟨w1, by rw [if_neg (by rw [i3 v8]; omega), e1, jcb_s2], r1, s1.trans g1, by rw [l1, jgl_eq]⟩
  · rw [if_pos (by rw [i3 v8]; omega)]
    by_cases b : drV x 8 = 6
    · have e : wayQ x (aT A).2.1 = (8, nI (drV (drS x) 200), 0, drS (drS x)) := by unfold wayQ; rw [if_neg a, if_pos b]
      rw [e] at hq hy ⊢
      obtain ⟨w1, e1, r1, g1, l1⟩ := m_act hM.drawn.drawn hA hX hq hy
      refine ⟨w1, ?_, r1, (s1.trans s1).trans g1, by rw [l1, jgl_eq]⟩
      rw [b, if_pos (by decide), if_pos (by decide), show (200 : Int32) = nI 200 from rfl, m_draw jgl_eq (by decide) (by decide), jcb_s2]
      try dsimp only
      rw [e1, jcb_s2]
    · by_cases c : drV x 8 = 7
      · have e : wayQ x (aT A).2.1 = (6, nI (drV (drS x) 100), nI (drV (drS (drS x)) 9 + 1), drS (drS (drS x))) := by unfold wayQ; rw [if_neg a, if_neg b, if_pos c]
        rw [e] at hq hy ⊢
        obtain ⟨w1, e1, r1, g1, l1⟩ := m_act hM.drawn.drawn.drawn hA hX hq hy
        refine ⟨w1, ?_, r1, ((s1.trans s1).trans s1).trans g1, by rw [l1, jgl_eq]⟩
        rw [c, if_pos (by decide), if_neg (by decide), show (100 : Int32) = nI 100 from rfl, m_draw jgl_eq (by decide) (by decide), jcb_s2]
        try dsimp only
        rw [show (9 : Int32) = nI 9 from rfl, m_draw jgl_eq (by decide) (by decide), jcb_s2]
        try dsimp only
        rw [show (6 : Int32) = nI 6 from rfl, nI_1, e1, jcb_s2]
      · have e : wayQ x (aT A).2.1 = (7, nI (drV (drS x) (aT A).2.1), nI (drV (drS (drS x)) 1000), drS (drS (drS x))) := by unfold wayQ; rw [if_neg a, if_neg b, if_neg c]
        rw [e] at hq hy ⊢
        obtain ⟨w1, e1, r1, g1, l1⟩ := m_act hM.drawn.drawn.drawn hA hX hq hy
        refine ⟨w1, ?_, r1, ((s1.trans s1).trans s1).trans g1, by rw [l1, jgl_eq]⟩
        rw [if_neg (by rw [i6 v8]; omega), m_many48 (w := jsl w 1 0 45 (drS x)) (n := (aT A).2.1) ((RelM.drawn (x := drS x) hM).xt hX).2.2.2.1, jcb_s2]
        try dsimp only
        rw [m_draw jgl_eq t1 (by omega), jcb_s2]
        try dsimp only
        rw [show (1000 : Int32) = nI 1000 from rfl, m_draw jgl_eq (by decide) (by decide), jcb_s2]
        try dsimp only
        rw [show (7 : Int32) = nI 7 from rfl, e1, jcb_s2]
theorem way_step (hA : wfA A) (hX : aX A = some X) (x : Int64) : ∃ x' A1, wfA A1 ∧ aX A1 = some X ∧ (∀ w, RelC A w → jgl w 0 0 20 = x → ∃ r w', f_X1_happens w = some (r, w') ∧ RelC A1 w' ∧ pSame KXC w w' ∧ jgl w' 0 0 20 = x') ∧ ∀ w, RelM A w → jgl w 1 0 45 = x → ∃ w', f_X9_drawWay w = some ((), w') ∧ RelM A1 w' ∧ pSame KXM w w' ∧ jgl w' 1 0 45 = x' :=
  ⟨_, _, actA_wf hA hX (wayQ_lt (x := x) (n := (aT A).2.1)) (wayQ_why (x := x) (hA.x hX).2.1 (hA.x hX).2.2.1), actA_X.trans hX, fun w hC hx => c_way hC hA hX hx, fun w hM hx => m_way hM hA hX hx⟩
theorem ways_all {N : Nat} (hN : N ≤ 40) : ∀ (c m : Nat) (x : Int64) (A : pA), m + c = N → wfA A → aX A = some X → ∃ A', wfA A' ∧ aX A' = some X ∧
    (∀ f w (kk : Nat → Nat → j_St → Option (Int32 × j_St)), c < f → RelC A w → jgl w 0 0 20 = x → ∃ w', f_X1_ways_L29 (nI N) kk f (nI m) (4 * m) (236 * m) w = kk (4 * N) (236 * N) w' ∧ RelC A' w' ∧ pSame KXC w w') ∧
    ∀ f w (kk : j_St → Option (Int32 × j_St)), c < f → RelM A w → jgl w 1 0 45 = x → ∃ w', f_X9_ways_L27 (nI N) kk f (nI m) w = kk w' ∧ RelM A' w' ∧ pSame KXM w w' := by
  intro c
  induction c with
  | zero =>
    intro m x A hm hA hX
    have : m = N := by omega
    subst this
    refine ⟨A, hA, hX, fun f w kk hf hC hx => ?_, fun f w kk hf hM hx => ?_⟩
    · obtain ⟨f, rfl⟩ : ∃ f', f = f' + 1 := ⟨f - 1, by omega⟩
      exact ⟨w, by rw [f_X1_ways_L29, if_pos (Int32.le_refl _)], hC, pSame.refl⟩
    · obtain ⟨f, rfl⟩ : ∃ f', f = f' + 1 := ⟨f - 1, by omega⟩
      exact ⟨w, by rw [f_X9_ways_L27, if_pos (Int32.le_refl _)], hM, pSame.refl⟩
  | succ c ih =>
    intro m x A hm hA hX
    obtain ⟨x1, A1, hA1, hX1, cw, mw⟩ := way_step hA hX x
    obtain ⟨A2, hA2, hX2, cws, mws⟩ := ih (m + 1) x1 A1 (by omega) hA1 hX1
    refine ⟨A2, hA2, hX2, fun f w kk hf hC hx => ?_, fun f w kk hf hM hx => ?_⟩
    · obtain ⟨f, rfl⟩ : ∃ f', f = f' + 1 := ⟨f - 1, by omega⟩
      obtain ⟨r, w1, e1, r1, g1, l1⟩ := cw w hC hx
      obtain ⟨w2, e2, r2, g2⟩ := cws f w1 kk (by omega) r1 l1
      refine ⟨w2, ?_, r2, g1.trans g2⟩
      rw [f_X1_ways_L29, if_neg (fun z => by have := (nI_leI (a := N) (b := m) (by omega) (by omega)).mp z; omega), if_pos ⟨by omega, by omega⟩, e1, jcb_s2, jlt_eq, nI_1]
      exact e2
    · obtain ⟨f, rfl⟩ : ∃ f', f = f' + 1 := ⟨f - 1, by omega⟩
      obtain ⟨w1, e1, r1, g1, l1⟩ := mw w hM hx
      obtain ⟨w2, e2, r2, g2⟩ := mws f w1 kk (by omega) r1 l1
      refine ⟨w2, ?_, r2, g1.trans g2⟩
      rw [f_X9_ways_L27, if_neg (fun z => by have := (nI_leI (a := N) (b := m) (by omega) (by omega)).mp z; omega), e1, jcb_s2, jlt_eq, nI_1]
      exact e2
theorem o_ways (hA : wfA A) (p : Int32) (x : Int64) : pOp A (f_X1_ways p x) (f_X9_ways p x) := by
  cases hX : aX A with
  | none =>
    refine (pQry_of (r := -1) (fun w hC => ⟨w, ?_, hC.self⟩) (fun w hM => ⟨w, ?_, hM.self⟩)).op hA
    · rw [f_X1_ways, jlt_eq, hC.x0 hX, jcs_n2]
    · rw [f_X9_ways, jlt_eq, (hM.x0 hX).1, if_pos rfl]
  | some X =>
    by_cases h : 1 ≤ p ∧ p ≤ 40
    · obtain ⟨N, hN, rfl⟩ : ∃ k, k ≤ 40 ∧ p = nI k := by
        obtain ⟨k, hk, e⟩ := nI_of (x := p) (fun z => by
          have h1 := Int32.le_iff_toInt_le.mp h.1
          have h2 := Int32.lt_iff_toInt_lt.mp z
          rw [show (1 : Int32).toInt = 1 by decide] at h1
          rw [show (0 : Int32).toInt = 0 by decide] at h2
          omega)
        refine ⟨k, ?_, e⟩
        rw [e] at h
        exact (nI_leI (b := 40) hk (by omega)).mp h.2
      obtain ⟨A', wf', x', cws, mws⟩ := ways_all (X := X) hN N 0 x A (by omega) hA hX
      refine pOp_of (A' := A') (r := nI (cK (aT A').1 (aT A').2.1 (aT A').2.2.1)) wf' (fun w hC => ?_) (fun w hM => ?_)
      · obtain ⟨t, ht, -⟩ := hC.xt hX
        obtain ⟨w1, e1, r1, g1⟩ := cws jFU _ (fun (c26 : Nat) (c27 : Nat) (w23 : j_St) => if c26 ≤ 160 ∧ c27 ≤ 9440 then jcb (f_X8_kept 0 w23) fun v29 w30 => if c26 ≤ 160 ∧ c27 ≤ 9440 then some (v29, w30) else none else none) (jFU_gt (by omega)) (hC.drawn (x := x)) jgl_eq
        obtain ⟨w2, e2, o2⟩ := c_kept r1 wf' x'
        refine ⟨w2, ?_, r1.ok o2, ((pSame.jsl (Or.inl rfl)).trans g1).trans o2.xc⟩
        rw [f_X1_ways, jlt_eq, ht, jcs_s2, sp_isIn (l := 1) (h := 40) (l' := 1) (h' := 40) (by decide) (by decide), if_pos h, jcb_s2, if_neg n10, jlt_eq]
        refine e1.trans ?_
        rw [if_pos ⟨by omega, by omega⟩, e2, jcb_s2, if_pos ⟨by omega, by omega⟩]
      · obtain ⟨w1, e1, r1, g1⟩ := mws jFU _ (fun (w12 : j_St) => jcb (f_X9_keptNow w12) fun v13 w14 => some (v13, w14)) (jFU_gt (by omega)) (hM.drawn (x := x)) jgl_eq
        obtain ⟨w2, e2, o2⟩ := m_kept r1 wf' x'
        refine ⟨w2, ?_, r1.ok o2, ((pSame.jsl (Or.inl rfl)).trans g1).trans o2.xm⟩
        rw [f_X9_ways, jlt_eq, (hM.xt hX).1, if_neg (by decide), sp_in, if_pos h, jcb_s2, if_neg n10, jlt_eq]
        refine e1.trans ?_
        rw [e2, jcb_s2]
    · refine (pQry_of (r := -1) (fun w hC => ⟨w, ?_, hC.self⟩) (fun w hM => ⟨w, ?_, hM.self⟩)).op hA
      · obtain ⟨t, ht, -⟩ := hC.xt hX
        rw [f_X1_ways, jlt_eq, ht, jcs_s2, sp_isIn (l := 1) (h := 40) (l' := 1) (h' := 40) (by decide) (by decide), if_neg h, jcb_s2, if_pos rfl]
      · rw [f_X9_ways, jlt_eq, (hM.xt hX).1, if_neg (by decide), sp_in, if_neg h, jcb_s2, if_pos rfl]
end WAYS
