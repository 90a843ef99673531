/-! the pure law: room -/
section ROOM
variable {w w' : j_St} {A : pA} {X : pX} {s : Nat → Nat} {n z : Nat}
theorem cK_eq (h0 : 0 < n) {v : Nat} : cK s n v = cK s n z ↔ ∀ k, 0 < k → k < cM s n → (v < cL s n k ↔ z < cL s n k) := by
  have hv := cK_le (s := s) (n := n) (z := v)
  have hz := cK_le (s := s) (n := n) (z := z)
  have hv0 := cK_pos (s := s) (z := v) h0
  have hz0 := cK_pos (s := s) (z := z) h0
  constructor
  · intro e k hk hkm
    have h1 := cK_L (z := v) h0 hkm
    have h2 := cK_L (z := z) h0 hkm
    rw [e] at h1
    constructor
    · intro h
      rcases h2.mp (h1.mpr (Or.inr h)) with q | q
      · omega
      · exact q
    · intro h
      rcases h1.mp (h2.mpr (Or.inr h)) with q | q
      · omega
      · exact q
  · intro h
    rcases Nat.lt_trichotomy (cK s n v) (cK s n z) with c | c | c
    · have hkm : cK s n v < cM s n := by omega
      rcases (cK_L (z := z) h0 hkm).mp c with q | q
      · omega
      · have := (cK_L (z := v) h0 hkm).mpr (Or.inr ((h _ hv0 hkm).mpr q))
        omega
    · exact c
    · have hkm : cK s n z < cM s n := by omega
      rcases (cK_L (z := v) h0 hkm).mp c with q | q
      · omega
      · have := (cK_L (z := z) h0 hkm).mpr (Or.inr ((h _ hz0 hkm).mp q))
        omega
/-- how far the noise may grow, fall -/
def pGs (s : Nat → Nat) (n z k : Nat) (g : Nat × Nat) : Nat × Nat := if k < cK s n z then (min g.1 (cL s n k - 1 - z), g.2) else (g.1, min g.2 (z - cL s n k))
def cGF (s : Nat → Nat) (n z : Nat) : Nat × Nat := pIt (pGs s n z) (cM s n - 1) 1 (999 - z, z)
def pGI (s : Nat → Nat) (n z m : Nat) (g : Nat × Nat) : Prop := (∀ x, x < g.1 ↔ (x < 999 - z ∧ ∀ k, 0 < k → k < m → k < cK s n z → x < cL s n k - 1 - z)) ∧ (∀ x, x < g.2 ↔ (x < z ∧ ∀ k, 0 < k → k < m → ¬ k < cK s n z → x < z - cL s n k))
theorem pGI_s {m : Nat} {g : Nat × Nat} (hm : 0 < m) (h : pGI s n z m g) : pGI s n z (m + 1) (pGs s n z m g) := by
  obtain ⟨h1, h2⟩ := h
  have sp : ∀ (P : Nat → Prop), (∀ k, 0 < k → k < m + 1 → P k) ↔ ((∀ k, 0 < k → k < m → P k) ∧ P m) := fun P => ⟨fun h => ⟨fun k a b => h k a (by omega), h m hm (by omega)⟩, fun h k a b => by
    by_cases e : k = m
    · rw [e]; exact h.2
    · exact h.1 k a (by omega)⟩
  unfold pGs
  by_cases c : m < cK s n z
  · rw [if_pos c]
    refine ⟨fun x => ?_, fun x => ?_⟩
    · show x < min g.1 (cL s n m - 1 - z) ↔ _
      rw [Nat.lt_min, h1, sp]
      exact ⟨fun ⟨⟨a, b⟩, d⟩ => ⟨a, b, fun _ => d⟩, fun ⟨a, b, d⟩ => ⟨⟨a, b⟩, d c⟩⟩
    · show x < g.2 ↔ _
      rw [h2, sp]
      exact ⟨fun ⟨a, b⟩ => ⟨a, b, fun q => absurd c q⟩, fun ⟨a, b, d⟩ => ⟨a, b⟩⟩
  · rw [if_neg c]
    refine ⟨fun x => ?_, fun x => ?_⟩
    · show x < g.1 ↔ _
      rw [h1, sp]
      exact ⟨fun ⟨a, b⟩ => ⟨a, b, fun q => absurd q c⟩, fun ⟨a, b, d⟩ => ⟨a, b⟩⟩
    · show x < min g.2 (z - cL s n m) ↔ _
      rw [Nat.lt_min, h2, sp]
      exact ⟨fun ⟨⟨a, b⟩, d⟩ => ⟨a, b, fun _ => d⟩, fun ⟨a, b, d⟩ => ⟨⟨a, b⟩, d c⟩⟩
theorem cGF_I (h0 : 0 < n) : pGI s n z (cM s n) (cGF s n z) := by
  have hm := cM_pos (s := s) h0
  have := pIt_I (I := fun m g => 0 < m ∧ pGI s n z m g) (N := cM s n) (step := pGs s n z) (fun m g _ h => ⟨by omega, pGI_s h.1 h.2⟩) (cM s n - 1) 1 (999 - z, z) (by omega) ⟨by omega, fun x => ⟨fun h => ⟨h, fun k a b => by omega⟩, fun h => h.1⟩, fun x => ⟨fun h => ⟨h, fun k a b => by omega⟩, fun h => h.1⟩⟩
  exact this.2
/-- what the model looks at, growing, falling -/
theorem cGF_1 (h0 : 0 < n) {x : Nat} : x < (cGF s n z).1 ↔ (z + (x + 1) ≤ 999 ∧ cK s n (z + (x + 1)) = cK s n z) := by
  rw [(cGF_I h0).1, cK_eq h0]
  constructor
  · intro ⟨a, b⟩
    refine ⟨by omega, fun k hk hkm => ⟨fun q => by omega, fun q => ?_⟩⟩
    have := b k hk hkm ((cK_L h0 hkm).mpr (Or.inr q))
    omega
  · intro ⟨a, b⟩
    refine ⟨by omega, fun k hk hkm hkp => ?_⟩
    rcases (cK_L h0 hkm).mp hkp with q | q
    · omega
    · have := (b k hk hkm).mpr q
      omega
theorem cGF_2 (h0 : 0 < n) {x : Nat} : x < (cGF s n z).2 ↔ (x + 1 ≤ z ∧ cK s n (z - (x + 1)) = cK s n z) := by
  rw [(cGF_I h0).2]
  constructor
  · intro ⟨a, b⟩
    refine ⟨by omega, (cK_eq h0).mpr fun k hk hkm => ⟨fun q => ?_, fun q => by omega⟩⟩
    apply Classical.byContradiction
    intro hz
    have := b k hk hkm (fun y => by
      rcases (cK_L h0 hkm).mp y with q | q
      · omega
      · exact hz q)
    omega
  · intro ⟨a, b⟩
    have b := (cK_eq h0).mp b
    refine ⟨by omega, fun k hk hkm hkp => ?_⟩
    have hz : ¬ z < cL s n k := fun y => hkp ((cK_L h0 hkm).mpr (Or.inr y))
    have : ¬ z - (x + 1) < cL s n k := fun y => hz ((b k hk hkm).mp y)
    omega
theorem m_keptBy (hn : pMn w (sI s) n (nI z)) (hP : pMP w s n z) (h0 : 0 < n) (hs : ∀ k, k < n → s k ≤ 999) {v : Nat} (hv : v ≤ 999) : f_X9_keptBy (nI v) w = some (nI (cK s n v), w) := by
  obtain ⟨g1, g2⟩ := cM48 hn h0
  have hm := cM_pos (s := s) h0
  have := pIt_is' (F := fun f m x => f_X9_keptBy_L4 (nI v) f (nI x) (nI m) w) (step := fun m x => x + if v < cL s n m then 1 else 0) (N := cM s n) (G := fun x => some (nI x, w)) (fun f m x hm => ?_) (fun f x => ?_) (cM s n - 1) jFU 1 1 (by omega) (jFU_gt (by omega))
  · have e : cK s n v = pIt (fun m x => x + if v < cL s n m then 1 else 0) (cM s n - 1) 1 1 := by
      have aux : ∀ c m x, 0 < m → pKp (cKt s n v) c m x = pIt (fun m x => x + if v < cL s n m then 1 else 0) c m x := by
        intro c
        induction c with
        | zero => intro m x _; rfl
        | succ c ih =>
          intro m x hm
          have ek : (cKt s n v m = true) = (v < cL s n m) := propext (by
            unfold cKt cL
            have : ¬ m = 0 := by omega
            simp [this])
          show pKp (cKt s n v) c (m + 1) (x + if cKt s n v m = true then 1 else 0) = pIt _ c (m + 1) (x + if v < cL s n m then 1 else 0)
          rw [ih (m + 1) _ (by omega)]
          simp only [ek]
      have h1 : cKt s n v 0 = true := by simp [cKt]
      have : cK s n v = pKp (cKt s n v) (cM s n - 1) 1 1 := by
        unfold cK
        obtain ⟨c, hc⟩ : ∃ c, cM s n = c + 1 := ⟨cM s n - 1, by omega⟩
        rw [hc]
        show pKp (cKt s n v) c 1 (0 + if cKt s n v 0 = true then 1 else 0) = pKp (cKt s n v) c 1 1
        rw [if_pos h1]
      rw [this, aux _ _ _ (by omega)]
    rw [e]
    exact this
  · have hl := cL_le hs h0 hm
    have z0 : nI x + 0 = nI (x + 0) := nI_add x 0
    show f_X9_keptBy_L4 (nI v) (f + 1) (nI x) (nI m) w = f_X9_keptBy_L4 (nI v) f (nI (x + if v < cL s n m then 1 else 0)) (nI (m + 1)) w
    rw [f_X9_keptBy_L4]
    by_cases c : v < cL s n m
    · have c' : ¬ cL s n m ≤ v := by omega
      simp (disch := omega) only [↓jlt_e2, hP.1, le_F, if_false, mq_life hn hP h0 hs hm, jcb_s2, le_E, c', c, if_true, nI_1]
    · have c' : cL s n m ≤ v := by omega
      simp (disch := omega) only [↓jlt_e2, hP.1, le_F, if_false, mq_life hn hP h0 hs hm, jcb_s2, le_E, c', c, if_true, nI_1, z0]
  · show f_X9_keptBy_L4 (nI v) (f + 1) (nI x) (nI (cM s n)) w = _
    rw [f_X9_keptBy_L4, jlt_eq, hP.1, if_pos ((nI_leI (by omega) (by omega)).mpr (Nat.le_refl _))]
/-- room -/
theorem q_room (hA : wfA A) (x : Int32) : pQry A (f_X1_room x) (f_X9_room x) := by
  cases hX : aX A with
  | none =>
    refine pQry_of (r := -1) (fun w hC => ⟨w, ?_, hC.self⟩) (fun w hM => ⟨w, ?_, hM.self⟩)
    · rw [f_X1_room, jlt_eq, hC.x0 hX, jcs_n2]
    · rw [f_X9_room, jlt_eq, (hM.x0 hX).1, if_pos rfl]
  | some X =>
    obtain ⟨hwX, t1, t2, t3, t4, t5⟩ := hA.x hX
    have hcm := cM_le (s := (aT A).1) t1
    have hm0 := cM_pos (s := (aT A).1) t1
    by_cases h : qAt x 2
    · have h' := h
      obtain ⟨j, hj, rfl⟩ := h
      refine pQry_of (r := if j = 0 then nI (cGF (aT A).1 (aT A).2.1 (aT A).2.2.1).1 else nI (cGF (aT A).1 (aT A).2.1 (aT A).2.2.1).2) (fun w hC => ?_) (fun w hM => ?_)
      · obtain ⟨t, ht, -⟩ := hC.xt hX
        obtain ⟨w1, e1, o1, p1⟩ := c_found hC hA hX
        have zz : jgi w1 5 0 2 = nI (aT A).2.2.1 := ((hC.ok o1).now hX).2.1
        have hn1 : pCn w1 1 (sI (aT A).1) (aT A).2.1 := ((hC.ok o1).now hX).1
        refine ⟨w1, ?_, o1⟩
        rw [f_X1_room, jlt_eq, ht, jcs_s2, cIn_T h' (by decide) rfl (by decide), jcb_s2, if_neg n10, jlt_eq, (hC.now hX).2.1, jlt_eq, jlt_eq, e1, jcb_s2, show (999 : Int32) = nI 999 from rfl, nI_sub t4]
        have := pIt_is (F := fun f m (g : Nat × Nat) => f_X1_room_L48 (fun (v45 : Int32) (v46 : Int32) (w47 : j_St) => if nI j = 0 then some (v45, w47) else some (v46, w47)) f (nI g.1) (nI g.2) (nI m) w1) (step := pGs (aT A).1 (aT A).2.1 (aT A).2.2.1) (I := fun m g => 0 < m ∧ g.1 ≤ 999 ∧ g.2 ≤ 999) (N := cM (aT A).1 (aT A).2.1) (G := fun g => if nI j = 0 then some (nI g.1, w1) else some (nI g.2, w1)) (fun f m g hm hI => ?_) (fun m g hm hI => ?_) (fun f g hI => ?_) (cM (aT A).1 (aT A).2.1 - 1) jFU 1 (999 - (aT A).2.2.1, (aT A).2.2.1) (by omega) (jFU_gt (by omega)) ⟨by omega, by show 999 - (aT A).2.2.1 ≤ 999; omega, t4⟩
        · refine this.trans ?_
          by_cases j0 : j = 0
          · rw [if_pos (by rw [j0]; rfl), if_pos j0]; rfl
          · rw [if_neg (nI_ne0 (by omega) (by omega)), if_neg j0]; rfl
        · obtain ⟨i1, i2, i3⟩ := hI
          have six := cq_6 p1 hm
          have row := cq_row p1 hm
          have m2 := p1.2.1
          have ll := cL_le t3 t1 hm
          have kl := cK_L (s := (aT A).1) (z := (aT A).2.2.1) t1 hm
          have pers : f_X5_at 0 (nI m) w1 = some (nI (cL (aT A).1 (aT A).2.1 m), w1) := by
            rw [f_X5_at, jbd_nI (by omega) (by decide), jlt_eq, row, job_s2, cq_pers p1 t1 t3 hm, jcb_s2]
          show f_X1_room_L48 _ (f + 1) (nI g.1) (nI g.2) (nI m) w1 = f_X1_room_L48 _ f (nI (pGs (aT A).1 (aT A).2.1 (aT A).2.2.1 m g).1) (nI (pGs (aT A).1 (aT A).2.1 (aT A).2.2.1 m g).2) (nI (m + 1)) w1
          rw [f_X1_room_L48]
          by_cases c : m < cK (aT A).1 (aT A).2.1 (aT A).2.2.1
          · rw [if_pos c] at six
            have hz : (aT A).2.2.1 < cL (aT A).1 (aT A).2.1 m := by rcases kl.mp c with q | q <;> omega
            have e : pGs (aT A).1 (aT A).2.1 (aT A).2.2.1 m g = (min g.1 (cL (aT A).1 (aT A).2.1 m - 1 - (aT A).2.2.1), g.2) := by unfold pGs; rw [if_pos c]
            have s1 : nI (cL (aT A).1 (aT A).2.1 m) - 1 - nI (aT A).2.2.1 = nI (cL (aT A).1 (aT A).2.1 m - 1 - (aT A).2.2.1) := by rw [nI_m1 (by omega), nI_sub (by omega)]
            have oo : ((1 : Int32) = 0) = False := eq_false (by decide)
            simp (disch := omega) only [↓jlt_e2, m2, le_F, if_false, jbd_nI, row, job_s2, six, oo, pers, jcb_s2, zz, s1, jmin_nI, nI_1, e]
          · rw [if_neg c] at six
            have hz : cL (aT A).1 (aT A).2.1 m ≤ (aT A).2.2.1 := by
              apply Nat.le_of_not_lt
              intro q
              exact c (kl.mpr (Or.inr q))
            have e : pGs (aT A).1 (aT A).2.1 (aT A).2.2.1 m g = (g.1, min g.2 ((aT A).2.2.1 - cL (aT A).1 (aT A).2.1 m)) := by unfold pGs; rw [if_neg c]
            simp (disch := omega) only [↓jlt_e2, m2, le_F, if_false, jbd_nI, row, job_s2, six, if_true, pers, jcb_s2, zz, nI_sub, jmin_nI, nI_1, e]
        · obtain ⟨i1, i2, i3⟩ := hI
          unfold pGs
          split
          · exact ⟨by omega, by show min g.1 _ ≤ 999; omega, i3⟩
          · exact ⟨by omega, i2, by show min g.2 _ ≤ 999; omega⟩
        · show f_X1_room_L48 _ (f + 1) (nI g.1) (nI g.2) (nI (cM (aT A).1 (aT A).2.1)) w1 = _
          rw [f_X1_room_L48, jlt_eq, p1.2.1, if_pos ((nI_leI (by omega) (by omega)).mpr (Nat.le_refl _))]
      · obtain ⟨w1, e1, o1, hn1, p1, -⟩ := m_found hM hA hX
        refine ⟨w1, ?_, o1⟩
        rw [f_X9_room, jlt_eq, (hM.xt hX).1, if_neg n10, mIn_T h' (by decide) (by decide), jcb_s2, if_neg n10, e1, jcb_s2, jlt_eq]
        dsimp only
        have z49 : jgi w1 47 0 49 = nI (aT A).2.2.1 := hn1.2.1
        have kq := p1.2.1
        have ck : ∀ v, cK (aT A).1 (aT A).2.1 v ≤ 48 := fun v => by have := cK_le (s := (aT A).1) (n := (aT A).2.1) (z := v); omega
        by_cases j0 : j = 0
        · rw [if_pos (by rw [j0]; rfl), if_pos j0]
          have b0 : (cGF (aT A).1 (aT A).2.1 (aT A).2.2.1).1 ≤ 999 := by
            apply Nat.le_of_not_lt
            intro q
            have := (cGF_1 (s := (aT A).1) (z := (aT A).2.2.1) t1).mp q
            omega
          have val : ∀ m, nI (aT A).2.2.1 + (nI m + 1) * 1 = nI ((aT A).2.2.1 + (m + 1)) := fun m => by
            rw [nI_1, Int32.mul_one, nI_add]
          have lim := fun x => cGF_1 (s := (aT A).1) (n := (aT A).2.1) (z := (aT A).2.2.1) (x := x) t1
          have := pIt_is' (F := fun f m (_ : Unit) => f_X9_room_L34 1 f (nI m) w1) (step := fun _ y => y) (N := (cGF (aT A).1 (aT A).2.1 (aT A).2.2.1).1) (G := fun _ => some (nI (cGF (aT A).1 (aT A).2.1 (aT A).2.2.1).1, w1)) (fun f m _ hm => ?_) (fun f _ => ?_) (cGF (aT A).1 (aT A).2.1 (aT A).2.2.1).1 jFU 0 () (by omega) (jFU_gt (by omega))
          · exact this
          · obtain ⟨a1, a2⟩ := (lim m).mp hm
            show f_X9_room_L34 1 (f + 1) (nI m) w1 = f_X9_room_L34 1 f (nI (m + 1)) w1
            rw [f_X9_room_L34, jbd_k49 (by decide) (by decide), jlt_eq, z49, val, mIn_T (n := 1000) ((qAt_nI (by omega) (by decide)).mpr (by omega)) (by decide) (by decide), jcb_s2, if_neg n10, jbd_k49 (by decide) (by decide), jlt_eq, z49, val, m_keptBy hn1 p1 t1 t3 a1, jcb_s2, jlt_eq, kq, a2, if_pos rfl, jlt_eq, nI_1]
          · show f_X9_room_L34 1 (f + 1) (nI (cGF (aT A).1 (aT A).2.1 (aT A).2.2.1).1) w1 = _
            rw [f_X9_room_L34, jbd_k49 (by decide) (by decide), jlt_eq, z49, val]
            by_cases c : (aT A).2.2.1 + ((cGF (aT A).1 (aT A).2.1 (aT A).2.2.1).1 + 1) ≤ 999
            · have ne : ¬ cK (aT A).1 (aT A).2.1 ((aT A).2.2.1 + ((cGF (aT A).1 (aT A).2.1 (aT A).2.2.1).1 + 1)) = cK (aT A).1 (aT A).2.1 (aT A).2.2.1 := fun e => by
                have := (lim (cGF (aT A).1 (aT A).2.1 (aT A).2.2.1).1).mpr ⟨c, e⟩
                omega
              have k1 := ck ((aT A).2.2.1 + ((cGF (aT A).1 (aT A).2.1 (aT A).2.2.1).1 + 1))
              have k2 := ck (aT A).2.2.1
              rw [mIn_T (n := 1000) ((qAt_nI (by omega) (by decide)).mpr (by omega)) (by decide) (by decide), jcb_s2, if_neg n10, jbd_k49 (by decide) (by decide), jlt_eq, z49, val, m_keptBy hn1 p1 t1 t3 c, jcb_s2, jlt_eq, kq, if_neg (fun e => ne ((nI_eq (by omega) (by omega)).mp e))]
            · rw [mIn_F (n := 1000) (fun q => by have := (qAt_nI (by omega) (by decide)).mp q; omega) (by decide) (by decide), jcb_s2, if_pos rfl]
        · rw [if_neg (nI_ne0 (by omega) (by omega)), if_neg j0]
          have b0 : (cGF (aT A).1 (aT A).2.1 (aT A).2.2.1).2 ≤ 999 := by
            apply Nat.le_of_not_lt
            intro q
            have := (cGF_2 (s := (aT A).1) (z := (aT A).2.2.1) t1).mp q
            omega
          have val : ∀ m, nI (aT A).2.2.1 + (nI m + 1) * (-1) = nI (aT A).2.2.1 - nI (m + 1) := fun m => by
            rw [nI_1, Int32.mul_neg, Int32.mul_one, Int32.sub_eq_add_neg]
          have lim := fun x => cGF_2 (s := (aT A).1) (n := (aT A).2.1) (z := (aT A).2.2.1) (x := x) t1
          have := pIt_is' (F := fun f m (_ : Unit) => f_X9_room_L34 (-1) f (nI m) w1) (step := fun _ y => y) (N := (cGF (aT A).1 (aT A).2.1 (aT A).2.2.1).2) (G := fun _ => some (nI (cGF (aT A).1 (aT A).2.1 (aT A).2.2.1).2, w1)) (fun f m _ hm => ?_) (fun f _ => ?_) (cGF (aT A).1 (aT A).2.1 (aT A).2.2.1).2 jFU 0 () (by omega) (jFU_gt (by omega))
          · exact this
          · obtain ⟨a1, a2⟩ := (lim m).mp hm
            show f_X9_room_L34 (-1) (f + 1) (nI m) w1 = f_X9_room_L34 (-1) f (nI (m + 1)) w1
            rw [f_X9_room_L34, jbd_k49 (by decide) (by decide), jlt_eq, z49, val, nI_sub a1, mIn_T (n := 1000) ((qAt_nI (by omega) (by decide)).mpr (by omega)) (by decide) (by decide), jcb_s2, if_neg n10, jbd_k49 (by decide) (by decide), jlt_eq, z49, val, nI_sub a1, m_keptBy hn1 p1 t1 t3 (by omega), jcb_s2, jlt_eq, kq, a2, if_pos rfl, jlt_eq, nI_1]
          · show f_X9_room_L34 (-1) (f + 1) (nI (cGF (aT A).1 (aT A).2.1 (aT A).2.2.1).2) w1 = _
            rw [f_X9_room_L34, jbd_k49 (by decide) (by decide), jlt_eq, z49, val]
            by_cases c : (cGF (aT A).1 (aT A).2.1 (aT A).2.2.1).2 + 1 ≤ (aT A).2.2.1
            · have ne : ¬ cK (aT A).1 (aT A).2.1 ((aT A).2.2.1 - ((cGF (aT A).1 (aT A).2.1 (aT A).2.2.1).2 + 1)) = cK (aT A).1 (aT A).2.1 (aT A).2.2.1 := fun e => by
                have := (lim (cGF (aT A).1 (aT A).2.1 (aT A).2.2.1).2).mpr ⟨c, e⟩
                omega
              have k1 := ck ((aT A).2.2.1 - ((cGF (aT A).1 (aT A).2.1 (aT A).2.2.1).2 + 1))
              have k2 := ck (aT A).2.2.1
              rw [nI_sub c, mIn_T (n := 1000) ((qAt_nI (by omega) (by decide)).mpr (by omega)) (by decide) (by decide), jcb_s2, if_neg n10, jbd_k49 (by decide) (by decide), jlt_eq, z49, val, nI_sub c, m_keptBy hn1 p1 t1 t3 (by omega), jcb_s2, jlt_eq, kq, if_neg (fun e => ne ((nI_eq (by omega) (by omega)).mp e))]
            · rw [mIn_F (n := 1000) (fun ⟨k, hk, e⟩ => by
                have e1 := congrArg Int32.toInt e
                rw [pSl_sub (pSl_nI (by omega)) (pSl_nI (by omega)), nI_toInt (by omega), nI_toInt (by omega), nI_toInt (by omega)] at e1
                omega) (by decide) (by decide), jcb_s2, if_pos rfl]
    · refine pQry_of (r := -1) (fun w hC => ⟨w, ?_, hC.self⟩) (fun w hM => ⟨w, ?_, hM.self⟩)
      · obtain ⟨t, ht, -⟩ := hC.xt hX
        rw [f_X1_room, jlt_eq, ht, jcs_s2, cIn_F h (by decide) rfl (by decide), jcb_s2, if_pos rfl]
      · rw [f_X9_room, jlt_eq, (hM.xt hX).1, if_neg n10, mIn_F h (by decide) (by decide), jcb_s2, if_pos rfl]
end ROOM
