/-! the law's two objects are built once their constructors are through -/
def jLX : List (Nat × Nat) := [(24, 0), (10, 0), (10, 1), (25, 0), (11, 0), (11, 1), (13, 1), (11, 2), (20, 0), (22, 0), (21, 0), (2, 0), (26, 0), (27, 0), (28, 0), (29, 0), (30, 0), (31, 0), (2, 1), (26, 1), (27, 1), (28, 1), (29, 1), (30, 1), (31, 1), (4, 0), (32, 0), (5, 0), (4, 1), (32, 1), (33, 0), (5, 1), (4, 3), (32, 3), (33, 1), (5, 2), (4, 5), (32, 5), (33, 2), (5, 3), (4, 7), (32, 7), (33, 3), (23, 0)]
def jLX9 : List (Nat × Nat) := [(40, 0), (41, 0), (42, 0), (43, 0), (44, 0), (45, 0), (46, 0), (47, 0), (48, 0), (49, 0), (50, 0), (51, 0), (52, 0), (53, 0), (54, 0), (55, 0), (56, 0), (57, 0), (58, 0), (59, 0), (60, 0), (61, 0), (62, 0), (63, 0), (64, 0), (65, 0), (66, 0)]
def jSX1 (B : j_B) (κ i : Nat) : Prop := (κ = 0 ∧ i = 0) ∨ (κ, i) ∈ [(12, 0), (12, 1), (13, 0), (13, 2)] ++ jLX ∨ (κ = 3 ∧ B.2.1 3 i)
def jSX9 (B : j_B) (κ i : Nat) : Prop := (κ = 1 ∧ i = 0) ∨ (κ, i) ∈ jLX9
theorem jSX1_o {B : j_B} : jSX1 B 0 0 := Or.inl ⟨rfl, rfl⟩
theorem jSX9_o {B : j_B} : jSX9 B 1 0 := Or.inl ⟨rfl, rfl⟩
/-! what holds of a pure program's every answer -/
def jO {α : Type} (o : Option (α × j_St)) (P : α → j_St → Prop) : Prop := ∀ r w', o = some (r, w') → P r w'
/-- references that are set, and how many Peaks were made -/
def jH (N : Nat) (F : List (Nat × Nat × Nat × Nat)) (w : j_St) : Prop := jgn w 103 0 = N ∧ ∀ e, e ∈ F → jgr w e.1 e.2.1 e.2.2.1 = some e.2.2.2
def jf3 (F : List (Nat × Nat × Nat × Nat)) (κ i k : Nat) : Bool := F.all fun e => !(e.1 == κ && (e.2.1 == i && e.2.2.1 == k))
def jf2 (F : List (Nat × Nat × Nat × Nat)) (κ i : Nat) : Bool := F.all fun e => !(e.1 == κ && e.2.1 == i)
theorem jf3_no {F : List (Nat × Nat × Nat × Nat)} {κ i k : Nat} (h : jf3 F κ i k = true) {e : Nat × Nat × Nat × Nat} (he : e ∈ F) : ¬ (e.1 = κ ∧ e.2.1 = i ∧ e.2.2.1 = k) := fun ⟨h1, h2, h3⟩ => by
  have := List.all_eq_true.mp h e he
  simp [h1, h2, h3] at this
theorem jf2_no {F : List (Nat × Nat × Nat × Nat)} {κ i : Nat} (h : jf2 F κ i = true) {e : Nat × Nat × Nat × Nat} (he : e ∈ F) : ¬ (e.1 = κ ∧ e.2.1 = i) := fun ⟨h1, h2⟩ => by
  have := List.all_eq_true.mp h e he
  simp [h1, h2] at this
theorem jH.set {N : Nat} {F : List (Nat × Nat × Nat × Nat)} {w : j_St} {κ i k v : Nat} (h : jH N F w) (c : jf3 F κ i k = true) : jH N ((κ, i, k, v) :: F) (jsr w κ i k (some v)) := ⟨h.1, fun e he => by
  rcases List.mem_cons.mp he with rfl | he
  · exact ju3_eq
  · exact (ju3_ne (jf3_no c he)).trans (h.2 e he)⟩
theorem jH.setn {N : Nat} {F : List (Nat × Nat × Nat × Nat)} {w : j_St} {κ i k : Nat} (h : jH N F w) (c : jf3 F κ i k = true) : jH N F (jsr w κ i k none) := ⟨h.1, fun e he => (ju3_ne (jf3_no c he)).trans (h.2 e he)⟩
theorem jH.new {N : Nat} {F : List (Nat × Nat × Nat × Nat)} {w : j_St} {κ i n : Nat} (h : jH N F w) (h3 : κ ≠ 103) (c : jf2 F κ i = true) : jH N F (jnw w κ i n) := ⟨by
    show (if 103 = κ ∧ 0 = i then n else w.2.2.2 103 0) = N
    rw [if_neg fun z => h3 z.1.symm]
    exact h.1, fun e he => by
    show (if e.1 = κ ∧ e.2.1 = i then none else w.2.2.1 e.1 e.2.1 e.2.2.1) = _
    rw [if_neg (jf2_no c he)]
    exact h.2 e he⟩
theorem jH.bump {N : Nat} {F : List (Nat × Nat × Nat × Nat)} {w : j_St} {κ : Nat} (h : jH N F w) (h3 : κ ≠ 3) : jH N F (jbump w κ) := ⟨by
    show (if 103 = 100 + κ ∧ 0 = 0 then w.2.2.2 103 0 + 1 else w.2.2.2 103 0) = N
    rw [if_neg fun z => h3 (by omega)]
    exact h.1, h.2⟩
section JO
variable {α β : Type} {N : Nat} {F : List (Nat × Nat × Nat × Nat)} {w : j_St} {κ i k v n : Nat} {f : j_St → Option (α × j_St)} {P : α → j_St → Prop}
theorem jO.r (h : jH N F w) (c : jf3 F κ i k = true) (kk : ∀ w2, jH N ((κ, i, k, v) :: F) w2 → jO (f w2) P) : jO (jlt (jsr w κ i k (some v)) f) P := kk _ (h.set c)
theorem jO.rn (h : jH N F w) (c : jf3 F κ i k = true) (kk : ∀ w2, jH N F w2 → jO (f w2) P) : jO (jlt (jsr w κ i k none) f) P := kk _ (h.setn c)
theorem jO.nx (h : jH N F w) (h3 : κ ≠ 103) (c : jf2 F κ i = true) (kk : ∀ w2, jH N F w2 → jO (f w2) P) : jO (jlt (jnw w κ i n) f) P := kk _ (h.new h3 c)
theorem jO.m (h : jH N F w) (h3 : κ ≠ 103) (c : jf2 F κ i = true) (kk : ∀ w2, jH N ((κ, i, 0, 0) :: F) w2 → jO (f w2) P) : jO (jlt (jm1 w κ i) f) P := kk _ ((h.new h3 c).set (List.all_eq_true.mpr fun e he => by
  have := List.all_eq_true.mp c e he
  revert this
  cases (e.1 == κ) <;> cases (e.2.1 == i) <;> simp))
theorem jO.u (h : jH N F w) (h3 : κ ≠ 3) (kk : ∀ w2, jH N F w2 → jO (f w2) P) : jO (jlt (jbump w κ) f) P := kk _ (h.bump h3)
theorem jO.iff {c : Prop} [Decidable c] {o : Option (α × j_St)} (kk : jO o P) : jO (if c then o else none) P := fun r w' e => by
  by_cases hc : c
  · rw [if_pos hc] at e; exact kk r w' e
  · rw [if_neg hc] at e; cases e
theorem jO.c {o : Option (α × j_St)} {g : α → j_St → Option (β × j_St)} {P : α → j_St → Prop} {Q : β → j_St → Prop} (h : jO o P) (kk : ∀ r w2, P r w2 → jO (g r w2) Q) : jO (jcb o g) Q := fun r w' e => by
  obtain ⟨r1, w1, e1, e2⟩ := jcb_some e
  exact kk r1 w1 (h r1 w1 e1) r w' e2
theorem jO.e {r : α} (h : P r w) : jO (some (r, w)) P := fun r' w' e => by
  cases e
  exact h
theorem jO.bd {j : Int32} {a n : Nat} {f : Nat → Option (α × j_St)} (h : j.toInt = (a : Int)) (kk : jO (f a) P) : jO (jbd j n f) P := fun r w' e => by
  obtain ⟨-, e2⟩ := jbd_some e
  have : j.toInt.toNat = a := by rw [h]; rfl
  rw [this] at e2
  exact kk r w' e2
theorem jO_X2 {a b : Nat} (h : jH N F w) (c : jf3 F 10 a 0 = true) : jO (f_X2_init a b w) (fun _ w' => jH N ((10, a, 0, b) :: F) w') := jO.r h c fun _ h => jO.e h
theorem jO_X4 {a b : Nat} (h : jH N F w) (c : jf3 F 11 a 0 = true) : jO (f_X4_init a b w) (fun _ w' => jH N ((11, a, 0, b) :: F) w') := jO.r h c fun _ h => jO.e h
theorem jO_X7 {a : Nat} (h : jH N F w) (c1 : jf2 F 32 a = true) (c : jf3 F 4 a 0 = true) : jO (f_X7_init a w) (fun _ w' => jH N ((4, a, 0, a) :: F) w') := jO.nx h (by decide) c1 fun _ h => jO.r h c fun _ h => jO.e h
theorem jO_X8 {a b : Nat} (hb : 2 * a + 1 = b) (h : jH N F w) (c1 : jf3 F 5 a 5 = true) (c2 : jf2 ((5, a, 5, 0) :: F) 4 b = true) (c3 : jf2 ((5, a, 5, 0) :: F) 32 b = true) (c4 : jf3 ((5, a, 5, 0) :: F) 4 b 0 = true) (c5 : jf3 ((4, b, 0, b) :: (5, a, 5, 0) :: F) 5 a 0 = true) (c6 : jf2 ((5, a, 0, b) :: (4, b, 0, b) :: (5, a, 5, 0) :: F) 33 a = true) (c7 : jf3 ((5, a, 0, b) :: (4, b, 0, b) :: (5, a, 5, 0) :: F) 5 a 1 = true) :
    jO (f_X8_init a w) (fun _ w' => jH N ((5, a, 1, a) :: (5, a, 0, b) :: (4, b, 0, b) :: (5, a, 5, 0) :: F) w') := by
  subst hb
  exact jO.r h c1 fun _ h => jO.nx h (by decide) c2 fun _ h => jO.c (jO_X7 h c3 c4) fun _ _ h => jO.r h c5 fun _ h => jO.nx h (by decide) c6 fun _ h => jO.r h c7 fun _ h => jO.e h
def jR48 (b m : Nat) : List (Nat × Nat × Nat × Nat) := (List.range m).map fun k => (26, b, k, 48 * b + k)
theorem jO_L57 {b : Nat} (h2 : ∀ w N, jH N F w → jgr w 2 b 0 = some b) (h3 : ∀ i, jf2 F 3 i = true) (h26 : jf2 F 26 b = true) : ∀ (n m : Nat) (c d : Nat) (w : j_St), m ≤ 48 → jH (48 * b + m) (jR48 b m ++ F) w → jO (f_X5_init_L57 b n (nI m) c d w) (fun _ w' => jH (48 * b + 48) (jR48 b 48 ++ F) w') := by
  intro n
  induction n with
  | zero => intro m c d w _ _ r w' e; cases e
  | succ n ih =>
    intro m c d w hm h
    unfold f_X5_init_L57
    by_cases hc : 48 ≤ m
    · have : m = 48 := by omega
      subst this
      rw [if_pos (by decide)]
      exact jO.iff (jO.e h)
    · rw [if_neg (show ¬ (48 : Int32) ≤ nI m from fun z => hc ((nI_leI (a := 48) (by decide) (by omega)).mp z))]
      have hF : jH (48 * b + m) F w := ⟨h.1, fun e he => h.2 e (List.mem_append_right _ he)⟩
      show jO (if c + 1 ≤ 54 ∧ d + 7 ≤ 586 then jlt (jnw (jbump w 3) 3 (jgn w 103 0) 0) fun w47 => if c + 1 ≤ 54 ∧ d + 7 ≤ 586 then jcb (f_X6_init (jgn w 103 0) w47) fun _ w51 => job (jgr w 2 b 0) fun y54 => jbd (nI m) 48 fun a57 => jlt (jsr w51 26 y54 a57 (some (jgn w 103 0))) fun w56 => jlt (nI m + 1) fun v58 => f_X5_init_L57 b n v58 (c + 1) (d + 7) w56 else none else none) _
      rw [h.1, h2 w _ hF]
      refine jO.iff (jO.iff ?_)
      show jO (jbd (nI m) 48 fun a57 => f_X5_init_L57 b n (nI m + 1) (c + 1) (d + 7) (jsr (jnw (jbump w 3) 3 (48 * b + m) 0) 26 b a57 (some (48 * b + m)))) _
      refine jO.bd (nI_toInt (by omega)) ?_
      rw [← nI_succ]
      refine ih (m + 1) _ _ _ (by omega) ⟨?_, fun e he => ?_⟩
      · show (if 103 = 3 ∧ 0 = 48 * b + m then 0 else (if 103 = 100 + 3 ∧ 0 = 0 then w.2.2.2 103 0 + 1 else w.2.2.2 103 0)) = _
        rw [if_neg (by omega), if_pos (by omega)]
        have := h.1
        show jgn w 103 0 + 1 = _
        omega
      · have old : ∀ e : Nat × Nat × Nat × Nat, e ∈ jR48 b m ++ F → e.1 ≠ 3 ∧ ¬ (e.1 = 26 ∧ e.2.1 = b ∧ e.2.2.1 = m) := fun e he => by
          rcases List.mem_append.mp he with z | z
          · obtain ⟨k, hk, rfl⟩ := List.mem_map.mp z
            have := List.mem_range.mp hk
            exact ⟨show (26 : Nat) ≠ 3 by decide, fun q => by
              have q3 : k = m := q.2.2
              omega⟩
          · exact ⟨fun q => jf2_no (h3 e.2.1) z ⟨q, rfl⟩, fun q => jf2_no h26 z ⟨q.1, q.2.1⟩⟩
        have up : ∀ e : Nat × Nat × Nat × Nat, e ∈ jR48 b m ++ F → jgr (jsr (jnw (jbump w 3) 3 (48 * b + m) 0) 26 b m (some (48 * b + m))) e.1 e.2.1 e.2.2.1 = some e.2.2.2 := fun e he => by
          obtain ⟨q1, q2⟩ := old e he
          refine (ju3_ne q2).trans ?_
          show (if e.1 = 3 ∧ e.2.1 = 48 * b + m then none else w.2.2.1 e.1 e.2.1 e.2.2.1) = _
          rw [if_neg fun z => q1 z.1]
          exact h.2 e he
        rcases List.mem_append.mp he with z | z
        · obtain ⟨k, hk, rfl⟩ := List.mem_map.mp z
          have hk := List.mem_range.mp hk
          by_cases hkm : k = m
          · subst hkm
            exact ju3_eq
          · exact up (26, b, k, 48 * b + k) (List.mem_append_left _ (List.mem_map.mpr ⟨k, List.mem_range.mpr (by omega), rfl⟩))
        · exact up e (List.mem_append_right _ z)
end JO
theorem jf3_all {F : List (Nat × Nat × Nat × Nat)} (h : F.all (fun e => !(e.1 == 3)) = true) (i : Nat) : jf2 F 3 i = true := List.all_eq_true.mpr fun e he => by
  have := List.all_eq_true.mp h e he
  revert this
  cases (e.1 == 3) <;> simp
theorem jfd_len : ∀ l ∈ jft, l.length ≤ 60 := by decide +kernel
theorem jk3_5 : ∀ κ, κ < 73 → jk0 κ = 5 → jk3 κ ≤ 60 := by decide +kernel
theorem jfs_lt {κ k : Nat} (h : jfs κ k = 3) : k < 60 := by
  apply Classical.byContradiction
  intro hk
  unfold jfs jfd at h
  by_cases h1 : jk0 κ = 1 ∨ jk0 κ = 2 ∨ jk0 κ = 8
  · rw [if_pos h1] at h; cases h
  · rw [if_neg h1] at h
    by_cases h2 : jk0 κ = 3
    · rw [if_pos h2] at h; cases h
    · rw [if_neg h2] at h
      by_cases h3 : jk0 κ = 4
      · rw [if_pos h3] at h; cases h
      · rw [if_neg h3] at h
        by_cases h4 : jk0 κ = 5
        · rw [if_pos h4] at h
          by_cases h5 : k < jk3 κ
          · by_cases h6 : κ < 73
            · have := jk3_5 κ h6 h4
              omega
            · have e : jkt[κ]? = none := List.getElem?_eq_none (by show jkt.length ≤ κ; have : jkt.length = 73 := rfl; omega)
              unfold jk0 at h4
              rw [List.getD_eq_getElem?_getD, e] at h4
              exact absurd h4 (by decide)
          · rw [if_neg h5] at h; cases h
        · rw [if_neg h4] at h
          have hl : (jft.getD κ []).length ≤ 60 := by
            rw [List.getD_eq_getElem?_getD]
            cases e : jft[κ]? with
            | none => exact Nat.zero_le _
            | some l => exact jfd_len l (List.mem_of_getElem? e)
          rw [List.getD_eq_getElem?_getD, List.getElem?_eq_none (by omega)] at h
          cases h
/-- the references that stay, of some cells -/
def jNr (L : List (Nat × Nat)) : List (Nat × Nat × Nat × Nat) := L.flatMap fun p => ((List.range 60).filter (fun k => jfs p.1 k == 3)).map fun k => (p.1, p.2, k, jci p.1 p.2 k)
theorem jNr_mem {L : List (Nat × Nat)} {κ i k : Nat} (h : (κ, i) ∈ L) (hk : jfs κ k = 3) : (κ, i, k, jci κ i k) ∈ jNr L := List.mem_flatMap.mpr ⟨(κ, i), h, List.mem_map.mpr ⟨k, List.mem_filter.mpr ⟨List.mem_range.mpr (jfs_lt hk), by simp [hk]⟩, rfl⟩⟩
def jF5_0 : List (Nat × Nat × Nat × Nat) := [(0, 0, 5, 0), (0, 0, 4, 0), (0, 0, 2, 0), (0, 0, 1, 0), (25, 0, 2, 2), (11, 2, 0, 2), (25, 0, 1, 1), (11, 1, 0, 1), (13, 1, 0, 0), (25, 0, 0, 0), (11, 0, 0, 0), (0, 0, 0, 0), (24, 0, 1, 1), (10, 1, 0, 1), (24, 0, 0, 0), (10, 0, 0, 0)]
theorem jO_X5_0 {w : j_St} (hh : jH 0 jF5_0 w) : jO (f_X5_init 0 w) (fun _ w' => jH 48 (jR48 0 48 ++ ((2, 0, 8, 0) :: (2, 0, 7, 0) :: (2, 0, 3, 0) :: (2, 0, 2, 0) :: (2, 0, 1, 0) :: (2, 0, 0, 0) :: jF5_0)) w') := by
  unfold f_X5_init
  refine jO.nx hh (by decide) (by decide +kernel) fun w hh => ?_
  refine jO.r hh (by decide +kernel) fun w hh => ?_
  refine jO.nx hh (by decide) (by decide +kernel) fun w hh => ?_
  refine jO.r hh (by decide +kernel) fun w hh => ?_
  refine jO.nx hh (by decide) (by decide +kernel) fun w hh => ?_
  refine jO.r hh (by decide +kernel) fun w hh => ?_
  refine jO.nx hh (by decide) (by decide +kernel) fun w hh => ?_
  refine jO.r hh (by decide +kernel) fun w hh => ?_
  refine jO.nx hh (by decide) (by decide +kernel) fun w hh => ?_
  refine jO.r hh (by decide +kernel) fun w hh => ?_
  refine jO.nx hh (by decide) (by decide +kernel) fun w hh => ?_
  refine jO.r hh (by decide +kernel) fun w hh => ?_
  have z := jO_L57 (b := 0) (F := (2, 0, 8, 0) :: (2, 0, 7, 0) :: (2, 0, 3, 0) :: (2, 0, 2, 0) :: (2, 0, 1, 0) :: (2, 0, 0, 0) :: jF5_0) (fun w N h => h.2 (2, 0, 0, 0) (by decide +kernel)) (jf3_all (by decide +kernel)) (by decide +kernel) jFU 0 6 248 w (by decide) hh
  rw [nI_0] at z
  exact z
def jF5_1 : List (Nat × Nat × Nat × Nat) := [(0, 0, 10, 0), (26, 0, 0, 0), (26, 0, 1, 1), (26, 0, 2, 2), (26, 0, 3, 3), (26, 0, 4, 4), (26, 0, 5, 5), (26, 0, 6, 6), (26, 0, 7, 7), (26, 0, 8, 8), (26, 0, 9, 9), (26, 0, 10, 10), (26, 0, 11, 11), (26, 0, 12, 12), (26, 0, 13, 13), (26, 0, 14, 14), (26, 0, 15, 15), (26, 0, 16, 16), (26, 0, 17, 17), (26, 0, 18, 18), (26, 0, 19, 19), (26, 0, 20, 20), (26, 0, 21, 21), (26, 0, 22, 22), (26, 0, 23, 23), (26, 0, 24, 24), (26, 0, 25, 25), (26, 0, 26, 26), (26, 0, 27, 27), (26, 0, 28, 28), (26, 0, 29, 29), (26, 0, 30, 30), (26, 0, 31, 31), (26, 0, 32, 32), (26, 0, 33, 33), (26, 0, 34, 34), (26, 0, 35, 35), (26, 0, 36, 36), (26, 0, 37, 37), (26, 0, 38, 38), (26, 0, 39, 39), (26, 0, 40, 40), (26, 0, 41, 41), (26, 0, 42, 42), (26, 0, 43, 43), (26, 0, 44, 44), (26, 0, 45, 45), (26, 0, 46, 46), (26, 0, 47, 47), (2, 0, 8, 0), (2, 0, 7, 0), (2, 0, 3, 0), (2, 0, 2, 0), (2, 0, 1, 0), (2, 0, 0, 0), (0, 0, 5, 0), (0, 0, 4, 0), (0, 0, 2, 0), (0, 0, 1, 0), (25, 0, 2, 2), (11, 2, 0, 2), (25, 0, 1, 1), (11, 1, 0, 1), (13, 1, 0, 0), (25, 0, 0, 0), (11, 0, 0, 0), (0, 0, 0, 0), (24, 0, 1, 1), (10, 1, 0, 1), (24, 0, 0, 0), (10, 0, 0, 0)]
theorem jO_X5_1 {w : j_St} (hh : jH 48 jF5_1 w) : jO (f_X5_init 1 w) (fun _ w' => jH 96 (jR48 1 48 ++ ((2, 1, 8, 1) :: (2, 1, 7, 1) :: (2, 1, 3, 1) :: (2, 1, 2, 1) :: (2, 1, 1, 1) :: (2, 1, 0, 1) :: jF5_1)) w') := by
  unfold f_X5_init
  refine jO.nx hh (by decide) (by decide +kernel) fun w hh => ?_
  refine jO.r hh (by decide +kernel) fun w hh => ?_
  refine jO.nx hh (by decide) (by decide +kernel) fun w hh => ?_
  refine jO.r hh (by decide +kernel) fun w hh => ?_
  refine jO.nx hh (by decide) (by decide +kernel) fun w hh => ?_
  refine jO.r hh (by decide +kernel) fun w hh => ?_
  refine jO.nx hh (by decide) (by decide +kernel) fun w hh => ?_
  refine jO.r hh (by decide +kernel) fun w hh => ?_
  refine jO.nx hh (by decide) (by decide +kernel) fun w hh => ?_
  refine jO.r hh (by decide +kernel) fun w hh => ?_
  refine jO.nx hh (by decide) (by decide +kernel) fun w hh => ?_
  refine jO.r hh (by decide +kernel) fun w hh => ?_
  have z := jO_L57 (b := 1) (F := (2, 1, 8, 1) :: (2, 1, 7, 1) :: (2, 1, 3, 1) :: (2, 1, 2, 1) :: (2, 1, 1, 1) :: (2, 1, 0, 1) :: jF5_1) (fun w N h => h.2 (2, 1, 0, 1) (by decide +kernel)) (jf3_all (by decide +kernel)) (by decide +kernel) jFU 0 6 248 w (by decide) hh
  rw [nI_0] at z
  exact z
theorem jO_X1 {w : j_St} (h0 : jgn w 103 0 = 0) : jO (f_X1_init w) (fun _ w' => ∀ e, e ∈ jNr ((0, 0) :: jLX) → jgr w' e.1 e.2.1 e.2.2.1 = some e.2.2.2) := by
  have hh : jH 0 [] w := ⟨h0, fun e he => by cases he⟩
  unfold f_X1_init
  refine jO.nx hh (by decide) (by decide +kernel) fun w hh => ?_
  refine jO.nx hh (by decide) (by decide +kernel) fun w hh => ?_
  refine jO.c (jO_X2 hh (by decide +kernel)) fun _ w hh => ?_
  refine jO.bd (a := 0) (by decide) ?_
  refine jO.r hh (by decide +kernel) fun w hh => ?_
  refine jO.nx hh (by decide) (by decide +kernel) fun w hh => ?_
  refine jO.c (jO_X2 hh (by decide +kernel)) fun _ w hh => ?_
  refine jO.bd (a := 1) (by decide) ?_
  refine jO.r hh (by decide +kernel) fun w hh => ?_
  refine jO.r hh (by decide +kernel) fun w hh => ?_
  refine jO.nx hh (by decide) (by decide +kernel) fun w hh => ?_
  refine jO.nx hh (by decide) (by decide +kernel) fun w hh => ?_
  refine jO.c (jO_X4 hh (by decide +kernel)) fun _ w hh => ?_
  refine jO.bd (a := 0) (by decide) ?_
  refine jO.r hh (by decide +kernel) fun w hh => ?_
  refine jO.nx hh (by decide) (by decide +kernel) fun w hh => ?_
  refine jO.m hh (by decide) (by decide +kernel) fun w hh => ?_
  refine jO.c (jO_X4 hh (by decide +kernel)) fun _ w hh => ?_
  refine jO.bd (a := 1) (by decide) ?_
  refine jO.r hh (by decide +kernel) fun w hh => ?_
  refine jO.nx hh (by decide) (by decide +kernel) fun w hh => ?_
  refine jO.c (jO_X4 hh (by decide +kernel)) fun _ w hh => ?_
  refine jO.bd (a := 2) (by decide) ?_
  refine jO.r hh (by decide +kernel) fun w hh => ?_
  refine jO.r hh (by decide +kernel) fun w hh => ?_
  refine jO.nx hh (by decide) (by decide +kernel) fun w hh => ?_
  refine jO.r hh (by decide +kernel) fun w hh => ?_
  refine jO.nx hh (by decide) (by decide +kernel) fun w hh => ?_
  refine jO.r hh (by decide +kernel) fun w hh => ?_
  refine jO.nx hh (by decide) (by decide +kernel) fun w hh => ?_
  refine jO.r hh (by decide +kernel) fun w hh => ?_
  refine jO.nx hh (by decide) (by decide +kernel) fun w hh => ?_
  refine jO.c (jO_X5_0 (show jH 0 jF5_0 w from hh)) fun _ w hh => ?_
  refine jO.r hh (by decide +kernel) fun w hh => ?_
  refine jO.nx hh (by decide) (by decide +kernel) fun w hh => ?_
  refine jO.c (jO_X5_1 (show jH 48 jF5_1 w from hh)) fun _ w hh => ?_
  refine jO.r hh (by decide +kernel) fun w hh => ?_
  refine jO.nx hh (by decide) (by decide +kernel) fun w hh => ?_
  refine jO.c (jO_X7 hh (by decide +kernel) (by decide +kernel)) fun _ w hh => ?_
  refine jO.r hh (by decide +kernel) fun w hh => ?_
  refine jO.iff ?_
  refine jO.u hh (by decide) fun w hh => ?_
  refine jO.nx hh (by decide) (by decide +kernel) fun w hh => ?_
  refine jO.c (jO_X8 (b := 1) rfl hh (by decide +kernel) (by decide +kernel) (by decide +kernel) (by decide +kernel) (by decide +kernel) (by decide +kernel) (by decide +kernel)) fun _ w hh => ?_
  refine jO.r hh (by decide +kernel) fun w hh => ?_
  refine jO.iff ?_
  refine jO.u hh (by decide) fun w hh => ?_
  refine jO.nx hh (by decide) (by decide +kernel) fun w hh => ?_
  refine jO.c (jO_X8 (b := 3) rfl hh (by decide +kernel) (by decide +kernel) (by decide +kernel) (by decide +kernel) (by decide +kernel) (by decide +kernel) (by decide +kernel)) fun _ w hh => ?_
  refine jO.r hh (by decide +kernel) fun w hh => ?_
  refine jO.iff ?_
  refine jO.u hh (by decide) fun w hh => ?_
  refine jO.nx hh (by decide) (by decide +kernel) fun w hh => ?_
  refine jO.c (jO_X8 (b := 5) rfl hh (by decide +kernel) (by decide +kernel) (by decide +kernel) (by decide +kernel) (by decide +kernel) (by decide +kernel) (by decide +kernel)) fun _ w hh => ?_
  refine jO.r hh (by decide +kernel) fun w hh => ?_
  refine jO.iff ?_
  refine jO.u hh (by decide) fun w hh => ?_
  refine jO.nx hh (by decide) (by decide +kernel) fun w hh => ?_
  refine jO.c (jO_X8 (b := 7) rfl hh (by decide +kernel) (by decide +kernel) (by decide +kernel) (by decide +kernel) (by decide +kernel) (by decide +kernel) (by decide +kernel)) fun _ w hh => ?_
  refine jO.r hh (by decide +kernel) fun w hh => ?_
  refine jO.nx hh (by decide) (by decide +kernel) fun w hh => ?_
  refine jO.r hh (by decide +kernel) fun w hh => ?_
  refine jO.rn hh (by decide +kernel) fun w hh => ?_
  exact jO.e fun e he => hh.2 e ((by decide +kernel : ∀ e, e ∈ jNr ((0, 0) :: jLX) → e ∈ _) e he)
theorem jO_X9 {w : j_St} : jO (f_X9_init w) (fun _ w' => ∀ e, e ∈ jNr [(1, 0)] → jgr w' e.1 e.2.1 e.2.2.1 = some e.2.2.2) := by
  have hh : jH (jgn w 103 0) [] w := ⟨rfl, fun e he => by cases he⟩
  unfold f_X9_init
  refine jO.nx hh (by decide) (by decide +kernel) fun w hh => ?_
  refine jO.r hh (by decide +kernel) fun w hh => ?_
  refine jO.nx hh (by decide) (by decide +kernel) fun w hh => ?_
  refine jO.r hh (by decide +kernel) fun w hh => ?_
  refine jO.nx hh (by decide) (by decide +kernel) fun w hh => ?_
  refine jO.r hh (by decide +kernel) fun w hh => ?_
  refine jO.nx hh (by decide) (by decide +kernel) fun w hh => ?_
  refine jO.r hh (by decide +kernel) fun w hh => ?_
  refine jO.nx hh (by decide) (by decide +kernel) fun w hh => ?_
  refine jO.r hh (by decide +kernel) fun w hh => ?_
  refine jO.nx hh (by decide) (by decide +kernel) fun w hh => ?_
  refine jO.r hh (by decide +kernel) fun w hh => ?_
  refine jO.nx hh (by decide) (by decide +kernel) fun w hh => ?_
  refine jO.r hh (by decide +kernel) fun w hh => ?_
  refine jO.nx hh (by decide) (by decide +kernel) fun w hh => ?_
  refine jO.r hh (by decide +kernel) fun w hh => ?_
  refine jO.nx hh (by decide) (by decide +kernel) fun w hh => ?_
  refine jO.r hh (by decide +kernel) fun w hh => ?_
  refine jO.nx hh (by decide) (by decide +kernel) fun w hh => ?_
  refine jO.r hh (by decide +kernel) fun w hh => ?_
  refine jO.nx hh (by decide) (by decide +kernel) fun w hh => ?_
  refine jO.r hh (by decide +kernel) fun w hh => ?_
  refine jO.nx hh (by decide) (by decide +kernel) fun w hh => ?_
  refine jO.r hh (by decide +kernel) fun w hh => ?_
  refine jO.nx hh (by decide) (by decide +kernel) fun w hh => ?_
  refine jO.r hh (by decide +kernel) fun w hh => ?_
  refine jO.nx hh (by decide) (by decide +kernel) fun w hh => ?_
  refine jO.r hh (by decide +kernel) fun w hh => ?_
  refine jO.nx hh (by decide) (by decide +kernel) fun w hh => ?_
  refine jO.r hh (by decide +kernel) fun w hh => ?_
  refine jO.nx hh (by decide) (by decide +kernel) fun w hh => ?_
  refine jO.r hh (by decide +kernel) fun w hh => ?_
  refine jO.nx hh (by decide) (by decide +kernel) fun w hh => ?_
  refine jO.r hh (by decide +kernel) fun w hh => ?_
  refine jO.nx hh (by decide) (by decide +kernel) fun w hh => ?_
  refine jO.r hh (by decide +kernel) fun w hh => ?_
  refine jO.nx hh (by decide) (by decide +kernel) fun w hh => ?_
  refine jO.r hh (by decide +kernel) fun w hh => ?_
  refine jO.nx hh (by decide) (by decide +kernel) fun w hh => ?_
  refine jO.r hh (by decide +kernel) fun w hh => ?_
  refine jO.nx hh (by decide) (by decide +kernel) fun w hh => ?_
  refine jO.r hh (by decide +kernel) fun w hh => ?_
  refine jO.nx hh (by decide) (by decide +kernel) fun w hh => ?_
  refine jO.r hh (by decide +kernel) fun w hh => ?_
  refine jO.nx hh (by decide) (by decide +kernel) fun w hh => ?_
  refine jO.r hh (by decide +kernel) fun w hh => ?_
  refine jO.nx hh (by decide) (by decide +kernel) fun w hh => ?_
  refine jO.r hh (by decide +kernel) fun w hh => ?_
  refine jO.nx hh (by decide) (by decide +kernel) fun w hh => ?_
  refine jO.r hh (by decide +kernel) fun w hh => ?_
  refine jO.nx hh (by decide) (by decide +kernel) fun w hh => ?_
  refine jO.r hh (by decide +kernel) fun w hh => ?_
  refine jO.nx hh (by decide) (by decide +kernel) fun w hh => ?_
  refine jO.r hh (by decide +kernel) fun w hh => ?_
  exact jO.e fun e he => hh.2 e ((by decide +kernel : ∀ e, e ∈ jNr [(1, 0)] → e ∈ _) e he)
def jLa : List (Nat × Nat) := (0, 0) :: ([(12, 0), (12, 1), (13, 0), (13, 2)] ++ jLX)
theorem jLa_to : ∀ p ∈ jLa, ∀ k, k < 60 → jfs p.1 k = 3 → (jfk p.1 k, jci p.1 p.2 k) ∈ jLa ∨ jfk p.1 k = 3 := by decide +kernel
theorem jL9_to : ∀ k, k < 60 → jfs 1 k = 3 → (jfk 1 k, jci 1 0 k) ∈ jLX9 := by decide +kernel
theorem jLa_no : ∀ p ∈ jLX9, ∀ k, k < 60 → jfs p.1 k ≠ 3 := by decide +kernel
theorem jL3_no : ∀ k, k < 60 → jfs 3 k ≠ 3 := by decide +kernel
theorem jLa_in : ∀ e ∈ jNr jLa, e ∈ (13, 2, 0, 0) :: (13, 0, 0, 0) :: jNr ((0, 0) :: jLX) := by decide +kernel
theorem jb_X1i {g : j_G} {B0 B : j_B} {w w1 w2 w3 : j_St} {r : Unit} (h : f_X1_init w = some (r, w1)) (h0 : B.2.1 0 0 ∧ True) (hp : jadd B0 jLX B) (o1 : B.2.1 12 0 ∧ B.1 12 0 = jgM g 112 0) (o2 : B.2.1 12 1 ∧ B.1 12 1 = jgM g 112 1) (o3 : B.2.1 13 0 ∧ B.1 13 0 = jgM g 113 0) (o4 : B.2.1 13 2 ∧ B.1 13 2 = jgM g 113 2) (e2 : w2 = jsr w1 13 0 0 (some 0)) (e3 : w3 = jsr w2 13 2 0 (some 0)) (hn : jgn w 103 0 = 0) (ha : ∀ κ i k j, B.2.1 κ i → jgr w3 κ i k = some j → B.2.1 (jfk κ k) j) :
    ∀ κ i, jSX1 B κ i → B.2.1 κ i ∧ ∀ k, jfs κ k = 3 → jgr w3 κ i k = some (jci κ i k) ∧ (B.2.2 (jfk κ k) (jci κ i k) ∨ jSX1 B (jfk κ k) (jci κ i k)) := by
  have hH : ∀ e, e ∈ jNr jLa → jgr w3 e.1 e.2.1 e.2.2.1 = some e.2.2.2 := by
    have g1 : jH (jgn w1 103 0) (jNr ((0, 0) :: jLX)) w1 := ⟨rfl, jO_X1 hn _ _ h⟩
    have g2 := (g1.set (κ := 13) (i := 0) (k := 0) (v := 0) (by decide +kernel)).set (κ := 13) (i := 2) (k := 0) (v := 0) (by decide +kernel)
    rw [← e2, ← e3] at g2
    exact fun e he => g2.2 e (jLa_in e he)
  have toS : ∀ {κ i : Nat}, (κ, i) ∈ jLa → jSX1 B κ i := fun {κ i} hm => by
    rcases List.mem_cons.mp hm with e | e
    · cases e; exact Or.inl ⟨rfl, rfl⟩
    · exact Or.inr (Or.inl e)
  have main : ∀ {κ i : Nat}, (κ, i) ∈ jLa → B.2.1 κ i ∧ ∀ k, jfs κ k = 3 → jgr w3 κ i k = some (jci κ i k) ∧ (B.2.2 (jfk κ k) (jci κ i k) ∨ jSX1 B (jfk κ k) (jci κ i k)) := fun {κ i} hm => by
    have al : B.2.1 κ i := by
      rcases List.mem_cons.mp hm with e | e
      · cases e; exact h0.1
      · rcases List.mem_append.mp e with z | z
        · simp only [List.mem_cons, List.not_mem_nil, or_false, Prod.mk.injEq] at z
          rcases z with ⟨rfl, rfl⟩ | ⟨rfl, rfl⟩ | ⟨rfl, rfl⟩ | ⟨rfl, rfl⟩
          · exact o1.1
          · exact o2.1
          · exact o3.1
          · exact o4.1
        · exact hp.2.1 _ _ z
    refine ⟨al, fun k hk => ?_⟩
    have e := hH _ (jNr_mem hm hk)
    refine ⟨e, Or.inr ?_⟩
    rcases jLa_to _ hm k (jfs_lt hk) hk with z | z
    · exact toS z
    · have a3 := ha κ i k _ al e
      refine Or.inr (Or.inr ⟨z, ?_⟩)
      simp only [z] at a3
      exact a3
  intro κ i hS
  rcases hS with ⟨rfl, rfl⟩ | hm | ⟨rfl, h3⟩
  · exact main (List.mem_cons_self)
  · exact main (List.mem_cons_of_mem _ hm)
  · exact ⟨h3, fun k hk => absurd hk (jL3_no k (jfs_lt hk))⟩
theorem jb_X9i {B0 B : j_B} {w w1 : j_St} {r : Unit} (h : f_X9_init w = some (r, w1)) (h0 : B.2.1 1 0 ∧ True) (hp : jadd B0 jLX9 B) :
    ∀ κ i, jSX9 B κ i → B.2.1 κ i ∧ ∀ k, jfs κ k = 3 → jgr w1 κ i k = some (jci κ i k) ∧ (B.2.2 (jfk κ k) (jci κ i k) ∨ jSX9 B (jfk κ k) (jci κ i k)) := by
  intro κ i hS
  rcases hS with ⟨rfl, rfl⟩ | hm
  · refine ⟨h0.1, fun k hk => ?_⟩
    exact ⟨jO_X9 _ _ h _ (jNr_mem (List.mem_singleton.mpr rfl) hk), Or.inr (Or.inr (jL9_to k (jfs_lt hk) hk))⟩
  · exact ⟨hp.2.1 _ _ hm, fun k hk => absurd hk (jLa_no _ hm k (jfs_lt hk))⟩
