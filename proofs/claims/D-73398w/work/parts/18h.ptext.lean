/-! the pure law: text is made, hashed, compared -/
section TEXT
variable {w w' w0 : j_St} {P : pP} {n m : Nat} {c : Nat → Nat}
theorem ofN {k : Nat} : Int32.ofNat k = nI k := rfl
def KSt (w : j_St) (κ i k : Nat) : Prop := (κ = 115 ∧ i = 0) ∨ (κ = 170 ∧ i = 0) ∨ (κ = 15 ∧ i = jgn w 115 0) ∨ (κ = 70 ∧ i = jgn w 170 0)
theorem c_range {b k g : Nat} (h6 : jgn w 70 b = capa g) (hg : g ≤ 5) (hb : b ≠ jgn w 170 0) (hk : k ≤ capa g) (hc : ∀ i, i < k → c i < 128) (hr : ∀ i, i < k → jgi w 70 b i = nI (c i)) : f_J6_copyOfRange b 0 (nI k) w = some (jgn w 170 0, jcp (jnw (jbump w 70) 70 (jgn w 170 0) k) 70 b 0 70 (jgn w 170 0) 0 k) := by
  have q := capa_le hg
  have n70 : jgn (jbump w 70) 70 b = capa g := by rw [jgn_bump, if_neg (by omega)]; exact h6
  rw [f_J6_copyOfRange, jlt_eq, if_pos rfl, h6]
  by_cases e : k = capa g
  · rw [if_pos (show nI k = Int32.ofNat (capa g) from by rw [e]; rfl), jlt_eq, jlt_eq, n70, if_pos ⟨by omega, jbyt_of fun i hi => ⟨c i, hc i (by omega), by rw [Nat.zero_add, jgi_bump]; exact hr i (by omega)⟩⟩, jlt_eq, ← e]
  · have n1 : jgn (jnw (jbump w 70) 70 (jgn w 170 0) k) 70 b = capa g := by rw [jgn_jnw, if_neg (fun z => hb z.2)]; exact n70
    have n2 : jgn (jnw (jbump w 70) 70 (jgn w 170 0) k) 70 (jgn w 170 0) = k := by rw [jgn_jnw, if_pos ⟨rfl, rfl⟩]
    have t1 : (nI k).toInt = (k : Int) := nI_toInt (by omega)
    rw [ofN, if_neg (fun z => e ((nI_eq (by omega) (by omega)).mp z))]
    dsimp only
    rw [f_J6_copyOfRangeByte, f_J6_checkLength, if_pos (show (0 : Int32) ≤ nI k from (nI_leI (a := 0) (by omega) (by omega)).mpr (by omega)), jcb_s2, Int32.sub_zero, jlt_eq, jlt_eq, jlt_eq, t1, if_pos (by omega), jlt_eq, Int.toNat_natCast, n1, n2, Int32.sub_zero, show jmin (Int32.ofNat (capa g)) (nI k) = nI k from jmin_r (by omega) (by omega) hk, t1, toI0, if_pos ⟨by omega, by omega, by omega, by omega, by omega, jbyt_of fun i hi => ⟨c i, hc i (by rw [Int.toNat_natCast] at hi; exact hi), by rw [Int.toNat_zero, Nat.zero_add, jgi_jnw, if_neg (fun z => hb z.2), jgi_bump]; exact hr i (by rw [Int.toNat_natCast] at hi; exact hi)⟩⟩, jlt_eq, jcb_s2, Int.toNat_natCast]
    rfl
theorem sb_str {k g : Nat} (h : pSB w0 w m k g c) (hg : g ≤ 5) (hc : ∀ i, i < k → c i < 128) : ∃ w', f_J2_toString m w = some (jgn w 115 0, w') ∧ pSame (KSt w) w w' ∧ pStr w' (jgn w 115 0) k c ∧ jgi w' 15 (jgn w 115 0) 2 = 0 ∧ jgi w' 15 (jgn w 115 0) 3 = 0 ∧ jgn w' 115 0 = jgn w 115 0 + 1 ∧ jgn w' 170 0 = jgn w 170 0 + 1 := by
  obtain ⟨b, h1, h2, h3, h4, h5, h6, h7, h8⟩ := h
  have sA : pSame (KSt w) w (jnw (jbump w 15) 15 (jgn w 115 0) 0) := (bump_same (K := KSt w) (Or.inl ⟨rfl, rfl⟩)).trans (jnw_same (K := KSt w) fun k => Or.inr (Or.inr (Or.inl ⟨rfl, rfl⟩)))
  have sB : pSame (KSt w) w (jsi (jnw (jbump w 15) 15 (jgn w 115 0) 0) 15 (jgn w 115 0) 1 0) := sA.trans (pSame.jsi (Or.inr (Or.inr (Or.inl ⟨rfl, rfl⟩))))
  have a1 : jgr (jnw (jbump w 15) 15 (jgn w 115 0) 0) 16 m 0 = some b := by rw [jgr_jnw, if_neg (by omega)]; exact h1
  have a2 : jgi (jnw (jbump w 15) 15 (jgn w 115 0) 0) 16 m 1 = 0 := by rw [jgi_jnw, if_neg (by omega), jgi_bump]; exact h2
  have a3 : jgi (jnw (jbump w 15) 15 (jgn w 115 0) 0) 16 m 3 = nI k := by rw [jgi_jnw, if_neg (by omega), jgi_bump]; exact h3
  have n170 : jgn (jsi (jnw (jbump w 15) 15 (jgn w 115 0) 0) 15 (jgn w 115 0) 1 0) 170 0 = jgn w 170 0 := by
    show jgn (jnw (jbump w 15) 15 (jgn w 115 0) 0) 170 0 = _
    rw [jgn_jnw, if_neg (by omega), jgn_bump, if_neg (by omega)]
  have n115 : jgn (jsi (jnw (jbump w 15) 15 (jgn w 115 0) 0) 15 (jgn w 115 0) 1 0) 115 0 = jgn w 115 0 + 1 := by
    show jgn (jnw (jbump w 15) 15 (jgn w 115 0) 0) 115 0 = _
    rw [jgn_jnw, if_neg (by omega), jgn_bump, if_pos ⟨rfl, rfl⟩]
  have n70 : jgn (jsi (jnw (jbump w 15) 15 (jgn w 115 0) 0) 15 (jgn w 115 0) 1 0) 70 b = capa g := by
    show jgn (jnw (jbump w 15) 15 (jgn w 115 0) 0) 70 b = _
    rw [jgn_jnw, if_neg (by omega), jgn_bump, if_neg (by omega)]
    exact h6
  have r70 : ∀ i, jgi (jsi (jnw (jbump w 15) 15 (jgn w 115 0) 0) 15 (jgn w 115 0) 1 0) 70 b i = jgi w 70 b i := fun i => by
    rw [jgi_ne (by omega), jgi_jnw, if_neg (by omega), jgi_bump]
  have s1 : jgi (jsi (jnw (jbump w 15) 15 (jgn w 115 0) 0) 15 (jgn w 115 0) 1 0) 15 (jgn w 115 0) 1 = 0 := jgi_eq
  have s2 : jgi (jsi (jnw (jbump w 15) 15 (jgn w 115 0) 0) 15 (jgn w 115 0) 1 0) 15 (jgn w 115 0) 2 = 0 := by
    rw [jgi_ne (by omega), jgi_jnw, if_pos ⟨rfl, rfl⟩]
  have s3 : jgi (jsi (jnw (jbump w 15) 15 (jgn w 115 0) 0) 15 (jgn w 115 0) 1 0) 15 (jgn w 115 0) 3 = 0 := by
    rw [jgi_ne (by omega), jgi_jnw, if_pos ⟨rfl, rfl⟩]
  have st1 : ∀ res, (jcb (f_J6_copyOfRange b 0 (nI k) (jsi (jnw (jbump w 15) 15 (jgn w 115 0) 0) 15 (jgn w 115 0) 1 0)) fun v15 w16 => jlt (jsr w16 15 (jgn w 115 0) 0 (some v15)) fun w21 => some ((jgn w 115 0), w21)) = res → f_J2_toString m w = res := fun res hres => by
    rw [f_J2_toString, jlt_eq, jlt_eq, jlt_eq, f_J3_init, f_J3_init_2, f_J1_getValue, jlt_eq, a1, jcb_s2, f_J2_length, f_J1_length, jlt_eq, a3, jcb_s2, jcb_s2, f_J1_isLatin1, if_neg n10, jlt_eq, a2, if_pos rfl, jcb_s2, if_neg n10, jlt_eq, job_s2, ← hres]
    cases f_J6_copyOfRange b 0 (nI k) (jsi (jnw (jbump w 15) 15 (jgn w 115 0) 0) 15 (jgn w 115 0) 1 0) with
    | none => rfl
    | some p => rfl
  generalize jsi (jnw (jbump w 15) 15 (jgn w 115 0) 0) 15 (jgn w 115 0) 1 0 = W at sB n170 n115 n70 r70 s1 s2 s3 st1
  have ec := c_range (w := W) (b := b) (k := k) (c := c) n70 hg (by omega) h7 hc (fun i hi => (r70 i).trans (h8 i hi))
  rw [n170] at ec
  have sC : pSame (KSt w) w (jsr (jcp (jnw (jbump W 70) 70 (jgn w 170 0) k) 70 b 0 70 (jgn w 170 0) 0 k) 15 (jgn w 115 0) 0 (some (jgn w 170 0))) := (((sB.trans (bump_same (K := KSt w) (Or.inr (Or.inl ⟨rfl, rfl⟩)))).trans (jnw_same (K := KSt w) fun k => Or.inr (Or.inr (Or.inr ⟨rfl, rfl⟩)))).trans (by rw [jcp_as]; exact jas_same fun k => Or.inr (Or.inr (Or.inr ⟨rfl, rfl⟩)))).trans (pSame.jsr (Or.inr (Or.inr (Or.inl ⟨rfl, rfl⟩))))
  have c170 : jgn (jsr (jcp (jnw (jbump W 70) 70 (jgn w 170 0) k) 70 b 0 70 (jgn w 170 0) 0 k) 15 (jgn w 115 0) 0 (some (jgn w 170 0))) 170 0 = jgn w 170 0 + 1 := by
    show jgn (jnw (jbump W 70) 70 (jgn w 170 0) k) 170 0 = _
    rw [jgn_jnw, if_neg (by omega), jgn_bump, if_pos ⟨rfl, rfl⟩, n170]
  have c115 : jgn (jsr (jcp (jnw (jbump W 70) 70 (jgn w 170 0) k) 70 b 0 70 (jgn w 170 0) 0 k) 15 (jgn w 115 0) 0 (some (jgn w 170 0))) 115 0 = jgn w 115 0 + 1 := by
    show jgn (jnw (jbump W 70) 70 (jgn w 170 0) k) 115 0 = _
    rw [jgn_jnw, if_neg (by omega), jgn_bump, if_neg (by omega), n115]
  have k15 : ∀ j, jgi (jsr (jcp (jnw (jbump W 70) 70 (jgn w 170 0) k) 70 b 0 70 (jgn w 170 0) 0 k) 15 (jgn w 115 0) 0 (some (jgn w 170 0))) 15 (jgn w 115 0) j = jgi W 15 (jgn w 115 0) j := fun j => by
    show jgi (jcp (jnw (jbump W 70) 70 (jgn w 170 0) k) 70 b 0 70 (jgn w 170 0) 0 k) 15 (jgn w 115 0) j = _
    rw [jcp_as, jas_ne (by omega), jgi_jnw, if_neg (by omega), jgi_bump]
  refine ⟨_, st1 _ (by rw [ec, jcb_s2, jlt_eq]), sC, ⟨jgn w 170 0, if_pos ⟨rfl, rfl, rfl⟩, by rw [k15]; exact s1, ?_, fun i hi => ?_, by omega, by omega⟩, by rw [k15]; exact s2, by rw [k15]; exact s3, c115, c170⟩
  · show jgn (jnw (jbump W 70) 70 (jgn w 170 0) k) 70 (jgn w 170 0) = k
    rw [jgn_jnw, if_pos ⟨rfl, rfl⟩]
  · show jgi (jcp (jnw (jbump W 70) 70 (jgn w 170 0) k) 70 b 0 70 (jgn w 170 0) 0 k) 70 (jgn w 170 0) i = nI (c i)
    rw [jcp_as, jas_get, cpy0_in hi]
    show jgi (jnw (jbump W 70) 70 (jgn w 170 0) k) 70 b i = _
    rw [jgi_jnw, if_neg (by omega), jgi_bump, r70]
    exact h8 i hi
/-- what a text's hash is -/
def hs (k : Nat) (c : Nat → Int32) : Int32 := pIt (fun i v => 31 * v + c i) k 0 0
def KHs (q κ i k : Nat) : Prop := κ = 15 ∧ i = q ∧ (k = 2 ∨ k = 3)
theorem c_hash {q k : Nat} (h : pStr w q k c) (h2 : jgi w 15 q 2 = 0) (h3 : jgi w 15 q 3 = 0) (hc : ∀ i, i < k → c i < 128) (hk : k < 10000) : ∃ w', f_J3_hashCode q w = some (hs k (fun i => nI (c i)), w') ∧ pSame (KHs q) w w' := by
  obtain ⟨b, b1, b2, b3, b4, b5, b6⟩ := h
  have a255 : ∀ i, i < k → jgi w 70 b i &&& 255 = nI (c i) := fun i hi => by
    rw [b4 i hi]
    have hd : ∀ b : Fin 128, nI b.val &&& 255 = nI b.val := by decide +kernel
    exact hd ⟨c i, hc i hi⟩
  have e7 : f_J7_hashCode b w = some (hs k (fun i => nI (c i)), w) := by
    rw [f_J7_hashCode, jlt_eq, b3]
    by_cases k0 : k = 0
    · subst k0
      rw [if_pos (by decide)]
      rfl
    · rw [ofN, if_neg (nI_ne0 (n := k) (by omega) (by omega))]
      by_cases k1 : k = 1
      · subst k1
        rw [if_pos (by decide), jbd, if_pos (by decide), jlt_eq, show (0 : Int32).toInt.toNat = 0 by decide, a255 0 (by omega)]
        show some (nI (c 0), w) = some (31 * 0 + nI (c 0), w)
        rw [show (31 : Int32) * 0 + nI (c 0) = nI (c 0) by rw [show (31 : Int32) * 0 = 0 by decide, Int32.zero_add]]
      · have := pIt_is' (F := fun f m (v : Int32) => f_J5_signedHashCode_L8 b (nI k) f v (nI m) w) (step := fun i v => 31 * v + nI (c i)) (N := k) (G := fun v => some (v, w)) (fun f m v hm => ?_) (fun f v => ?_) k jFU 0 0 (by omega) (jFU_gt (by omega))
        · rw [if_neg (show ¬ nI k = 1 from fun z => k1 ((nI_eq (b := 1) (by omega) (by omega)).mp z)), f_J5_vectorizedHashCode, if_pos rfl, f_J5_signedHashCode, jlt_eq, Int32.zero_add]
          have t : f_J5_signedHashCode_L8 b (nI k) jFU 0 0 w = some (hs k (fun i => nI (c i)), w) := this
          rw [t, jcb_s2, jcb_s2]
        · show f_J5_signedHashCode_L8 b (nI k) (f + 1) v (nI m) w = f_J5_signedHashCode_L8 b (nI k) f (31 * v + nI (c m)) (nI (m + 1)) w
          rw [f_J5_signedHashCode_L8, if_neg (fun z => by have := (nI_leI (a := k) (b := m) (by omega) (by omega)).mp z; omega), jbd_nI (by omega) (by omega), jlt_eq, a255 m hm, jlt_eq, jlt_eq, nI_1]
        · show f_J5_signedHashCode_L8 b (nI k) (f + 1) v (nI k) w = some (v, w)
          rw [f_J5_signedHashCode_L8, if_pos (Int32.le_refl _)]
  have st1 : ∀ res, (if hs k (fun i => nI (c i)) = 0 then jlt (jsi w 15 q 3 1) fun w14 => some (hs k (fun i => nI (c i)), w14) else jlt (jsi w 15 q 2 (hs k (fun i => nI (c i)))) fun w13 => some (hs k (fun i => nI (c i)), w13)) = res → f_J3_hashCode q w = res := fun res hres => by
    rw [f_J3_hashCode, jlt_eq, h2, if_pos rfl, jlt_eq, h3, if_pos rfl, f_J3_isLatin1, if_neg n10, jlt_eq, b2, if_pos rfl, jcb_s2, if_neg n10, jlt_eq, b1, job_s2, e7, jcb_s2]
    exact hres
  by_cases z : hs k (fun i => nI (c i)) = 0
  · exact ⟨_, st1 _ (by rw [if_pos z, jlt_eq]), pSame.jsi ⟨rfl, rfl, Or.inr rfl⟩⟩
  · exact ⟨_, st1 _ (by rw [if_neg z, jlt_eq]), pSame.jsi ⟨rfl, rfl, Or.inl rfl⟩⟩
/-- is it that literal -/
def wQ (k : Nat) (c : Nat → Nat) (l : List Int32) : Bool := k == l.length && (List.range k).all fun i => nI (c i) == l.getD i 0
theorem wQ_iff {k : Nat} {l : List Int32} : wQ k c l = true ↔ k = l.length ∧ ∀ i, i < k → nI (c i) = l.getD i 0 := by
  unfold wQ
  rw [Bool.and_eq_true, beq_iff_eq, List.all_eq_true]
  constructor
  · intro ⟨h1, h2⟩
    exact ⟨h1, fun i hi => by have := h2 i (List.mem_range.mpr hi); rw [beq_iff_eq] at this; exact this⟩
  · intro ⟨h1, h2⟩
    exact ⟨h1, fun i hi => by rw [beq_iff_eq]; exact h2 i (List.mem_range.mp hi)⟩
theorem c_eq17 {q k j : Nat} (h : pStr w q k c) (hL : cLit w) (hj : j < 13) (hk : k < 10000) : f_J3_equals_a17 q j w = some (if wQ k c (stB.getD j []) = true then 1 else 0, w) := by
  obtain ⟨b, b1, b2, b3, b4, b5, b6⟩ := h
  obtain ⟨xs, L, l1, l2⟩ := hL
  have r17 : jgr w 17 j 0 = some j := (l1 17 j 0 (Or.inl rfl)).2
  have i17 : jgi w 17 j 1 = 0 := (l1 17 j 1 (Or.inl rfl)).1
  have n71 : jgn w 71 j = (stB.getD j []).length := l2 71 j (Or.inr (Or.inl rfl))
  have r71 : ∀ i, jgi w 71 j i = (stB.getD j []).getD i 0 := fun i => (l1 71 j i (Or.inr (Or.inl rfl))).1
  have l13 : (stB.getD j []).length < 100 := by
    have hd : ∀ j : Fin 13, (stB.getD j.val []).length < 100 := by decide +kernel
    exact hd ⟨j, hj⟩
  have key : ∀ cnt m f, m + cnt = k → cnt < f → k = (stB.getD j []).length → (∀ i, i < m → nI (c i) = (stB.getD j []).getD i 0) → f_J7_equals_a71_L9 b j f (nI m) w = some (if wQ k c (stB.getD j []) = true then 1 else 0, w) := by
    intro cnt
    induction cnt with
    | zero =>
      intro m f hm hf hl hi
      obtain ⟨f, rfl⟩ : ∃ f', f = f' + 1 := ⟨f - 1, by omega⟩
      rw [f_J7_equals_a71_L9, b3, if_pos (show Int32.ofNat k ≤ nI m by rw [show m = k by omega]; exact Int32.le_refl _), if_pos (wQ_iff.mpr ⟨hl, fun i h => hi i (by omega)⟩)]
    | succ cnt ih =>
      intro m f hm hf hl hi
      obtain ⟨f, rfl⟩ : ∃ f', f = f' + 1 := ⟨f - 1, by omega⟩
      rw [f_J7_equals_a71_L9, b3, if_neg (fun z => by have := (nI_leI (a := k) (b := m) (by omega) (by omega)).mp z; omega), jbd_nI (by omega) (by omega), jlt_eq, b4 m (by omega), jbd_nI (by omega) (by omega), jlt_eq, r71]
      by_cases e : nI (c m) = (stB.getD j []).getD m 0
      · rw [if_pos e, jlt_eq, nI_1]
        exact ih (m + 1) f (by omega) (by omega) hl (fun i h => by
          rcases Nat.lt_or_ge i m with z | z
          · exact hi i z
          · rw [show i = m by omega]; exact e)
      · rw [if_neg e, if_neg (fun z => e ((wQ_iff.mp z).2 m (by omega)))]
  have e71 : f_J7_equals_a71 b j w = some (if wQ k c (stB.getD j []) = true then 1 else 0, w) := by
    rw [f_J7_equals_a71, b3, n71, ofN, ofN]
    by_cases e : k = (stB.getD j []).length
    · rw [if_pos (by rw [← e])]
      exact key k 0 jFU (by omega) (jFU_gt (by omega)) e (fun i hi => by omega)
    · rw [if_neg (fun z => e ((nI_eq (by omega) (by omega)).mp z)), if_neg (fun z => e (wQ_iff.mp z).1)]
  rw [f_J3_equals_a17, if_neg n10, jlt_eq, if_neg n10, jlt_eq, b2, jlt_eq, i17, if_pos rfl]
  dsimp only
  rw [jlt_eq, b1, jlt_eq, r17, job_s2, job_s2, e71, jcb_s2]
  by_cases e : wQ k c (stB.getD j []) = true
  · rw [if_pos e, if_neg n10]
  · rw [if_neg e, if_pos rfl]
/-- are two texts one -/
theorem c_eq15 {q q' k k' : Nat} {c' : Nat → Nat} (h : pStr w q k c) (h' : pStr w q' k' c') (hq : q ≠ q') (hk : k < 10000) (hk' : k' < 10000) (hc : ∀ i, i < k → c i < 128) (hc' : ∀ i, i < k' → c' i < 128) : (k = k' ∧ (∀ i, i < k → c i = c' i) → f_J3_equals_a15 q q' w = some (1, w)) ∧ (¬ (k = k' ∧ ∀ i, i < k → c i = c' i) → f_J3_equals_a15 q q' w = some (0, w)) := by
  obtain ⟨b, b1, b2, b3, b4, b5, b6⟩ := h
  obtain ⟨b', b1', b2', b3', b4', b5', b6'⟩ := h'
  have key : ∀ cnt m f, m + cnt = k → cnt < f → k = k' → (∀ i, i < m → c i = c' i) → ((∀ i, i < k → c i = c' i) → f_J7_equals_a70_L9 b b' f (nI m) w = some (1, w)) ∧ (¬ (∀ i, i < k → c i = c' i) → f_J7_equals_a70_L9 b b' f (nI m) w = some (0, w)) := by
    intro cnt
    induction cnt with
    | zero =>
      intro m f hm hf hl hi
      obtain ⟨f, rfl⟩ : ∃ f', f = f' + 1 := ⟨f - 1, by omega⟩
      refine ⟨fun _ => ?_, fun z => absurd (fun i h => hi i (by omega)) z⟩
      rw [f_J7_equals_a70_L9, b3, if_pos (show Int32.ofNat k ≤ nI m by rw [show m = k by omega]; exact Int32.le_refl _)]
    | succ cnt ih =>
      intro m f hm hf hl hi
      obtain ⟨f, rfl⟩ : ∃ f', f = f' + 1 := ⟨f - 1, by omega⟩
      have hcm := hc m (by omega)
      have hcm' := hc' m (by omega)
      rw [f_J7_equals_a70_L9, b3, if_neg (fun z => by have := (nI_leI (a := k) (b := m) (by omega) (by omega)).mp z; omega), jbd_nI (by omega) (by omega), jlt_eq, b4 m (by omega), jbd_nI (by omega) (by omega), jlt_eq, b4' m (by omega)]
      by_cases e : c m = c' m
      · rw [if_pos (by rw [e]), jlt_eq, nI_1]
        exact ih (m + 1) f (by omega) (by omega) hl (fun i h => by
          rcases Nat.lt_or_ge i m with z | z
          · exact hi i z
          · rw [show i = m by omega]; exact e)
      · rw [if_neg (fun z => e ((nI_eq (by omega) (by omega)).mp z))]
        exact ⟨fun z => absurd (z m (by omega)) e, fun _ => rfl⟩
  have st1 : ∀ r, (r = 0 ∨ r = 1) → f_J7_equals_a70 b b' w = some (r, w) → f_J3_equals_a15 q q' w = some (r, w) := fun r hr hres => by
    rw [f_J3_equals_a15, if_neg (fun z => hq (Option.some.inj z)), if_neg n10, jlt_eq, if_neg n10, jlt_eq, b2, jlt_eq, b2', if_pos rfl]
    dsimp only
    rw [jlt_eq, b1, jlt_eq, b1', job_s2, job_s2, hres, jcb_s2]
    rcases hr with rfl | rfl
    · rw [if_pos rfl]
    · rw [if_neg n10]
  constructor
  · intro ⟨e1, e2⟩
    refine st1 1 (Or.inr rfl) ?_
    rw [f_J7_equals_a70, b3, b3', ofN, ofN, if_pos (by rw [e1])]
    exact (key k 0 jFU (by omega) (jFU_gt (by omega)) e1 (fun i hi => by omega)).1 e2
  · intro hn
    refine st1 0 (Or.inl rfl) ?_
    rw [f_J7_equals_a70, b3, b3', ofN, ofN]
    by_cases e1 : k = k'
    · rw [if_pos (by rw [e1])]
      exact (key k 0 jFU (by omega) (jFU_gt (by omega)) e1 (fun i hi => by omega)).2 (fun z => hn ⟨e1, z⟩)
    · rw [if_neg (fun z => e1 ((nI_eq (by omega) (by omega)).mp z))]
end TEXT
