/-! the pure law: the component's builder of text -/
section BUILD
variable {w w' w0 : j_St} {m : Nat} {c : Nat → Nat}
theorem sub_toInt {a b : Nat} (ha : a < 2 ^ 31) (hb : b < 2 ^ 31) : (nI a - nI b).toInt = (a : Int) - b := by
  rw [Int32.toInt_sub, nI_toInt ha, nI_toInt hb]
  exact Int.bmod_eq_of_le (by omega) (by omega)
theorem sub_le0 {a b : Nat} (ha : a < 2 ^ 31) (hb : b < 2 ^ 31) : nI a - nI b ≤ 0 ↔ a ≤ b := by
  rw [Int32.le_iff_toInt_le, sub_toInt ha hb, toI0]
  omega
theorem sh0 (x : Int32) : x >>> ((0 : Int32) &&& 31) = x := by
  rw [show ((0 : Int32) &&& 31) = 0 by decide]
  simp
theorem shl0 (x : Int32) : x <<< ((0 : Int32) &&& 31) = x := by
  rw [show ((0 : Int32) &&& 31) = 0 by decide]
  simp
theorem jbyt_of {κ i a n : Nat} (h : ∀ k, k < n → ∃ c, c < 128 ∧ jgi w κ i (a + k) = nI c) : jbyt w κ i a n = true := by
  unfold jbyt
  rw [List.all_eq_true]
  intro k hk
  obtain ⟨c, hc, e⟩ := h k (List.mem_range.mp hk)
  rw [e]
  clear e h hk
  revert c
  decide +kernel
theorem chr_is {b : Nat} (h : b < 128) : (((nI b).toInt8.toInt32.toUInt32 % 65536).toInt32) = nI b ∧ (nI b).toInt8.toInt32.toInt8.toInt32 = nI b ∧ ¬ (255 : Int32) < nI b := by
  have hd : ∀ b : Fin 128, (((nI b.val).toInt8.toInt32.toUInt32 % 65536).toInt32) = nI b.val ∧ (nI b.val).toInt8.toInt32.toInt8.toInt32 = nI b.val ∧ ¬ (255 : Int32) < nI b.val := by decide +kernel
  exact hd ⟨b, h⟩
theorem jgn_bump {κ κ' i : Nat} : jgn (jbump w κ) κ' i = if κ' = 100 + κ ∧ i = 0 then jgn w κ' i + 1 else jgn w κ' i := id rfl
theorem jgn_jnw {κ i n κ' i' : Nat} : jgn (jnw w κ i n) κ' i' = if κ' = κ ∧ i' = i then n else jgn w κ' i' := id rfl
theorem jgi_jnw {κ i n κ' i' k : Nat} : jgi (jnw w κ i n) κ' i' k = if κ' = κ ∧ i' = i then 0 else jgi w κ' i' k := id rfl
theorem jgr_jnw {κ i n κ' i' k : Nat} : jgr (jnw w κ i n) κ' i' k = if κ' = κ ∧ i' = i then none else jgr w κ' i' k := id rfl
theorem jgi_bump {κ κ' i k : Nat} : jgi (jbump w κ) κ' i k = jgi w κ' i k := id rfl
theorem bump_same {K : Nat → Nat → Nat → Prop} {κ : Nat} (h : K (100 + κ) 0 0) : pSame K w (jbump w κ) := ⟨fun _ _ _ _ => rfl, fun _ _ _ _ => rfl, fun _ _ _ _ => rfl, fun κ' i z => by
  rw [jgn_bump]
  exact if_neg (fun y => z (by rw [y.1, y.2]; exact h))⟩
def capa (g : Nat) : Nat := 18 * 2 ^ g - 2
theorem capa_s (g : Nat) : capa (g + 1) = 2 * capa g + 2 := by
  unfold capa
  have := Nat.one_le_two_pow (n := g)
  rw [Nat.pow_succ]
  omega
theorem capa_le {g : Nat} (h : g ≤ 5) : capa g ≤ 574 ∧ 16 ≤ capa g := by
  rcases (show g = 0 ∨ g = 1 ∨ g = 2 ∨ g = 3 ∨ g = 4 ∨ g = 5 by omega) with rfl | rfl | rfl | rfl | rfl | rfl <;> exact ⟨by decide, by decide⟩
/-- a builder that holds k letters -/
def pSB (w0 w : j_St) (m k g : Nat) (c : Nat → Nat) : Prop := ∃ b, jgr w 16 m 0 = some b ∧ jgi w 16 m 1 = 0 ∧ jgi w 16 m 3 = nI k ∧ jgn w0 170 0 ≤ b ∧ b < jgn w 170 0 ∧ jgn w 70 b = capa g ∧ k ≤ capa g ∧ ∀ i, i < k → jgi w 70 b i = nI (c i)
def KBu (w0 : j_St) (κ i k : Nat) : Prop := κ = 16 ∨ (κ = 70 ∧ jgn w0 170 0 ≤ i) ∨ (κ = 170 ∧ i = 0)
theorem sb_put {k g : Nat} (h : pSB w0 w m k g c) (hg : g ≤ 5) (hk : k < capa g) (hc : c k < 128) : ∃ w', (jcb (f_J1_isLatin1 m w) fun v8 w9 => if v8 = 0 then none else jcb (f_J7_canEncode (nI (c k)) w9) fun v11 w12 => if v11 = 0 then none else jlt (jgr w12 16 m 0) fun v14 => jlt (jgi w12 16 m 3) fun v16 => jlt (jsi w12 16 m 3 (v16 + 1)) fun w17 => job v14 fun y18 => jbd v16 (jgn w17 70 y18) fun a21 => jlt (jsi w17 70 y18 a21 (nI (c k)).toInt8.toInt32.toInt8.toInt32) fun w20 => some (m, w20)) = some (m, w') ∧ pSame (KBu w0) w w' ∧ pSB w0 w' m (k + 1) g c ∧ jgn w' 170 0 = jgn w 170 0 := by
  obtain ⟨b, h1, h2, h3, h4, h5, h6, h7, h8⟩ := h
  have := capa_le hg
  obtain ⟨c1, c2, c3⟩ := chr_is hc
  refine ⟨jsi (jsi w 16 m 3 (nI (k + 1))) 70 b k (nI (c k)), ?_, (pSame.jsi (Or.inl rfl)).trans (pSame.jsi (Or.inr (Or.inl ⟨rfl, h4⟩))), ⟨b, h1, ?_, ?_, h4, h5, h6, by omega, fun i hi => ?_⟩, rfl⟩
  · rw [f_J1_isLatin1, if_neg n10, jlt_eq, h2, if_pos rfl, jcb_s2, if_neg n10, f_J7_canEncode, if_neg c3, jcb_s2, if_neg n10, jlt_eq, h1, jlt_eq, h3, jlt_eq, job_s2, nI_1, jbd_nI (show k < jgn (jsi w 16 m 3 (nI (k + 1))) 70 b by rw [show jgn (jsi w 16 m 3 (nI (k + 1))) 70 b = jgn w 70 b from rfl, h6]; exact hk) (by rw [show jgn (jsi w 16 m 3 (nI (k + 1))) 70 b = jgn w 70 b from rfl, h6]; omega), jlt_eq, c2]
  · rw [jgi_ne (by omega), jgi_ne (by omega)]; exact h2
  · rw [jgi_ne (by omega), jgi_eq]
  · by_cases e : i = k
    · rw [e, jgi_eq]
    · rw [jgi_ne (by omega), jgi_ne (by omega)]; exact h8 i (by omega)
theorem sb_n {k g : Nat} (h : pSB w0 w m k g c) (hg : g ≤ 5) (hk : k < capa g) (hc : c k < 128) : ∃ w', f_J2_append_n m (nI (c k)) w = some (m, w') ∧ pSame (KBu w0) w w' ∧ pSB w0 w' m (k + 1) g c ∧ jgn w' 170 0 = jgn w 170 0 := by
  obtain ⟨w', e, r⟩ := sb_put h hg hk hc
  obtain ⟨b, h1, h2, h3, h4, h5, h6, h7, h8⟩ := h
  have := capa_le hg
  refine ⟨w', ?_, r⟩
  rw [f_J2_append_n, f_J1_append_n, jlt_eq, h3, f_J1_ensureCapacityInternal_n, jlt_eq, h1, job_s2, jlt_eq, h2, jlt_eq, sh0, h6, nI_1, show Int32.ofNat (capa g) = nI (capa g) from rfl, if_pos ((sub_le0 (by omega) (by omega)).mpr (by omega)), jcb_s2, e, jcb_s2]
theorem sb_none {k g : Nat} (h : pSB w0 w m k g c) (hg : g ≤ 5) (hk : k = capa g) (x : Int32) : f_J2_append_n m x w = none := by
  obtain ⟨b, h1, h2, h3, h4, h5, h6, h7, h8⟩ := h
  have := capa_le hg
  rw [f_J2_append_n, f_J1_append_n, jlt_eq, h3, f_J1_ensureCapacityInternal_n, jlt_eq, h1, job_s2, jlt_eq, h2, jlt_eq, sh0, h6, nI_1, show Int32.ofNat (capa g) = nI (capa g) from rfl, if_neg (fun z => by have := (sub_le0 (by omega) (by omega)).mp z; omega)]
  rfl
theorem jmin_l {a b : Nat} (ha : a < 2 ^ 31) (hb : b < 2 ^ 31) (h : a ≤ b) : jmin (nI a) (nI b) = nI a := by
  unfold jmin
  rw [if_neg (fun z => by have := (nI_ltI hb ha).mp z; omega)]
theorem jmin_r {a b : Nat} (ha : a < 2 ^ 31) (hb : b < 2 ^ 31) (h : b ≤ a) : jmin (nI a) (nI b) = nI b := by
  unfold jmin
  by_cases e : b < a
  · rw [if_pos ((nI_ltI hb ha).mpr e)]
  · rw [if_neg (fun z => e ((nI_ltI hb ha).mp z)), show a = b by omega]
theorem sb_grow {k g : Nat} (h : pSB w0 w m k g c) (hg : g ≤ 4) (hk : k = capa g) (hc : ∀ i, i ≤ k → c i < 128) (hw : jgn w0 170 0 ≤ jgn w 170 0) : ∃ w', f_J2_append m (nI (c k)) w = some (m, w') ∧ pSame (KBu w0) w w' ∧ pSB w0 w' m (k + 1) (g + 1) c ∧ jgn w 170 0 ≤ jgn w' 170 0 := by
  obtain ⟨b, h1, h2, h3, h4, h5, h6, h7, h8⟩ := h
  have q := capa_le (g := g) (by omega)
  have q' := capa_le (g := g + 1) (by omega)
  have qs := capa_s g
  have hb : b ≠ jgn w 170 0 := by omega
  have sB : pSame (KBu w0) w (jnw (jbump w 70) 70 (jgn w 170 0) (capa (g + 1))) := (bump_same (Or.inr (Or.inr ⟨rfl, rfl⟩))).trans (jnw_same fun k => Or.inr (Or.inl ⟨rfl, hw⟩))
  have n70 : jgn (jnw (jbump w 70) 70 (jgn w 170 0) (capa (g + 1))) 70 b = capa g := by
    rw [jgn_jnw, if_neg (fun z => hb z.2), jgn_bump, if_neg (by omega)]
    exact h6
  have n71 : jgn (jnw (jbump w 70) 70 (jgn w 170 0) (capa (g + 1))) 70 (jgn w 170 0) = capa (g + 1) := if_pos ⟨rfl, rfl⟩
  have r70 : ∀ i, jgi (jnw (jbump w 70) 70 (jgn w 170 0) (capa (g + 1))) 70 b i = jgi w 70 b i := fun i => if_neg (fun z => hb z.2)
  have ec : f_J6_copyOf b (nI (capa (g + 1))) w = some (jgn w 170 0, jcp (jnw (jbump w 70) 70 (jgn w 170 0) (capa (g + 1))) 70 b 0 70 (jgn w 170 0) 0 (capa g)) := by
    have t1 : (nI (capa (g + 1))).toInt = (capa (g + 1) : Int) := nI_toInt (by omega)
    have t2 : (nI (capa g)).toInt = (capa g : Int) := nI_toInt (by omega)
    rw [f_J6_copyOf, h6, if_neg (fun z => by have := (nI_eq (by omega) (by omega)).mp z; omega), jlt_eq, jlt_eq, t1, if_pos (by omega), jlt_eq, Int.toNat_natCast, n70, n71, show jmin (Int32.ofNat (capa g)) (nI (capa (g + 1))) = nI (capa g) from jmin_l (by omega) (by omega) (by omega), t2, toI0, if_pos ⟨by omega, by omega, by omega, by omega, by omega, jbyt_of fun i hi => ⟨c i, hc i (by rw [Int.toNat_natCast] at hi; omega), by rw [Int.toNat_zero, Nat.zero_add, r70]; exact h8 i (by rw [Int.toNat_natCast] at hi; omega)⟩⟩, jlt_eq, Int.toNat_natCast]
    rfl
  have ee : f_J1_ensureCapacityInternal m (nI (k + 1)) w = some ((), jsr (jcp (jnw (jbump w 70) 70 (jgn w 170 0) (capa (g + 1))) 70 b 0 70 (jgn w 170 0) 0 (capa g)) 16 m 0 (some (jgn w 170 0))) := by
    have nw : f_J1_newCapacity m (nI (k + 1)) w = some (nI (capa (g + 1)), w) := by
      have mx : jmax 1 (nI (capa g) + 2) = nI (capa g + 2) := by
        rw [show nI (capa g) + 2 = nI (capa g + 2) from nI_add _ 2]
        unfold jmax
        rw [if_pos (show (1 : Int32) < nI (capa g + 2) from (nI_ltI (a := 1) (by omega) (by omega)).mpr (by omega))]
      rw [f_J1_newCapacity, jlt_eq, h1, job_s2, jlt_eq, h6, jlt_eq, h2, jlt_eq, shl0, jlt_eq, jlt_eq, shl0, hk, show Int32.ofNat (capa g) = nI (capa g) from rfl, nI_sub (by omega), show capa g + 1 - capa g = 1 by omega, f_J5_newLength, jlt_eq, show nI 1 = (1 : Int32) from rfl, mx, nI_add, show capa g + (capa g + 2) = capa (g + 1) by omega, if_neg (show ¬ nI (capa (g + 1)) ≤ 0 from fun z => by have := (nI_leI (b := 0) (by omega) (by omega)).mp z; omega), if_neg (show ¬ (2147483639 : Int32) < nI (capa (g + 1)) from fun z => by have := (nI_ltI (a := 2147483639) (by omega) (by omega)).mp z; omega), jcb_s2, if_neg (show ¬ nI (capa (g + 1)) = 2147483647 from fun z => by have := (nI_eq (b := 2147483647) (by omega) (by omega)).mp z; omega), jlt_eq, h2, sh0]
    rw [f_J1_ensureCapacityInternal, jlt_eq, h1, job_s2, jlt_eq, h2, jlt_eq, sh0, h6, show Int32.ofNat (capa g) = nI (capa g) from rfl, if_neg (fun z => by have := (sub_le0 (by omega) (by omega)).mp z; omega), jlt_eq, nw, jcb_s2, jlt_eq, h2, job_s2, shl0, ec, jcb_s2, jlt_eq]
  have sC : pSame (KBu w0) w (jsr (jcp (jnw (jbump w 70) 70 (jgn w 170 0) (capa (g + 1))) 70 b 0 70 (jgn w 170 0) 0 (capa g)) 16 m 0 (some (jgn w 170 0))) := (sB.trans (by rw [jcp_as]; exact jas_same fun k => Or.inr (Or.inl ⟨rfl, hw⟩))).trans (pSame.jsr (Or.inl rfl))
  have n170 : jgn (jsr (jcp (jnw (jbump w 70) 70 (jgn w 170 0) (capa (g + 1))) 70 b 0 70 (jgn w 170 0) 0 (capa g)) 16 m 0 (some (jgn w 170 0))) 170 0 = jgn w 170 0 + 1 := by
    show jgn (jnw (jbump w 70) 70 (jgn w 170 0) (capa (g + 1))) 170 0 = _
    rw [jgn_jnw, if_neg (by omega), jgn_bump, if_pos ⟨rfl, rfl⟩]
  have hS : pSB w0 (jsr (jcp (jnw (jbump w 70) 70 (jgn w 170 0) (capa (g + 1))) 70 b 0 70 (jgn w 170 0) 0 (capa g)) 16 m 0 (some (jgn w 170 0))) m k (g + 1) c := by
    refine ⟨jgn w 170 0, if_pos ⟨rfl, rfl, rfl⟩, ?_, ?_, hw, by omega, n71, by omega, fun i hi => ?_⟩
    · show jgi (jcp (jnw (jbump w 70) 70 (jgn w 170 0) (capa (g + 1))) 70 b 0 70 (jgn w 170 0) 0 (capa g)) 16 m 1 = 0
      rw [jcp_as, jas_ne (by omega), jgi_jnw, if_neg (by omega), jgi_bump]
      exact h2
    · show jgi (jcp (jnw (jbump w 70) 70 (jgn w 170 0) (capa (g + 1))) 70 b 0 70 (jgn w 170 0) 0 (capa g)) 16 m 3 = nI k
      rw [jcp_as, jas_ne (by omega), jgi_jnw, if_neg (by omega), jgi_bump]
      exact h3
    · show jgi (jcp (jnw (jbump w 70) 70 (jgn w 170 0) (capa (g + 1))) 70 b 0 70 (jgn w 170 0) 0 (capa g)) 70 (jgn w 170 0) i = nI (c i)
      rw [jcp_as, jas_get, cpy0_in (by omega)]
      exact (r70 i).trans (h8 i hi)
  obtain ⟨w', e, s, p, r⟩ := sb_put hS (by omega) (by omega) (hc k (Nat.le_refl _))
  refine ⟨w', ?_, sC.trans s, p, by omega⟩
  rw [f_J2_append, f_J1_append, jlt_eq, h3, nI_1, ee, jcb_s2, e, jcb_s2]
end BUILD
