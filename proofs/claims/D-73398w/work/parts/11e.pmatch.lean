/-! the pure law: numbers, kept ones, lines -/
/-- what an insertion does -/
theorem pIns_sh {l : Nat} {mv : Nat → Bool} : ∀ (i : Nat) (f : Nat → Nat), (pIns l mv i f).1 ≤ i ∧ (∀ j, j < (pIns l mv i f).1 → (pIns l mv i f).2 j = f j) ∧ (∀ j, (pIns l mv i f).1 < j → j ≤ i → (pIns l mv i f).2 j = f (j - 1)) ∧ (∀ j, i < j → (pIns l mv i f).2 j = f j) ∧ (∀ j, (pIns l mv i f).1 ≤ j → j < i → mv (f j) = true) ∧ ((pIns l mv i f).1 ≤ l ∨ mv (f ((pIns l mv i f).1 - 1)) = false) := by
  intro i
  induction i with
  | zero => intro f; exact ⟨Nat.le_refl _, fun j _ => rfl, fun j h1 h2 => by simp only [pIns] at h1; omega, fun j _ => rfl, fun j _ h => by omega, Or.inl (Nat.zero_le _)⟩
  | succ i ih =>
    intro f
    by_cases hl : i + 1 ≤ l
    · have e : pIns l mv (i + 1) f = (i + 1, f) := by simp only [pIns, hl, if_true]
      rw [e]
      exact ⟨Nat.le_refl _, fun j _ => rfl, fun j h1 h2 => by simp only [] at h1; omega, fun j _ => rfl, fun j h1 h => by simp only [] at h1; omega, Or.inl hl⟩
    · by_cases hm : mv (f i) = true
      · have e : pIns l mv (i + 1) f = pIns l mv i (up f (i + 1) (f i)) := by simp only [pIns, hl, hm, if_true, if_false]
        rw [e]
        obtain ⟨h1, h2, h3, h4, h5, h6⟩ := ih (up f (i + 1) (f i))
        generalize pIns l mv i (up f (i + 1) (f i)) = r at h1 h2 h3 h4 h5 h6
        refine ⟨by omega, fun j hj => ?_, fun j hj hi => ?_, fun j hj => ?_, fun j hj hi => ?_, ?_⟩
        · rw [h2 j hj, up_ne (by omega)]
        · by_cases ej : j = i + 1
          · subst ej
            rw [h4 _ (by omega), up_same]
            rfl
          · rw [h3 j hj (by omega), up_ne (by omega)]
        · rw [h4 j (by omega), up_ne (by omega)]
        · by_cases ej : j = i
          · subst ej; exact hm
          · have := h5 j hj (by omega)
            rw [up_ne (by omega)] at this
            exact this
        · rcases h6 with z | z
          · exact Or.inl z
          · rw [up_ne (by omega)] at z
            exact Or.inr z
      · have e : pIns l mv (i + 1) f = (i + 1, f) := by simp only [pIns, hl, hm, if_false, Bool.false_eq_true]
        rw [e]
        exact ⟨Nat.le_refl _, fun j _ => rfl, fun j h1 h2 => by simp only [] at h1; omega, fun j _ => rfl, fun j h1 h => by simp only [] at h1; omega, Or.inr (Bool.eq_false_iff.mpr hm)⟩
/-- all are put in order, one behind another -/
def pWh (l : Nat) (mv : Nat → Nat → Bool) : Nat → Nat → (Nat → Nat) → (Nat → Nat)
  | 0, _, f => f
  | k + 1, c, f => pWh l mv k (c + 1) (up (pIns l (mv c) c f).2 (pIns l (mv c) c f).1 c)
theorem pIns_lt {l : Nat} {mv : Nat → Bool} {c : Nat} {f : Nat → Nat} (h : ∀ j, j < c → f j < c) : ∀ j, j < c + 1 → up (pIns l mv c f).2 (pIns l mv c f).1 c j < c + 1 := fun j hj => by
  obtain ⟨h1, h2, h3, h4, -, -⟩ := pIns_sh (l := l) (mv := mv) c f
  generalize pIns l mv c f = r at h1 h2 h3 h4
  by_cases e : j = r.1
  · rw [e, up_same]; omega
  · rw [up_ne e]
    rcases Nat.lt_or_ge j r.1 with z | z
    · rw [h2 j z]
      have := h j (by omega)
      omega
    · rw [h3 j (by omega) (by omega)]
      have := h (j - 1) (by omega)
      omega
section PF
variable {w : j_St} {S : pS} {N : pN} {M : pM} {a : Nat → Int32} {n : Nat} {z : Int32}
theorem sp_finds_L6 (h : pMn w a n z) (hc : S.2.2.2.2.2 ≤ 48) (hp : ∀ c, c < S.2.2.2.2.2 → S.1 c < n) {kk : j_St → Option (Unit × j_St)} : ∀ (k f c : Nat) (wh : Nat → Nat), c + k = S.2.2.2.2.2 → (∀ j, j < c → wh j < c) → k < f → f_X9_finds_L6 kk f (nI c) (mkA w S (wh, N.2.1, N.2.2) M) = kk (mkA w S (pWh 1 (pMv a S) k c wh, N.2.1, N.2.2) M) := by
  intro k
  induction k with
  | zero =>
    intro f c wh he hw hf
    obtain ⟨f, rfl⟩ : ∃ f', f = f' + 1 := ⟨f - 1, by omega⟩
    have e : c = S.2.2.2.2.2 := by omega
    rw [f_X9_finds_L6, jlt_eq, mkA_c, if_pos ((nI_leI (by omega) (by omega)).mpr (by omega))]
    rfl
  | succ k ih =>
    intro f c wh he hw hf
    obtain ⟨f, rfl⟩ : ∃ f', f = f' + 1 := ⟨f - 1, by omega⟩
    obtain ⟨i1, -⟩ := pIns_sh (l := 1) (mv := pMv a S c) c wh
    rw [f_X9_finds_L6, jlt_eq, mkA_c, if_neg (fun z => absurd ((nI_leI (by omega) (by omega)).mp z) (by omega)), sp_finds_L16 (N := N) h (by omega) (hp c (by omega)) (fun _ _ => Or.inr (Or.inr trivial)) c jFU wh (by omega) (fun j hj => ⟨by have := hw j hj; omega, hp _ (by have := hw j hj; omega)⟩) (jFU_gt (by omega)), jbd_nI (by omega) (by decide), jlt_eq, mkA_s57, jlt_eq, nI_1]
    exact ih f (c + 1) _ (by omega) (pIns_lt hw) (by omega)
/-- a kept one -/
def pKt (a : Nat → Int32) (S : pS) (z : Int32) (wh : Nat → Nat) (k : Nat) : Bool := decide (k = 0) || !decide (pLf a S (wh k) ≤ z)
def pNu (wh : Nat → Nat) : Nat → Nat → (Nat → Nat) → (Nat → Nat)
  | 0, _, nu => nu
  | c + 1, k, nu => pNu wh c (k + 1) (up nu (wh k) k)
def pKp (kt : Nat → Bool) : Nat → Nat → Nat → Nat
  | 0, _, s => s
  | c + 1, k, s => pKp kt c (k + 1) (s + if kt k = true then 1 else 0)
theorem sp_finds_L123 (h : pMn w a n z) (hc : S.2.2.2.2.2 ≤ 48) (hp : ∀ c, c < S.2.2.2.2.2 → S.1 c < n) (hw : ∀ j, j < S.2.2.2.2.2 → N.1 j < S.2.2.2.2.2) {kk : j_St → Option (Unit × j_St)} : ∀ (c f k : Nat) (nu : Nat → Nat) (kp : Nat), k + c = S.2.2.2.2.2 → c < f → f_X9_finds_L123 kk f (nI k) (mkA w S (N.1, nu, kp) M) = kk (mkA w S (N.1, pNu N.1 c k nu, pKp (pKt a S z N.1) c k kp) M) := by
  intro c
  induction c with
  | zero =>
    intro f k nu kp he hf
    obtain ⟨f, rfl⟩ : ∃ f', f = f' + 1 := ⟨f - 1, by omega⟩
    rw [f_X9_finds_L123, jlt_eq, mkA_c, if_pos ((nI_leI (by omega) (by omega)).mpr (by omega))]
    rfl
  | succ c ih =>
    intro f k nu kp he hf
    obtain ⟨f, rfl⟩ : ∃ f', f = f' + 1 := ⟨f - 1, by omega⟩
    have hwk := hw k (by omega)
    have s1 : jsi (mkA w S (N.1, nu, kp) M) 58 0 (N.1 k) (nI k) = mkA w S (N.1, up nu (N.1 k) k, kp) M := mkA_s58
    have nx0 := ih f (k + 1) (up nu (N.1 k) k) (kp + 0) (by omega) (by omega)
    have nx1 := ih f (k + 1) (up nu (N.1 k) k) (kp + 1) (by omega) (by omega)
    have s2 : ∀ v, jsi (mkA w S (N.1, up nu (N.1 k) k, kp) M) 1 0 38 (nI v) = mkA w S (N.1, up nu (N.1 k) k, v) M := fun v => mkA_sk
    have l1 := sp_lifeOf (S := S) (N := (N.1, up nu (N.1 k) k, kp)) (M := M) h (show N.1 k < 48 by omega) (hp _ hwk)
    have z0 : nI kp + 0 = nI (kp + 0) := nI_add kp 0
    have z1 : nI kp + 1 = nI (kp + 1) := nI_1 kp
    have zz : (49 : Nat) < 231 := by decide
    rw [f_X9_finds_L123, jlt_eq, mkA_c, if_neg (fun z => absurd ((nI_leI (by omega) (by omega)).mp z) (by omega))]
    simp (disch := omega) only [jbd_nI, ↓jlt_eq, mkA_57, s1, mkA_k, l1, jcb_some', jbd_k49, mkA_47, h.2.1]
    by_cases hk : k = 0
    · subst hk
      simp only [show nI 0 = 0 from rfl, if_true, z1, s2]
      rw [show (0 : Int32) + 1 = nI (0 + 1) from rfl, nx1]
      simp [pNu, pKp, pKt]
    · have hk' : ¬ nI k = 0 := nI_ne0 (by omega) (by omega)
      by_cases hz : pLf a S (N.1 k) ≤ z
      · simp only [hk', if_false, hz, if_true, z0, s2, nI_1]
        rw [nx0]
        simp [pNu, pKp, pKt, hk, hz]
      · simp only [hk', if_false, hz, z1, s2, nI_1]
        rw [nx1]
        simp [pNu, pKp, pKt, hk, hz]
end PF
