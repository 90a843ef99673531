/-! the pure law: the model's finds -/
theorem pWh_lt {l : Nat} {mv : Nat → Nat → Bool} : ∀ (k c : Nat) (f : Nat → Nat), (∀ j, j < c → f j < c) → ∀ j, j < c + k → pWh l mv k c f j < c + k := by
  intro k
  induction k with
  | zero => intro c f h; exact h
  | succ k ih =>
    intro c f h j hj
    have := ih (c + 1) _ (pIns_lt (l := l) (mv := mv c) h) j (by omega)
    show pWh l mv k (c + 1) _ j < _
    omega
theorem pKp_le {kt : Nat → Bool} : ∀ (c k s : Nat), pKp kt c k s ≤ s + c := by
  intro c
  induction c with
  | zero => intro k s; exact Nat.le_refl _
  | succ c ih =>
    intro k s
    have := ih (k + 1) (s + if kt k = true then 1 else 0)
    show pKp kt c (k + 1) _ ≤ _
    have h2 : (if kt k = true then 1 else 0) ≤ 1 := by split <;> omega
    omega
section PH
variable {w : j_St} {S : pS} {N : pN} {M : pM} {a : Nat → Int32} {n : Nat} {z : Int32} {lp : Nat → Int32} {ln : Nat} {rc : Int32} {o : Nat → Nat}
def pFn (a : Nat → Int32) (z : Int32) (S : pS) (N : pN) : pN := (pWh 1 (pMv a S) S.2.2.2.2.2 0 N.1, pNu (pWh 1 (pMv a S) S.2.2.2.2.2 0 N.1) S.2.2.2.2.2 0 N.2.1, pKp (pKt a S z (pWh 1 (pMv a S) S.2.2.2.2.2 0 N.1)) S.2.2.2.2.2 0 0)
theorem pLet_ok (hn : n ≤ 48) (ho : pOrd a n o) (hS : ∀ q, pSm (S.2.2.2.2.1 q)) : pI0 n (pLet a n o S) ∧ ∀ d, d < (pLet a n o S).2.2.2.2.2 → (pLet a n o S).1 d < n := by
  obtain ⟨h1, h2⟩ := pLets_pl (a := a) ho n 0 (S.1, S.2.1, S.2.2.1, S.2.2.2.1, pBe0 n S.2.2.2.2.1, 0) (by omega) hn ⟨fun q => by
    show pSm (if q < n then none else _)
    split
    · exact pSm_none
    · exact hS q, Nat.le_refl _⟩ (fun c hc => by
      have hc : c < 0 := hc
      omega)
  exact ⟨h1, h2⟩
theorem sp_finds (h : pMn w a n z) (hL : pLn w lp ln rc) (h0 : 0 < n) (ho : pOrd a n o) (hS : ∀ q, pSm (S.2.2.2.2.1 q)) (ht : ∀ q, pSm (M.2.1 q)) :
    f_X9_finds (mkA w S N M) = some ((), mkA w (pLet a n o S) (pFn a z (pLet a n o S) N) (pMa lp ln rc 0 (pLet a n o S) (pFn a z (pLet a n o S) N) M)) := by
  have hn := h.2.2.2
  obtain ⟨⟨h1, h2⟩, h3⟩ := pLet_ok hn ho hS
  have hl : f_X9_lets (mkA w S N M) = some ((), mkA w (pLet a n o S) N M) := sp_lets (w := mk2 (mk3 w M.1 M.2.1 M.2.2) N.1 N.2.1 N.2.2) h h0 ho hS
  rw [f_X9_finds, hl, jcb_some']
  generalize pLet a n o S = T at h1 h2 h3
  have e6 := sp_finds_L6 (w := w) (S := T) (N := N) (M := M) h (by omega) h3 (kk := fun w50 => jlt (jsi w50 1 0 38 0) fun w51 => f_X9_finds_L123 (fun (w76 : j_St) => jcb (f_X9_matches 0 w76) fun _ w78 => some ((), w78)) jFU 0 w51) T.2.2.2.2.2 jFU 0 N.1 (by omega) (fun j hj => by omega) (jFU_gt (by omega))
  refine e6.trans ?_
  have hw : ∀ j, j < T.2.2.2.2.2 → pWh 1 (pMv a T) T.2.2.2.2.2 0 N.1 j < T.2.2.2.2.2 := fun j hj => by
    have := pWh_lt (l := 1) (mv := pMv a T) T.2.2.2.2.2 0 N.1 (fun j hj => by omega) j (by omega)
    omega
  have s1 : jsi (mkA w T (pWh 1 (pMv a T) T.2.2.2.2.2 0 N.1, N.2.1, N.2.2) M) 1 0 38 0 = mkA w T (pWh 1 (pMv a T) T.2.2.2.2.2 0 N.1, N.2.1, 0) M := mkA_sk (v := 0)
  have hkp : pKp (pKt a T z (pWh 1 (pMv a T) T.2.2.2.2.2 0 N.1)) T.2.2.2.2.2 0 0 ≤ 48 := by
    have := pKp_le (kt := pKt a T z (pWh 1 (pMv a T) T.2.2.2.2.2 0 N.1)) T.2.2.2.2.2 0 0
    omega
  rw [jlt_eq, s1]
  have e9 := sp_finds_L123 (w := w) (S := T) (N := (pWh 1 (pMv a T) T.2.2.2.2.2 0 N.1, N.2.1, 0)) (M := M) h (by omega) h3 hw (kk := fun (w76 : j_St) => jcb (f_X9_matches 0 w76) fun _ w78 => some ((), w78)) T.2.2.2.2.2 jFU 0 N.2.1 0 (by omega) (jFU_gt (by omega))
  refine e9.trans ?_
  have em := sp_matches (w := w) (S := T) (N := pFn a z T N) (M := M) (by_ := 0) hL (by omega) (fun j hj => by have := hw j hj; show pWh 1 (pMv a T) T.2.2.2.2.2 0 N.1 j < 48; omega) hkp ht
  show jcb (f_X9_matches 0 (mkA w T (pFn a z T N) M)) _ = _
  rw [em]
  rfl
end PH
