/-! the pure law: what would be; scripts are looked at -/
section WOULD
variable {w w' : j_St} {A : pA} {X : pX} {s : Nat → Nat} {n z : Nat}
theorem jcp_as {κ i a κ' i' b n : Nat} : jcp w κ i a κ' i' b n = jas w κ' i' (va_cpy (w.1 κ i) (w.1 κ' i') a b n) := id rfl
theorem cpy0_in {f g : Nat → Int32} {n j : Nat} (h : j < n) : va_cpy f g 0 0 n j = f j := by
  rw [pk_cpy_in (Nat.zero_le _) (by omega)]
  congr 1
  omega
theorem toI0 : (0 : Int32).toInt = 0 := by decide
/-- samples are copied -/
def KC (i κ j k : Nat) : Prop := (κ = 32 ∧ j = i) ∨ (κ = 4 ∧ j = i ∧ k = 1)
theorem c_becomes7 {i j : Nat} (h : pCn w j (sI s) n) (hij : i ≠ j) : ∃ w', f_X7_becomes i j w = some ((), w') ∧ pSame (KC i) w w' ∧ pCn w' i (sI s) n := by
  obtain ⟨h1, h2, h3⟩ := h
  have hc : 0 ≤ (0 : Int32).toInt ∧ 0 ≤ (0 : Int32).toInt ∧ 0 ≤ (nI n).toInt ∧ (0 : Int32).toInt + (nI n).toInt ≤ (48 : Int) ∧ (0 : Int32).toInt + (nI n).toInt ≤ (48 : Int) := by
    rw [toI0, nI_toInt (by omega)]
    omega
  refine ⟨jsi (jas w 32 i (va_cpy (w.1 32 j) (w.1 32 i) 0 0 n)) 4 i 1 (nI n), ?_, (jas_same fun k => Or.inl ⟨rfl, rfl⟩).trans (pSame.jsi (Or.inr ⟨rfl, rfl, rfl⟩)), jgi_eq, fun k hk => ?_, h3⟩
  · rw [f_X7_becomes, jlt_eq, h1, if_pos hc, jlt_eq, jlt_eq, jcp_as, toI0, nI_toInt (by omega)]
    rw [show jgi (jas w 32 i (va_cpy (w.1 32 j) (w.1 32 i) (0 : Int).toNat (0 : Int).toNat (n : Int).toNat)) 4 j 1 = nI n by rw [jas_ne (by omega)]; exact h1, jlt_eq]
    rfl
  · rw [jgi_ne (by omega), jas_get, cpy0_in hk]
    exact h2 k hk
def KE (i κ j k : Nat) : Prop := ((κ = 32 ∨ κ = 4) ∧ j = 2 * i + 1) ∨ (κ = 5 ∧ j = i ∧ k = 2)
theorem c_sees {i j : Nat} (h : pCn w (2 * j + 1) (sI s) n) (hz : jgi w 5 j 2 = nI z) (hij : i ≠ j) : ∃ w', f_X8_sees i j w = some ((), w') ∧ pSame (KE i) w w' ∧ pCn w' (2 * i + 1) (sI s) n ∧ jgi w' 5 i 2 = nI z := by
  obtain ⟨w1, e1, g1, n1⟩ := c_becomes7 (i := 2 * i + 1) h (by omega)
  have z1 : jgi w1 5 j 2 = nI z := by rw [g1.1 _ _ _ (by unfold KC; omega)]; exact hz
  refine ⟨jsi w1 5 i 2 (nI z), ?_, (g1.mono fun κ j k y => ?_).trans (pSame.jsi (Or.inr ⟨rfl, rfl, rfl⟩)), ?_, jgi_eq⟩
  · rw [f_X8_sees, e1, jcb_s2, jlt_eq, z1, jlt_eq]
  · unfold KC at y
    unfold KE
    omega
  · exact n1.same (pSame.jsi (K := fun κ _ _ => κ = 5) rfl) (fun k => ⟨by omega, by omega⟩)
theorem cOK_E2 (hC : RelC A w) {K : Nat → Nat → Nat → Prop} (g : pSame K w w') (hK : ∀ κ i k, K κ i k → ((κ = 4 ∨ κ = 32) ∧ (i = 0 ∨ i = 5 ∨ i = 7)) ∨ ((κ = 5 ∨ κ = 33) ∧ (i = 2 ∨ i = 3))) : cOK w w' := by
  refine cOK_of g (fun κ i k z => ?_) (hC.2.2.2.2.2.2.2.1.same g fun κ i k a _ b => ?_) (hC.2.2.2.2.2.2.2.2.1.same g fun κ i k a _ b => ?_)
  · have := hK _ _ _ z
    unfold KS
    omega
  · have := hK _ _ _ b
    unfold KP at a
    omega
  · have := hK _ _ _ b
    unfold KP at a
    omega
/-- what is set on trial -/
theorem c_try (hC : RelC A w) (hA : wfA A) (hX : aX A = some X) : ∃ w', f_X8_sees 2 0 w = some ((), w') ∧ cOK w w' ∧ pCn w' 5 (sI (aT A).1) (aT A).2.1 ∧ jgi w' 5 2 2 = nI (aT A).2.2.1 := by
  obtain ⟨r1, r2, -, -⟩ := hC.now hX
  obtain ⟨w1, e1, g1, n1, z1⟩ := c_sees (i := 2) r1 r2 (by decide)
  exact ⟨w1, e1, cOK_E2 hC g1 (fun κ i k y => by unfold KE at y; omega), n1, z1⟩
theorem sI_up {p v : Nat} {f : Nat → Int32} {m : Nat} (h : ∀ k, k < m → f k = sI s k) : ∀ k, k < m → up f p (nI v) k = sI (up s p v) k := fun k hk => by
  unfold sI up
  by_cases e : k = p
  · rw [if_pos e, if_pos e]
  · rw [if_neg e, if_neg e]
    exact h k hk
theorem up_le {p v : Nat} (hs : ∀ k, k < n → s k ≤ 999) (hv : v ≤ 999) : ∀ k, k < n → up s p v k ≤ 999 := fun k hk => by
  unfold up
  split
  · exact hv
  · exact hs k hk
theorem pCn_set {i1 p v : Nat} (h : pCn w i1 (sI s) n) : pCn (jsi w 32 i1 p (nI v)) i1 (sI (up s p v)) n := by
  obtain ⟨h1, h2, h3⟩ := h
  refine ⟨by rw [jgi_ne (by omega)]; exact h1, fun k hk => ?_, h3⟩
  unfold sI up
  by_cases e : k = p
  · rw [e, if_pos rfl, jgi_eq]
  · rw [if_neg e, jgi_ne (by omega)]
    exact h2 k hk
/-- sets, on a trial: done -/
theorem c_sets2 (hC : RelC A w) (hn : pCn w 5 (sI s) n) {p v : Nat} (hp : p < n) (hv : v < 1000) : ∃ w', f_X8_sets 2 (nI p) (nI v) w = some (-1, w') ∧ cOK w w' ∧ pCn w' 5 (sI (up s p v)) n ∧ jgi w' 5 2 2 = jgi w 5 2 2 := by
  have h48 := hn.2.2
  have g : pSame (fun κ i k => (κ = 32 ∧ i = 5) ∨ (κ = 5 ∧ i = 2 ∧ k = 4)) w (jsi (jsi w 32 5 p (nI v)) 5 2 4 (jgi w 32 5 p)) := (pSame.jsi (Or.inl ⟨rfl, rfl⟩)).trans (pSame.jsi (Or.inr ⟨rfl, rfl, rfl⟩))
  refine ⟨_, ?_, cOK_E2 hC g (fun κ i k y => by omega), (pCn_set hn).same (pSame.jsi (K := fun κ _ _ => κ = 5) rfl) (fun k => ⟨by omega, by omega⟩), g.1 _ _ _ (by omega)⟩
  rw [f_X8_sets, c_isPlace_T (i0 := 2) hn ⟨p, hp, rfl⟩, jcb_s2, if_neg n10, cIn_T (n := 1000) ⟨v, hv, rfl⟩ (by decide) rfl (by decide), jcb_s2, if_neg n10, jbd_nI (by omega) (by decide), jlt_eq, jbd_nI (by omega) (by decide), jlt_eq, f_X8_done, jlt_eq, jcb_s2]
theorem c_sets2_F (hn : pCn w 5 (sI s) n) {x y : Int32} (h : ¬ (qAt x n ∧ qAt y 1000)) : ∃ r, r ≠ -1 ∧ f_X8_sets 2 x y w = some (r, w) := by
  by_cases hx : qAt x n
  · have hy : ¬ qAt y 1000 := fun z => h ⟨hx, z⟩
    exact ⟨1, by decide, by rw [f_X8_sets, c_isPlace_T (i0 := 2) hn hx, jcb_s2, if_neg n10, cIn_F hy (by decide) rfl (by decide), jcb_s2, if_pos rfl]⟩
  · exact ⟨0, by decide, by rw [f_X8_sets, c_isPlace_F (i0 := 2) hn hx, jcb_s2, if_pos rfl]⟩
def KM47 (κ i k : Nat) : Prop := KMQ κ i k ∨ κ = 47
/-- the model's row, as it was -/
theorem RelM.same47 (h : RelM A w) (g : pSame KM47 w w') (r47 : ∀ k, jgi w' 47 0 k = jgi w 47 0 k) (p0 : WfA w') : RelM A w' := by
  obtain ⟨h1, h2, h3, h4, h5, h6, h7⟩ := h
  have r45 : ∀ k, jgi w' 45 0 k = jgi w 45 0 k := fun k => g.1 _ _ _ (by unfold KM47 KMQ KA; omega)
  have r46 : ∀ k, jgi w' 46 0 k = jgi w 46 0 k := fun k => g.1 _ _ _ (by unfold KM47 KMQ KA; omega)
  have r50 : ∀ k, jgi w' 50 0 k = jgi w 50 0 k := fun k => g.1 _ _ _ (by unfold KM47 KMQ KA; omega)
  have r51 : ∀ k, jgl w' 51 0 k = jgl w 51 0 k := fun k => g.2.1 _ _ _ (by unfold KM47 KMQ KA; omega)
  refine ⟨⟨?_, fun k hk => ?_⟩, ⟨?_, fun j hj => ?_⟩, ?_, ⟨?_, fun e => ?_⟩, ⟨?_, fun j hj => ?_⟩, ⟨?_, ?_⟩, p0⟩
  · rw [g.1 _ _ _ (by unfold KM47 KMQ KA; omega)]; exact h1.1
  · rw [g.1 _ _ _ (by unfold KM47 KMQ KA; omega)]; exact h1.2 k hk
  · rw [g.1 _ _ _ (by unfold KM47 KMQ KA; omega)]; exact h2.1
  · obtain ⟨a1, a2⟩ := h2.2 j hj
    exact ⟨by rw [r46]; exact a1, fun i hi => by rw [r45]; exact a2 i hi⟩
  · unfold mTrc at h3 ⊢
    cases e : aX A with
    | none =>
      rw [e] at h3
      simp only [] at h3 ⊢
      rw [g.1 1 _ _ (by unfold KM47 KMQ KA; omega), r47, r47]; exact h3
    | some X =>
      rw [e] at h3
      obtain ⟨a1, a2, a3, a4⟩ := h3
      refine ⟨?_, a2.same g (fun k => by unfold KM47 KMQ KA; omega) ⟨by unfold KM47 KMQ KA; omega, by unfold KM47 KMQ KA; omega⟩, fun l hl => by rw [r50, r51]; exact a3 l hl, ?_⟩
      · rw [g.1 1 _ _ (by unfold KM47 KMQ KA; omega)]; exact a1
      · obtain ⟨b1, b2, b3, b4, b5⟩ := a4
        exact ⟨by rw [r47]; exact b1, by rw [r47]; exact b2, by rw [r47]; exact b3, fun k hk => by rw [r47]; exact b4 k hk, fun k hk => by rw [r47]; exact b5 k hk⟩
  · rw [g.1 _ _ _ (by unfold KM47 KMQ KA; omega)]; exact h4.1
  · exact (h4.2 e).same g (fun k => by unfold KM47 KMQ KA; omega)
  · rw [g.1 _ _ _ (by unfold KM47 KMQ KA; omega)]; exact h5.1
  · exact (h5.2 j hj).same g (fun k => by unfold KM47 KMQ KA; omega)
  · rw [g.1 _ _ _ (by unfold KM47 KMQ KA; omega)]; exact h6.1
  · rw [g.1 _ _ _ (by unfold KM47 KMQ KA; omega)]; exact h6.2
theorem KM47.xm {κ i k : Nat} (h : KM47 κ i k) : KXM κ i k := by
  unfold KM47 KMQ KA at h
  unfold KXM
  omega
/-- what would be, as the model has it: of one that is there -/
def cWo (T : pT) (p v j : Nat) : Int32 := if j = 0 then nI (cK (up T.1 p v) T.2.1 T.2.2.1) else if j = 1 then nI (cP (up T.1 p v) T.2.1 0) else nI (cM (up T.1 p v) T.2.1)
theorem pMn_set {p v : Nat} {zz : Int32} (h : pMn w (sI s) n zz) (hp : p < n) : pMn (jsi w 47 0 p (nI v)) (sI (up s p v)) n zz := by
  obtain ⟨h1, h2, h3, h4⟩ := h
  refine ⟨by rw [jgi_ne (by omega)]; exact h1, by rw [jgi_ne (by omega)]; exact h2, fun k hk => ?_, h4⟩
  unfold sI up
  by_cases e : k = p
  · rw [e, if_pos rfl, jgi_eq]
  · rw [if_neg e, jgi_ne (by omega)]
    exact h3 k hk
theorem m_why7 (hM : RelM A w) (hA : wfA A) (hX : aX A = some X) {x y : Int32} : (qAt x (aT A).2.1 ∧ qAt y 1000 → f_X9_whyNot 7 x y w = some (-1, w)) ∧ (¬ (qAt x (aT A).2.1 ∧ qAt y 1000) → ∃ r, r ≠ -1 ∧ f_X9_whyNot 7 x y w = some (r, w)) := by
  have hn := hM.mn hA hX
  have h1 := (hM.xt hX).1
  constructor
  · intro ⟨hx, hy⟩
    rw [f_X9_whyNot, jlt_eq, h1, if_neg n10, if_neg (by decide), if_neg (by decide), if_neg (by decide), if_pos rfl, m_isPlace_T h1 hn hx, jcb_s2, if_neg n10, mIn_T hy (by decide) (by decide), jcb_s2, if_neg n10]
  · intro h
    by_cases hx : qAt x (aT A).2.1
    · have hy : ¬ qAt y 1000 := fun z => h ⟨hx, z⟩
      exact ⟨1, by decide, by rw [f_X9_whyNot, jlt_eq, h1, if_neg n10, if_neg (by decide), if_neg (by decide), if_neg (by decide), if_pos rfl, m_isPlace_T h1 hn hx, jcb_s2, if_neg n10, mIn_F hy (by decide) (by decide), jcb_s2, if_pos rfl]⟩
    · exact ⟨0, by decide, by rw [f_X9_whyNot, jlt_eq, h1, if_neg n10, if_neg (by decide), if_neg (by decide), if_neg (by decide), if_pos rfl, m_isPlace_F h1 hn hx, jcb_s2, if_pos rfl]⟩
theorem m_would (hM : RelM A w) (hA : wfA A) (hX : aX A = some X) {p v j : Nat} (hp : p < (aT A).2.1) (hv : v < 1000) (hj : j < 3) : ∃ w', f_X9_would (nI p) (nI v) (nI j) w = some (cWo (aT A) p v j, w') ∧ RelM A w' ∧ pSame KXM w w' := by
  obtain ⟨hwX, t1, t2, t3, t4, t5⟩ := hA.x hX
  have hn := hM.mn hA hX
  have hq := (hM.xt hX)
  have e0 := (m_why7 (x := nI p) (y := nI v) hM hA hX).1 ⟨⟨p, hp, rfl⟩, ⟨v, hv, rfl⟩⟩
  have g1 : pSame KM47 w (jsi w 47 0 p (nI v)) := pSame.jsi (Or.inr rfl)
  have hn1 := pMn_set (v := v) hn hp
  have hL1 : pLn (jsi w 47 0 p (nI v)) (sI X.1) X.2.1 (nI X.2.2.1) := hq.2.1.same (pSame.jsi (K := fun κ _ _ => κ = 47) rfl) (fun k => by omega) ⟨by omega, by omega⟩
  have hW1 : WfA (jsi w 47 0 p (nI v)) := hM.2.2.2.2.2.2.same (pSame.jsi (K := fun κ _ _ => κ = 47) rfl) (fun κ i k a b => by unfold KA at a; omega)
  obtain ⟨w2, e2, g2, p2, l2, a2⟩ := sp_findsN hn1 hL1 t1 (up_le t3 (by omega)) t4 hW1
  have hn2 : pMn w2 (sI (up (aT A).1 p v)) (aT A).2.1 (nI (aT A).2.2.1) := hn1.same g2 (fun k => by unfold KA; omega)
  have r47 : ∀ k, jgi w2 47 0 k = jgi (jsi w 47 0 p (nI v)) 47 0 k := fun k => g2.1 _ _ _ (by unfold KA; omega)
  have fin : ∀ k, jgi (jsi w2 47 0 p (jgi w 47 0 p)) 47 0 k = jgi w 47 0 k := fun k => by
    by_cases e : k = p
    · rw [e, jgi_eq]
    · rw [jgi_ne (by omega), r47, jgi_ne (by omega)]
  have g3 : pSame KM47 w (jsi w2 47 0 p (jgi w 47 0 p)) := (g1.trans (g2.mono fun κ i k y => Or.inl (Or.inl y))).trans (pSame.jsi (Or.inr rfl))
  have a3 : WfA (jsi w2 47 0 p (jgi w 47 0 p)) := a2.same (pSame.jsi (K := fun κ _ _ => κ = 47) rfl) (fun κ i k a b => by unfold KA at a; omega)
  refine ⟨_, ?_, hM.same47 g3 fin a3, g3.mono fun κ i k y => y.xm⟩
  have fi : ∀ r : Int32, ∀ w3, w3 = w2 → (jbd (nI p) 231 fun a22 => jlt (jsi w3 47 0 a22 (jgi w 47 0 p)) fun w21 => some (r, w21)) = some (r, jsi w2 47 0 p (jgi w 47 0 p)) := fun r w3 e => by
    rw [e, jbd_nI (by omega) (by decide), jlt_eq]
  rw [f_X9_would, e0, jcb_s2, if_pos rfl, mIn_T (n := 3) ⟨j, hj, rfl⟩ (by decide) (by decide), jcb_s2, if_neg n10, f_X9_sets, jbd_nI (by omega) (by decide), jlt_eq, jbd_nI (by omega) (by decide), jlt_eq, jcb_s2, e2, jcb_s2, jlt_eq]
  have h0 := cM_pos (s := up (aT A).1 p v) t1
  rcases (show j = 0 ∨ j = 1 ∨ j = 2 by omega) with rfl | rfl | rfl
  · rw [if_pos (by decide), jlt_eq, p2.2.1]
    exact fi _ _ rfl
  · rw [if_neg (by decide), if_pos (by decide), show (0 : Int32) = nI 0 from rfl, mq_placeOf hn2 p2 t1 h0, jcb_s2]
    exact fi _ _ rfl
  · rw [if_neg (by decide), if_neg (by decide), jlt_eq, p2.1]
    exact fi _ _ rfl
/-- would -/
theorem q_would (hA : wfA A) (x y u : Int32) : pQry A (f_X1_would x y u) (f_X9_would x y u) := by
  cases hX : aX A with
  | none =>
    refine pQry_of (r := -1) (fun w hC => ⟨w, ?_, hC.self⟩) (fun w hM => ⟨w, ?_, hM.self⟩)
    · rw [f_X1_would, jlt_eq, hC.x0 hX, jcs_n2]
    · rw [f_X9_would, f_X9_whyNot, jlt_eq, (hM.x0 hX).1, if_pos rfl, jcb_s2, if_neg (by decide)]
  | some X =>
    obtain ⟨hwX, t1, t2, t3, t4, t5⟩ := hA.x hX
    by_cases hu : qAt u 3
    · by_cases h : qAt x (aT A).2.1 ∧ qAt y 1000
      · obtain ⟨⟨p, hp, rfl⟩, ⟨v, hv, rfl⟩⟩ := h
        have hu' := hu
        obtain ⟨j, hj, rfl⟩ := hu
        refine pQry_of2 (r := cWo (aT A) p v j) (fun w hC => ?_) (fun w hM => m_would hM hA hX hp hv hj)
        obtain ⟨t, ht, -⟩ := hC.xt hX
        obtain ⟨w1, e1, o1, n1, z1⟩ := c_try hC hA hX
        obtain ⟨w2, e2, o2, n2, z2⟩ := c_sets2 (hC.ok o1) n1 hp hv
        obtain ⟨w3, e3, o3, g3, p3⟩ := c_of (Or.inl rfl) ((hC.ok o1).ok o2) n2 t1 (up_le t3 (by omega)) t4
        refine ⟨w3, ?_, (o1.trans o2).trans o3⟩
        have h0 := cM_pos (s := up (aT A).1 p v) t1
        have h48 := cM_le (s := up (aT A).1 p v) t1
        rw [f_X1_would, jlt_eq, ht, jcs_s2, cIn_T hu' (by decide) rfl (by decide), jcb_s2, if_neg n10, e1, jcb_s2, e2, jcb_s2, if_pos rfl, jlt_eq, z2, z1, e3, jcb_s2]
        rcases (show j = 0 ∨ j = 1 ∨ j = 2 by omega) with rfl | rfl | rfl
        · rw [if_pos (by decide), jlt_eq, p3.2.2.1]; rfl
        · rw [if_neg (by decide), if_pos (by decide), jbd_k0 (by decide) (by decide), jlt_eq, cq_row p3 h0, job_s2, jlt_eq, cq_0 p3 t1 h0]; rfl
        · rw [if_neg (by decide), if_neg (by decide), jlt_eq, p3.2.1]; rfl
      · refine pQry_of (r := -1) (fun w hC => ?_) (fun w hM => ⟨w, ?_, hM.self⟩)
        · obtain ⟨t, ht, -⟩ := hC.xt hX
          obtain ⟨w1, e1, o1, n1, z1⟩ := c_try hC hA hX
          obtain ⟨r, hr, e2⟩ := c_sets2_F n1 h
          exact ⟨w1, by rw [f_X1_would, jlt_eq, ht, jcs_s2, cIn_T hu (by decide) rfl (by decide), jcb_s2, if_neg n10, e1, jcb_s2, e2, jcb_s2, if_neg hr], o1⟩
        · obtain ⟨r, hr, e2⟩ := (m_why7 (x := x) (y := y) hM hA hX).2 h
          rw [f_X9_would, e2, jcb_s2, if_neg hr]
    · refine pQry_of (r := -1) (fun w hC => ⟨w, ?_, hC.self⟩) (fun w hM => ⟨w, ?_, hM.self⟩)
      · obtain ⟨t, ht, -⟩ := hC.xt hX
        rw [f_X1_would, jlt_eq, ht, jcs_s2, cIn_F hu (by decide) rfl (by decide), jcb_s2, if_pos rfl]
      · by_cases h : qAt x (aT A).2.1 ∧ qAt y 1000
        · have e2 := (m_why7 (x := x) (y := y) hM hA hX).1 h
          rw [f_X9_would, e2, jcb_s2, if_pos rfl, mIn_F hu (by decide) (by decide), jcb_s2, if_pos rfl]
        · obtain ⟨r, hr, e2⟩ := (m_why7 (x := x) (y := y) hM hA hX).2 h
          rw [f_X9_would, e2, jcb_s2, if_neg hr]
/-- the last place to come is no peak -/
theorem pLets_last {a : Nat → Int32} {o : Nat → Nat} : ∀ (c m : Nat) (S : pS), pLets a n o (c + 1) m S = pLS a n (o (m + c)) (pLets a n o c m S) := by
  intro c
  induction c with
  | zero => intro m S; rfl
  | succ c ih =>
    intro m S
    show pLets a n o (c + 1) (m + 1) (pLS a n (o m) S) = pLS a n (o (m + (c + 1))) (pLets a n o c (m + 1) (pLS a n (o m) S))
    rw [ih, show m + 1 + c = m + (c + 1) by omega]
theorem pLS_cm {a : Nat → Int32} {p : Nat} {S : pS} (h : ¬ ((if 0 < p then S.2.2.2.2.1 (p - 1) else none) = none ∧ (if p + 1 < n then S.2.2.2.2.1 (p + 1) else none) = none)) : (pLS a n p S).2.2.2.2.2 = S.2.2.2.2.2 := by
  obtain ⟨pl, va, de, pa, be, cm⟩ := S
  simp only [] at h
  unfold pLS
  simp only []
  generalize (if 0 < p then be (p - 1) else none) = x at h
  generalize (if p + 1 < n then be (p + 1) else none) = y at h
  cases x with
  | none =>
    cases y with
    | none => exact absurd ⟨rfl, rfl⟩ h
    | some y => rfl
  | some x =>
    cases y with
    | none => rfl
    | some y =>
      simp only []
      split <;> rfl
theorem cM_lt48 (h0 : 0 < n) (hn : n ≤ 48) : cM s n < 48 := by
  rcases (show n = 1 ∨ 2 ≤ n by omega) with h1 | h2
  · have := cM_le (s := s) h0
    omega
  · obtain ⟨k, hk⟩ : ∃ k, n = k + 1 := ⟨n - 1, by omega⟩
    have e : cM s n = (pLets (sI s) n (cO (sI s) n) n 0 (pS0.1, pS0.2.1, pS0.2.2.1, pS0.2.2.2.1, pBe0 n pS0.2.2.2.2.1, 0)).2.2.2.2.2 := rfl
    have ho := cO_ord (a := sI s) (n := n)
    have jj : ∀ c m S, m + c ≤ n → pJ (sI s) n (cO (sI s) n) m S → pJ (sI s) n (cO (sI s) n) (m + c) (pLets (sI s) n (cO (sI s) n) c m S) := by
      intro c
      induction c with
      | zero => intro m S _ h; exact h
      | succ c ih =>
        intro m S hm h
        have := ih (m + 1) _ (by omega) (pJ_s ho (by omega) h)
        rw [show m + (c + 1) = m + 1 + c by omega]
        exact this
    have hJ := jj k 0 (pS0.1, pS0.2.1, pS0.2.2.1, pS0.2.2.2.1, pBe0 n pS0.2.2.2.2.1, 0) (by omega) (pJ_0 (fun q hq => pBe0_lt hq) rfl)
    rw [Nat.zero_add] at hJ
    have hl := pLets_last (a := sI s) (o := cO (sI s) n) (n := n) k 0 (pS0.1, pS0.2.1, pS0.2.2.1, pS0.2.2.2.1, pBe0 n pS0.2.2.2.2.1, 0)
    rw [Nat.zero_add, ← hk] at hl
    have e2 : cM s n = (pLS (sI s) n (cO (sI s) n k) (pLets (sI s) n (cO (sI s) n) k 0 (pS0.1, pS0.2.1, pS0.2.2.1, pS0.2.2.2.1, pBe0 n pS0.2.2.2.2.1, 0))).2.2.2.2.2 := by rw [e, hl]
    generalize pLets (sI s) n (cO (sI s) n) k 0 (pS0.1, pS0.2.1, pS0.2.2.1, pS0.2.2.2.1, pBe0 n pS0.2.2.2.2.1, 0) = T at hJ e2
    have hp := ho.1 k (by omega)
    have come : ∀ q, q < n → q ≠ cO (sI s) n k → T.2.2.2.2.1 q ≠ none := fun q hq hne => by
      obtain ⟨j, hj, ej⟩ := ho.2.1 q hq
      refine (hJ.1 q hq).mpr ⟨j, ?_, ej⟩
      have : j ≠ k := fun z => hne (by rw [← ej, z])
      omega
    rw [e2, pLS_cm]
    · have := hJ.2.2.2.2.2.2.2.2.2
      omega
    · intro ⟨a1, a2⟩
      by_cases c : 0 < cO (sI s) n k
      · rw [if_pos c] at a1
        exact come _ (by omega) (by omega) a1
      · rw [if_pos (by omega)] at a2
        exact come _ (by omega) (by omega) a2
/-- change -/
def pCh (T : pT) (m : Nat) (g : Option Nat × Nat) : Option Nat × Nat := if g.1 = none ∨ cK (up T.1 m 0) T.2.1 T.2.2.1 < g.2 then (some m, cK (up T.1 m 0) T.2.1 T.2.2.1) else g
def cCh (T : pT) : Option Nat × Nat := pIt (pCh T) T.2.1 0 (none, 0)
theorem pCh_I {T : pT} (h0 : 0 < T.2.1) (hn : T.2.1 ≤ 48) {m : Nat} {g : Option Nat × Nat} (hm : m < 48) (h : (∀ b, g.1 = some b → b < 48) ∧ g.2 ≤ 48) : (∀ b, (pCh T m g).1 = some b → b < 48) ∧ (pCh T m g).2 ≤ 48 := by
  have h1 := cK_le (s := up T.1 m 0) (n := T.2.1) (z := T.2.2.1)
  have h2 := cM_lt48 (s := up T.1 m 0) h0 hn
  unfold pCh
  split
  · exact ⟨fun b e => by cases e; omega, by show cK _ _ _ ≤ 48; omega⟩
  · exact h
theorem q_change (hA : wfA A) (x : Int32) : pQry A (f_X1_change x) (f_X9_change x) := by
  cases hX : aX A with
  | none =>
    refine pQry_of (r := -1) (fun w hC => ⟨w, ?_, hC.self⟩) (fun w hM => ⟨w, ?_, hM.self⟩)
    · rw [f_X1_change, jlt_eq, hC.x0 hX, jcs_n2]
    · rw [f_X9_change, jlt_eq, (hM.x0 hX).1, if_pos rfl]
  | some X =>
    obtain ⟨hwX, t1, t2, t3, t4, t5⟩ := hA.x hX
    have kb : ∀ m, cK (up (aT A).1 m 0) (aT A).2.1 (aT A).2.2.1 < 48 := fun m => by
      have h1 := cK_le (s := up (aT A).1 m 0) (n := (aT A).2.1) (z := (aT A).2.2.1)
      have h2 := cM_lt48 (s := up (aT A).1 m 0) t1 t2
      omega
    by_cases h : qAt x 2
    · refine pQry_of2 (r := if x = 0 then pOI (cCh (aT A)).1 else nI (cCh (aT A)).2) (fun w hC => ?_) (fun w hM => ?_)
      · obtain ⟨t, ht, -⟩ := hC.xt hX
        have L : ∀ (c f m : Nat) (g : Option Nat × Nat) (w : j_St), RelC A w → m + c = (aT A).2.1 → c < f → (g.1 = none → g.2 = 48) → (∀ b, g.1 = some b → b < 48) → g.2 ≤ 48 → ∃ w', f_X1_change_L27 (fun (v33 : Int32) (v34 : Int32) (w35 : j_St) => if x = 0 then some (v33, w35) else some (v34, w35)) f (pOI g.1) (nI g.2) (nI m) w = (if x = 0 then some (pOI (pIt (pCh (aT A)) c m g).1, w') else some (nI (pIt (pCh (aT A)) c m g).2, w')) ∧ cOK w w' := by
          intro c
          induction c with
          | zero =>
            intro f m g w hC hm hf _ _ _
            obtain ⟨f, rfl⟩ : ∃ f', f = f' + 1 := ⟨f - 1, by omega⟩
            refine ⟨w, ?_, hC.self⟩
            rw [f_X1_change_L27, jlt_eq, show jgi w 4 1 1 = nI (aT A).2.1 from (hC.now hX).1.1, if_pos ((nI_leI (by omega) (by omega)).mpr (by omega))]
            rfl
          | succ c ih =>
            intro f m g w hC hm hf hg hgb hg48
            obtain ⟨f, rfl⟩ : ∃ f', f = f' + 1 := ⟨f - 1, by omega⟩
            obtain ⟨w1, e1, o1, n1, z1⟩ := c_try hC hA hX
            have hC1 := hC.ok o1
            have n2 : pCn (jsi w1 32 5 m 0) 5 (sI (up (aT A).1 m 0)) (aT A).2.1 := pCn_set (v := 0) n1
            have o2 : cOK w1 (jsi w1 32 5 m 0) := cOK_E2 (K := fun κ i _ => κ = 32 ∧ i = 5) hC1 (pSame.jsi ⟨rfl, rfl⟩) (fun κ i k y => by omega)
            have z2 : jgi (jsi w1 32 5 m 0) 5 2 2 = nI (aT A).2.2.1 := by rw [jgi_ne (by omega)]; exact z1
            obtain ⟨w3, e3, o3, g3, p3⟩ := c_of (Or.inl rfl) (hC1.ok o2) n2 t1 (up_le t3 (by omega)) t4
            have kk : f_X8_kept 2 (jsi w1 32 5 m 0) = some (nI (cK (up (aT A).1 m 0) (aT A).2.1 (aT A).2.2.1), w3) := by
              rw [f_X8_kept, jlt_eq, z2, e3, jcb_s2, jlt_eq, p3.2.2.1]
            have k48 := kb m
            have pI := pCh_I (g := g) t1 t2 (show m < 48 by omega) ⟨hgb, hg48⟩
            have pn : (pCh (aT A) m g).1 = none → (pCh (aT A) m g).2 = 48 := fun e => by
              unfold pCh at e ⊢
              split at e
              · cases e
              · rename_i q
                exact absurd (Or.inl e) q
            obtain ⟨w4, e4, o4⟩ := ih f (m + 1) (pCh (aT A) m g) w3 (((hC1.ok o2)).ok o3) (by omega) (by omega) pn pI.1 pI.2
            refine ⟨w4, ?_, ((o1.trans o2).trans o3).trans o4⟩
            rw [f_X1_change_L27, jlt_eq, show jgi w 4 1 1 = nI (aT A).2.1 from (hC.now hX).1.1, if_neg (fun z => by have := (nI_leI (by omega) (by omega)).mp z; omega), e1, jcb_s2, jbd_nI (by omega) (by decide), jlt_eq, kk, jcb_s2, jlt_eq]
            refine Eq.trans ?_ e4
            by_cases q : cK (up (aT A).1 m 0) (aT A).2.1 (aT A).2.2.1 < g.2
            · have e : pCh (aT A) m g = (some m, cK (up (aT A).1 m 0) (aT A).2.1 (aT A).2.2.1) := by unfold pCh; rw [if_pos (Or.inr q)]
              rw [if_pos ((nI_ltI (by omega) (by omega)).mpr q), e]
              dsimp only
              rw [jlt_eq, nI_1, pOI_s]
            · have e : pCh (aT A) m g = g := by
                unfold pCh
                rw [if_neg]
                rintro (y | y)
                · have := hg y; omega
                · exact q y
              rw [if_neg (fun z => q ((nI_ltI (by omega) (by omega)).mp z)), e]
              dsimp only
              rw [jlt_eq, nI_1]
        obtain ⟨w', e, o⟩ := L (aT A).2.1 jFU 0 (none, 48) w hC (by omega) (jFU_gt (by omega)) (fun _ => rfl) (fun b e => by cases e) (Nat.le_refl _)
        refine ⟨w', ?_, o⟩
        have same : pIt (pCh (aT A)) (aT A).2.1 0 (none, 48) = cCh (aT A) := by
          unfold cCh
          obtain ⟨c, hc⟩ : ∃ c, (aT A).2.1 = c + 1 := ⟨(aT A).2.1 - 1, by omega⟩
          have st : pCh (aT A) 0 (none, 48) = pCh (aT A) 0 (none, 0) := by
            unfold pCh
            rw [if_pos (Or.inl rfl), if_pos (Or.inl rfl)]
          rw [hc]
          show pIt _ c 1 (pCh (aT A) 0 (none, 48)) = pIt _ c 1 (pCh (aT A) 0 (none, 0))
          rw [st]
        rw [same] at e
        rw [f_X1_change, jlt_eq, ht, jcs_s2, cIn_T h (by decide) rfl (by decide), jcb_s2, if_neg n10]
        refine Eq.trans e ?_
        by_cases x0 : x = 0
        · rw [if_pos x0, if_pos x0]
        · rw [if_neg x0, if_neg x0]
      · have L : ∀ (c f m : Nat) (g : Option Nat × Nat) (w : j_St), RelM A w → m + c = (aT A).2.1 → c < f → (∀ b, g.1 = some b → b < 48) → g.2 ≤ 48 → ∃ w', f_X9_change_L25 (fun (v20 : Int32) (v21 : Int32) (w22 : j_St) => if x = 0 then some (v20, w22) else some (v21, w22)) f (pOI g.1) (nI g.2) (nI m) w = (if x = 0 then some (pOI (pIt (pCh (aT A)) c m g).1, w') else some (nI (pIt (pCh (aT A)) c m g).2, w')) ∧ RelM A w' ∧ pSame KXM w w' := by
          intro c
          induction c with
          | zero =>
            intro f m g w hM hm hf _ _
            obtain ⟨f, rfl⟩ : ∃ f', f = f' + 1 := ⟨f - 1, by omega⟩
            refine ⟨w, ?_, hM, pSame.refl⟩
            rw [f_X9_change_L25, sp_many (hM.mn hA hX), jcb_s2, if_pos ((nI_leI (by omega) (by omega)).mpr (by omega))]
            rfl
          | succ c ih =>
            intro f m g w hM hm hf hgb hg48
            obtain ⟨f, rfl⟩ : ∃ f', f = f' + 1 := ⟨f - 1, by omega⟩
            obtain ⟨w1, e1, o1, g1⟩ := m_would hM hA hX (p := m) (v := 0) (j := 0) (by omega) (by omega) (by omega)
            have e1' : f_X9_would (nI m) 0 0 w = some (nI (cK (up (aT A).1 m 0) (aT A).2.1 (aT A).2.2.1), w1) := e1
            have k48 := kb m
            have pI := pCh_I (g := g) t1 t2 (show m < 48 by omega) ⟨hgb, hg48⟩
            obtain ⟨w4, e4, o4, g4⟩ := ih f (m + 1) (pCh (aT A) m g) w1 o1 (by omega) (by omega) pI.1 pI.2
            refine ⟨w4, ?_, o4, g1.trans g4⟩
            rw [f_X9_change_L25, sp_many (hM.mn hA hX), jcb_s2, if_neg (fun z => by have := (nI_leI (by omega) (by omega)).mp z; omega), e1', jcb_s2, jlt_eq, jlt_eq]
            refine Eq.trans ?_ e4
            obtain ⟨b, l⟩ := g
            cases b with
            | none =>
              have e : pCh (aT A) m (none, l) = (some m, cK (up (aT A).1 m 0) (aT A).2.1 (aT A).2.2.1) := by unfold pCh; rw [if_pos (Or.inl rfl)]
              rw [pOI_n, if_pos rfl, e]
              dsimp only
              rw [jlt_eq, nI_1, pOI_s]
            | some b =>
              have hb := hgb b rfl
              have hl : l ≤ 48 := hg48
              rw [pOI_s, if_neg (nI_ne1 (by omega))]
              by_cases q : cK (up (aT A).1 m 0) (aT A).2.1 (aT A).2.2.1 < l
              · have e : pCh (aT A) m (some b, l) = (some m, cK (up (aT A).1 m 0) (aT A).2.1 (aT A).2.2.1) := by unfold pCh; rw [if_pos (Or.inr q)]
                rw [if_neg (show ¬ nI l ≤ nI (cK (up (aT A).1 m 0) (aT A).2.1 (aT A).2.2.1) from fun z => by have := (nI_leI (by omega) (by omega)).mp z; omega), e]
                dsimp only
                rw [jlt_eq, nI_1, pOI_s]
              · have e : pCh (aT A) m (some b, l) = (some b, l) := by
                  unfold pCh
                  rw [if_neg]
                  rintro (y | y)
                  · cases y
                  · exact q y
                rw [if_pos (show nI l ≤ nI (cK (up (aT A).1 m 0) (aT A).2.1 (aT A).2.2.1) from (nI_leI (by omega) (by omega)).mpr (by omega)), e]
                dsimp only
                rw [jlt_eq, nI_1, pOI_s]
        obtain ⟨w', e, o, g⟩ := L (aT A).2.1 jFU 0 (none, 0) w hM (by omega) (jFU_gt (by omega)) (fun b e => by cases e) (Nat.zero_le _)
        refine ⟨w', ?_, o, g⟩
        rw [f_X9_change, jlt_eq, (hM.xt hX).1, if_neg n10, mIn_T h (by decide) (by decide), jcb_s2, if_neg n10]
        refine Eq.trans e ?_
        show (if x = 0 then some (pOI (cCh (aT A)).1, w') else some (nI (cCh (aT A)).2, w')) = _
        by_cases x0 : x = 0
        · rw [if_pos x0, if_pos x0]
        · rw [if_neg x0, if_neg x0]
    · refine pQry_of (r := -1) (fun w hC => ⟨w, ?_, hC.self⟩) (fun w hM => ⟨w, ?_, hM.self⟩)
      · obtain ⟨t, ht, -⟩ := hC.xt hX
        rw [f_X1_change, jlt_eq, ht, jcs_s2, cIn_F h (by decide) rfl (by decide), jcb_s2, if_pos rfl]
      · rw [f_X9_change, jlt_eq, (hM.xt hX).1, if_neg n10, mIn_F h (by decide) (by decide), jcb_s2, if_pos rfl]
end WOULD
