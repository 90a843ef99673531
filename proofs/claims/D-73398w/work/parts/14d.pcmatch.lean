/-! the pure law: an array of the store; the component's lines are matched -/
/-- an array, whole -/
def jas (w : j_St) (κ i : Nat) (g : Nat → Int32) : j_St := (fun x y k => if x = κ ∧ y = i then g k else w.1 x y k, w.2)
section JAS
variable {w : j_St} {κ i κ' i' k : Nat} {g : Nat → Int32} {v : Int32}
theorem jas_get : jgi (jas w κ i g) κ i k = g k := if_pos ⟨rfl, rfl⟩
theorem jas_ne (h : ¬ (κ' = κ ∧ i' = i)) : jgi (jas w κ i g) κ' i' k = jgi w κ' i' k := if_neg h
theorem jas_r : jgr (jas w κ i g) κ' i' k = jgr w κ' i' k := id rfl
theorem jas_l : jgl (jas w κ i g) κ' i' k = jgl w κ' i' k := id rfl
theorem jas_n : jgn (jas w κ i g) κ' i' = jgn w κ' i' := id rfl
theorem jas_set : jsi (jas w κ i g) κ i k v = jas w κ i (up g k v) := Prod.ext (funext fun x => funext fun y => funext fun j => by
  show (if x = κ ∧ y = i ∧ j = k then v else if x = κ ∧ y = i then g j else w.1 x y j) = (if x = κ ∧ y = i then up g k v j else w.1 x y j)
  by_cases c : x = κ ∧ y = i
  · obtain ⟨rfl, rfl⟩ := c
    by_cases e : j = k
    · subst e; simp [up]
    · simp [up, e]
  · rw [if_neg (fun z => c ⟨z.1, z.2.1⟩), if_neg c, if_neg c]) rfl
theorem jas_out (h : ¬ (κ' = κ ∧ i' = i)) : jsi (jas w κ i g) κ' i' k v = jas (jsi w κ' i' k v) κ i g := Prod.ext (funext fun x => funext fun y => funext fun j => by
  show (if x = κ' ∧ y = i' ∧ j = k then v else if x = κ ∧ y = i then g j else w.1 x y j) = (if x = κ ∧ y = i then g j else if x = κ' ∧ y = i' ∧ j = k then v else w.1 x y j)
  by_cases c : x = κ ∧ y = i
  · rw [if_neg (by intro z; exact h ⟨z.1.symm.trans c.1, z.2.1.symm.trans c.2⟩), if_pos c, if_pos c]
  · rw [if_neg c, if_neg c]) rfl
theorem jas_self : jas w κ i (jgi w κ i) = w := Prod.ext (funext fun x => funext fun y => funext fun j => by
  show (if x = κ ∧ y = i then w.1 κ i j else w.1 x y j) = w.1 x y j
  by_cases c : x = κ ∧ y = i
  · rw [if_pos c, c.1, c.2]
  · rw [if_neg c]) rfl
theorem jas_same {K : Nat → Nat → Nat → Prop} (h : ∀ k, K κ i k) : pSame K w (jas w κ i g) := ⟨fun κ' i' k z => jas_ne fun e => z (by rw [e.1, e.2]; exact h k), fun _ _ _ _ => rfl, fun _ _ _ _ => rfl, fun _ _ _ => rfl⟩
end JAS
/-- a number that is small -/
def pSl (x : Int32) : Prop := -10000 ≤ x.toInt ∧ x.toInt ≤ 10000
theorem pSl_sub {x y : Int32} (hx : pSl x) (hy : pSl y) : (x - y).toInt = x.toInt - y.toInt := by
  obtain ⟨a, b⟩ := hx
  obtain ⟨c, d⟩ := hy
  rw [Int32.toInt_sub]
  exact Int.bmod_eq_of_le (by omega) (by omega)
theorem pSl_add {x y : Int32} (hx : pSl x) (hy : pSl y) : (x + y).toInt = x.toInt + y.toInt := by
  obtain ⟨a, b⟩ := hx
  obtain ⟨c, d⟩ := hy
  rw [Int32.toInt_add]
  exact Int.bmod_eq_of_le (by omega) (by omega)
theorem pSl_nI {a : Nat} (h : a ≤ 10000) : pSl (nI a) := by
  unfold pSl
  rw [nI_toInt (by omega)]
  omega
theorem jabs_ap {x y : Int32} (hx : pSl x) (hy : pSl y) : jabs (x - y) = pAp x y := by
  have e := pSl_sub hx hy
  unfold jabs pAp
  have h1 : (0 : Int32) ≤ x - y ↔ y.toInt ≤ x.toInt := by
    rw [Int32.le_iff_toInt_le, e, show (0 : Int32).toInt = 0 from rfl]
    omega
  by_cases c : x ≤ y
  · rw [if_pos c]
    have c := Int32.le_iff_toInt_le.mp c
    by_cases d : (0 : Int32) ≤ x - y
    · rw [if_pos d]
      have d := h1.mp d
      have : x = y := Int32.toInt_inj.mp (by omega)
      rw [this]
    · rw [if_neg d]
      apply Int32.toInt_inj.mp
      have e2 := pSl_sub hy hx
      obtain ⟨a1, a2⟩ := hx
      obtain ⟨a3, a4⟩ := hy
      rw [Int32.toInt_sub, e, e2, show (0 : Int32).toInt = 0 from rfl]
      rw [Int.bmod_eq_of_le (by omega) (by omega)]
      omega
  · rw [if_neg c]
    have c : ¬ x.toInt ≤ y.toInt := fun z => c (Int32.le_iff_toInt_le.mpr z)
    rw [if_pos (h1.mpr (by omega))]
/-- the trace's lines, as the component has them -/
def pTr (w : j_St) (t : Nat) (lp : Nat → Int32) (ln : Nat) (rc : Int32) : Prop := jgi w 6 t 3 = nI ln ∧ jgi w 6 t 5 = rc ∧ (∀ l, l < ln → jgi w 35 t l = lp l) ∧ ln ≤ 8 ∧ ∀ l, l < ln → pSl (lp l)
section CMX
variable {w : j_St} {s : Nat → Nat} {n z i0 i1 t : Nat} {lp : Nat → Int32} {ln : Nat} {rc : Int32} {x : Int32} {tk : Nat → Option Nat}
theorem cq_nearest_s (hT : pTr w t lp ln rc) (hx : pSl x) (hk : ∀ l, l < ln → jgi w 30 i0 l = pOI (tk l)) (htk : ∀ l, l < ln → pSm (tk l)) {f l : Nat} {b : Option Nat} (hl : l < ln) (hb : ∀ c, b = some c → c < ln) : f_X5_nearest_L5 i0 t x (f + 1) (pOI b) (nI l) w = f_X5_nearest_L5 i0 t x f (pOI (pNs lp rc x tk l b)) (nI (l + 1)) w := by
  obtain ⟨t1, t2, t3, t4, t5⟩ := hT
  have e1 := pOI_m1 (htk l hl)
  have far : jabs (lp l - x) = pAp (lp l) x := jabs_ap (t5 l hl) hx
  rw [f_X5_nearest_L5]
  simp (disch := omega) only [↓jlt_e2, t1, le_F, if_false, jbd_nI, t3 l hl, far, hk l hl, e1, t2]
  by_cases c1 : tk l = none
  · by_cases c2 : pAp (lp l) x ≤ rc
    · have c2' : ¬ rc < pAp (lp l) x := Int32.not_lt.mpr c2
      cases b with
      | none =>
        have r : pNs lp rc x tk l none = some l := by simp [pNs, pNc, c1, c2']
        simp (disch := omega) only [c1, if_true, c2, pOI_n, r, pOI_s, nI_1]
      | some b =>
        have hbl := hb b rfl
        have far2 : jabs (lp b - x) = pAp (lp b) x := jabs_ap (t5 b hbl) hx
        by_cases c3 : pAp (lp b) x ≤ pAp (lp l) x
        · have r : pNs lp rc x tk l (some b) = some b := by simp [pNs, pNc, c3]
          simp (disch := omega) only [c1, if_true, c2, pOI_s, m1_F, if_false, jbd_nI, ↓jlt_e2, t3 b hbl, far2, c3, r, nI_1]
        · have r : pNs lp rc x tk l (some b) = some l := by simp [pNs, pNc, c1, c2', c3]
          simp (disch := omega) only [c1, if_true, c2, pOI_s, m1_F, if_false, jbd_nI, ↓jlt_e2, t3 b hbl, far2, c3, r, nI_1]
    · have c2' : rc < pAp (lp l) x := Int32.not_le.mp c2
      have r : pNs lp rc x tk l b = b := by simp [pNs, pNc, c2']
      simp (disch := omega) only [c1, if_true, c2, if_false, r, nI_1]
  · have r : pNs lp rc x tk l b = b := by simp [pNs, pNc, c1]
    simp (disch := omega) only [c1, if_false, r, nI_1]
theorem cq_nearest (hT : pTr w t lp ln rc) (hx : pSl x) (hk : ∀ l, l < ln → jgi w 30 i0 l = pOI (tk l)) (htk : ∀ l, l < ln → pSm (tk l)) : ∀ (c f l : Nat) (b : Option Nat), l + c = ln → (∀ q, b = some q → q < ln) → c < f → f_X5_nearest_L5 i0 t x f (pOI b) (nI l) w = some (pOI (pNr lp rc x tk c l b), w) := by
  intro c
  induction c with
  | zero =>
    intro f l b hl hb hf
    obtain ⟨f, rfl⟩ : ∃ f', f = f' + 1 := ⟨f - 1, by omega⟩
    have e : l = ln := by omega
    subst e
    have := hT.2.2.2.1
    rw [f_X5_nearest_L5, jlt_eq, hT.1, if_pos ((nI_leI (by omega) (by omega)).mpr (Nat.le_refl _))]
    rfl
  | succ c ih =>
    intro f l b hl hb hf
    obtain ⟨f, rfl⟩ : ∃ f', f = f' + 1 := ⟨f - 1, by omega⟩
    rw [cq_nearest_s hT hx hk htk (by omega) hb, ih f (l + 1) _ (by omega) (pNs_lt (by omega) hb) (by omega)]
    rfl
theorem pTr.as {κ i : Nat} {g : Nat → Int32} (hT : pTr w t lp ln rc) (h : κ ≠ 6 ∧ κ ≠ 35) : pTr (jas w κ i g) t lp ln rc := by
  obtain ⟨t1, t2, t3, t4, t5⟩ := hT
  refine ⟨?_, ?_, fun l hl => ?_, t4, t5⟩
  · rw [jas_ne (by omega)]; exact t1
  · rw [jas_ne (by omega)]; exact t2
  · rw [jas_ne (by omega)]; exact t3 l hl
theorem pCP.as {κ i : Nat} {g : Nat → Int32} (hP : pCP w i0 i1 s n z) (h : κ ≠ 2 ∧ κ ≠ 3) : pCP (jas w κ i g) i0 i1 s n z := by
  obtain ⟨p1, p2, p3, p4, p5, p6⟩ := hP
  refine ⟨p1, ?_, ?_, p4, fun c hc => ?_, fun k hk => ?_⟩
  · rw [jas_ne (by omega)]; exact p2
  · rw [jas_ne (by omega)]; exact p3
  · obtain ⟨c1, c2, c3, c4, c5⟩ := p5 c hc
    refine ⟨?_, ?_, ?_, ?_, c5⟩
    · rw [jas_ne (by omega)]; exact c1
    · rw [jas_ne (by omega)]; exact c2
    · rw [jas_ne (by omega)]; exact c3
    · rw [jas_ne (by omega)]; exact c4
  · rw [jas_ne (by omega)]; exact p6 k hk
theorem cMs_sm {P : Nat → Nat} {kp k : Nat} {M : pM} {by_ : Int32} (hk : k < 48) (h : ∀ l, pSm (M.2.1 l)) : ∀ l, pSm ((cMs lp ln rc by_ P kp k M).2.1 l) := fun l => by
  unfold cMs
  split
  · exact h l
  · exact pSm_up h (pSm_some hk) l
theorem cq_matches_L31 (hT : pTr w t lp ln rc) (hP : pCP w i0 i1 s n z) (h0 : 0 < n) (hn : n ≤ 48) {by_ : Int32} (hby : ∀ k, k < cM s n → pSl (nI (cP s n k) + by_)) : ∀ (c f k : Nat) (M : pM) (T Mt : Nat → Int32), k + c = cM s n → c < f → (∀ l, pSm (M.2.1 l)) → (∀ l, l < ln → T l = pOI (M.2.1 l)) → (∀ j, j < k → Mt j = pOI (M.1 j)) →
    ∃ T' Mt', f_X5_matches_L31 i0 t by_ f (nI M.2.2) (nI k) (jas (jas w 30 i0 T) 31 i0 Mt) = some (nI (cMt lp ln rc by_ (cP s n) (cK s n z) c k M).2.2, jas (jas w 30 i0 T') 31 i0 Mt') ∧ (∀ l, l < ln → T' l = pOI ((cMt lp ln rc by_ (cP s n) (cK s n z) c k M).2.1 l)) ∧ ∀ j, j < k + c → Mt' j = pOI ((cMt lp ln rc by_ (cP s n) (cK s n z) c k M).1 j) := by
  have g2 := cM_le (s := s) h0
  intro c
  induction c with
  | zero =>
    intro f k M T Mt hk hf hm h1 h2
    obtain ⟨f, rfl⟩ : ∃ f', f = f' + 1 := ⟨f - 1, by omega⟩
    refine ⟨T, Mt, ?_, h1, h2⟩
    rw [f_X5_matches_L31, jlt_eq, jas_ne (by omega), jas_ne (by omega), hP.2.1, if_pos ((nI_leI (by omega) (by omega)).mpr (by omega))]
    rfl
  | succ c ih =>
    intro f k M T Mt hk hf hm h1 h2
    obtain ⟨f, rfl⟩ : ∃ f', f = f' + 1 := ⟨f - 1, by omega⟩
    have hkm : k < cM s n := by omega
    have hP' : ∀ T Mt, pCP (jas (jas w 30 i0 T) 31 i0 Mt) i0 i1 s n z := fun T Mt => (hP.as (by omega)).as (by omega)
    have hT' : pTr (jas (jas w 30 i0 T) 31 i0 Mt) t lp ln rc := (hT.as (by omega)).as (by omega)
    have hln := hT.2.2.2.1
    have row : ∀ T Mt, jgr (jas (jas w 30 i0 T) 31 i0 Mt) 27 i0 k = some (48 * i0 + cW s n k) := fun T Mt => cq_row (hP' T Mt) hkm
    have six := cq_6 (hP' T Mt) hkm
    have pl := cq_0 (hP' T Mt) h0 hkm
    have nr := cq_nearest hT' (x := nI (cP s n k) + by_) (i0 := i0) (tk := M.2.1) (hby k hkm) (fun l hl => by rw [jas_ne (by omega), jas_get]; exact h1 l hl) (fun l _ => hm l) ln jFU 0 none (by omega) (fun q e => by cases e) (jFU_gt (by omega))
    have nr' : f_X5_nearest i0 t (nI (cP s n k) + by_) (jas (jas w 30 i0 T) 31 i0 Mt) = some (pOI (pNr lp rc (nI (cP s n k) + by_) M.2.1 ln 0 none), jas (jas w 30 i0 T) 31 i0 Mt) := nr
    -- what it takes
    have tkE : cTk lp ln rc by_ (cP s n) (cK s n z) k M.2.1 = if k < cK s n z then pNr lp rc (nI (cP s n k) + by_) M.2.1 ln 0 none else none := rfl
    have tlt := cTk_lt (lp := lp) (ln := ln) (rc := rc) (by_ := by_) (P := cP s n) (kp := cK s n z) (k := k) (tk := M.2.1)
    have m2 : jgi (jas (jas w 30 i0 T) 31 i0 Mt) 2 i0 5 = nI (cM s n) := (hP' T Mt).2.1
    have s31 : ∀ v, jsi (jas (jas w 30 i0 T) 31 i0 Mt) 31 i0 k v = jas (jas w 30 i0 T) 31 i0 (up Mt k v) := fun v => jas_set
    have g31 : ∀ v, jgi (jas (jas w 30 i0 T) 31 i0 (up Mt k v)) 31 i0 k = v := fun v => by rw [jas_get, up_same]
    have rest : ∀ r : Option Nat, r = cTk lp ln rc by_ (cP s n) (cK s n z) k M.2.1 → ∃ T' Mt', (jbd (nI k) 48 fun a34 => jlt (jsi (jas (jas w 30 i0 T) 31 i0 Mt) 31 i0 a34 (pOI r)) fun w33 => jbd (nI k) 48 fun a36 => jlt (jgi w33 31 i0 a36) fun v37 => jlt (fun (v45 : Int32) (w46 : j_St) => jlt (nI k + 1) fun v47 => f_X5_matches_L31 i0 t by_ f v45 v47 w46) fun K112 => if v37 = (-1) then K112 (nI M.2.2) w33 else jbd (nI k) 48 fun a40 => jlt (jgi w33 31 i0 a40) fun v41 => jbd v41 8 fun a43 => jlt (jsi w33 30 i0 a43 (nI k)) fun w42 => jlt (nI M.2.2 + 1) fun v44 => K112 v44 w42) = some (nI (cMt lp ln rc by_ (cP s n) (cK s n z) (c + 1) k M).2.2, jas (jas w 30 i0 T') 31 i0 Mt') ∧ (∀ l, l < ln → T' l = pOI ((cMt lp ln rc by_ (cP s n) (cK s n z) (c + 1) k M).2.1 l)) ∧ ∀ j, j < k + (c + 1) → Mt' j = pOI ((cMt lp ln rc by_ (cP s n) (cK s n z) (c + 1) k M).1 j) := fun r hr => by
      have hM' : cMt lp ln rc by_ (cP s n) (cK s n z) (c + 1) k M = cMt lp ln rc by_ (cP s n) (cK s n z) c (k + 1) (cMs lp ln rc by_ (cP s n) (cK s n z) k M) := rfl
      have sm := cMs_sm (lp := lp) (ln := ln) (rc := rc) (by_ := by_) (P := cP s n) (kp := cK s n z) (k := k) (by omega) hm
      rw [hM', show k + (c + 1) = k + 1 + c by omega]
      cases r with
      | none =>
        have em : cMs lp ln rc by_ (cP s n) (cK s n z) k M = (up M.1 k none, M.2.1, M.2.2) := by unfold cMs; rw [← hr]
        rw [em] at sm ⊢
        obtain ⟨T', Mt', a1, a2, a3⟩ := ih f (k + 1) (up M.1 k none, M.2.1, M.2.2) T (up Mt k (-1)) (by omega) (by omega) sm h1 (fun j hj => by
          by_cases e : j = k
          · rw [e, up_same]
            show (-1 : Int32) = pOI (up M.1 k none k)
            rw [up_same]
            rfl
          · show up Mt k (-1) j = pOI (up M.1 k none j)
            rw [up_ne e, up_ne e]; exact h2 j (by omega))
        refine ⟨T', Mt', ?_, a2, a3⟩
        rw [← a1]
        simp (disch := omega) only [pOI_n, jbd_nI, ↓jlt_e2, s31, g31, if_true, nI_1]
      | some l =>
        have hl := tlt l hr.symm
        have em : cMs lp ln rc by_ (cP s n) (cK s n z) k M = (up M.1 k (some l), up M.2.1 l (some k), M.2.2 + 1) := by unfold cMs; rw [← hr]
        have s30 : ∀ v, jsi (jas (jas w 30 i0 T) 31 i0 (up Mt k (nI l))) 30 i0 l v = jas (jas w 30 i0 (up T l v)) 31 i0 (up Mt k (nI l)) := fun v => by rw [jas_out (by omega), jas_set]
        rw [em] at sm ⊢
        obtain ⟨T', Mt', a1, a2, a3⟩ := ih f (k + 1) (up M.1 k (some l), up M.2.1 l (some k), M.2.2 + 1) (up T l (nI k)) (up Mt k (nI l)) (by omega) (by omega) sm (fun j hj => by
          by_cases e : j = l
          · rw [e, up_same]
            show nI k = pOI (up M.2.1 l (some k) l)
            rw [up_same]
            rfl
          · show up T l (nI k) j = pOI (up M.2.1 l (some k) j)
            rw [up_ne e, up_ne e]; exact h1 j hj) (fun j hj => by
          by_cases e : j = k
          · rw [e, up_same]
            show nI l = pOI (up M.1 k (some l) k)
            rw [up_same]
            rfl
          · show up Mt k (nI l) j = pOI (up M.1 k (some l) j)
            rw [up_ne e, up_ne e]; exact h2 j (by omega))
        refine ⟨T', Mt', ?_, a2, a3⟩
        rw [← a1]
        simp (disch := omega) only [pOI_s, jbd_nI, ↓jlt_e2, s31, g31, m1_F, if_false, s30, nI_1]
    rw [f_X5_matches_L31, jlt_eq, m2, if_neg (fun z => by have := (nI_leI (by omega) (by omega)).mp z; omega), jbd_nI (by omega) (by decide), jlt_eq, row, job_s2, jlt_eq, six, jlt_eq]
    by_cases hkp : k < cK s n z
    · rw [if_pos hkp] at tkE ⊢
      rw [if_neg (by decide), jbd_nI (by omega) (by decide), jlt_eq, row, job_s2, jlt_eq, pl, nr', jcb_s2]
      exact rest _ tkE.symm
    · rw [if_neg hkp] at tkE ⊢
      rw [if_pos rfl]
      exact rest none tkE.symm
def KT (i0 κ i k : Nat) : Prop := (κ = 30 ∨ κ = 31) ∧ i = i0
theorem cq_matches (hT : pTr w t lp ln rc) (hP : pCP w i0 i1 s n z) (h0 : 0 < n) (hn : n ≤ 48) {by_ : Int32} (hby : ∀ k, k < cM s n → pSl (nI (cP s n k) + by_)) :
    ∃ w', f_X5_matches i0 t by_ w = some (nI (cMa lp ln rc by_ s n z).2.2, w') ∧ pSame (KT i0) w w' ∧ (∀ k, k < cM s n → jgi w' 31 i0 k = pOI ((cMa lp ln rc by_ s n z).1 k)) ∧ ∀ l, l < ln → jgi w' 30 i0 l = pOI ((cMa lp ln rc by_ s n z).2.1 l) := by
  have hln := hT.2.2.2.1
  have e0 : w = jas (jas w 30 i0 (jgi w 30 i0)) 31 i0 (jgi w 31 i0) := by rw [jas_self]; exact jas_self.symm
  have first : ∀ kk : j_St → Option (Int32 × j_St), ∃ T : Nat → Int32, (∀ l, l < ln → T l = -1) ∧ f_X5_matches_L5 i0 t kk jFU 0 w = kk (jas (jas w 30 i0 T) 31 i0 (jgi w 31 i0)) := fun kk => by
    have := pIt_is (F := fun f m (T : Nat → Int32) => f_X5_matches_L5 i0 t kk f (nI m) (jas (jas w 30 i0 T) 31 i0 (jgi w 31 i0))) (step := fun m T => up T m (-1)) (I := fun m (T : Nat → Int32) => ∀ l, l < m → T l = -1) (N := ln) (G := fun T => kk (jas (jas w 30 i0 T) 31 i0 (jgi w 31 i0))) (fun f m T hm hI => ?_) (fun m T hm hI => ?_) (fun f T hI => ?_) ln jFU 0 (jgi w 30 i0) (by omega) (jFU_gt (by omega)) (fun l hl => by omega)
    · refine ⟨_, ?_, Eq.trans ?_ this⟩
      · exact pIt_I (I := fun m (T : Nat → Int32) => ∀ l, l < m → T l = -1) (N := ln) (fun m T hm hI l hl => by
          by_cases e : l = m
          · rw [e, up_same]
          · rw [up_ne e]; exact hI l (by omega)) ln 0 _ (by omega) (fun l hl => by omega)
      · show f_X5_matches_L5 i0 t kk jFU 0 w = f_X5_matches_L5 i0 t kk jFU (nI 0) (jas (jas w 30 i0 (jgi w 30 i0)) 31 i0 (jgi w 31 i0))
        rw [← e0]
        rfl
    · have s30 : ∀ v, jsi (jas (jas w 30 i0 T) 31 i0 (jgi w 31 i0)) 30 i0 m v = jas (jas w 30 i0 (up T m v)) 31 i0 (jgi w 31 i0) := fun v => by rw [jas_out (by omega), jas_set]
      have t1 : jgi (jas (jas w 30 i0 T) 31 i0 (jgi w 31 i0)) 6 t 3 = nI ln := ((hT.as (by omega)).as (by omega)).1
      show f_X5_matches_L5 i0 t kk (f + 1) (nI m) (jas (jas w 30 i0 T) 31 i0 (jgi w 31 i0)) = f_X5_matches_L5 i0 t kk f (nI (m + 1)) _
      rw [f_X5_matches_L5]
      simp (disch := omega) only [↓jlt_e2, t1, le_F, if_false, jbd_nI, s30, nI_1]
    · intro l hl
      by_cases e : l = m
      · rw [e, up_same]
      · rw [up_ne e]; exact hI l (by omega)
    · have t1 : jgi (jas (jas w 30 i0 T) 31 i0 (jgi w 31 i0)) 6 t 3 = nI ln := ((hT.as (by omega)).as (by omega)).1
      show f_X5_matches_L5 i0 t kk (f + 1) (nI ln) (jas (jas w 30 i0 T) 31 i0 (jgi w 31 i0)) = _
      rw [f_X5_matches_L5, jlt_eq, t1, if_pos ((nI_leI (by omega) (by omega)).mpr (Nat.le_refl _))]
  have hcm := cM_le (s := s) h0
  obtain ⟨T, hT1, hT2⟩ := first (fun (w8 : j_St) => f_X5_matches_L31 i0 t by_ jFU 0 0 w8)
  obtain ⟨T', Mt', a1, a2, a3⟩ := cq_matches_L31 hT hP h0 hn hby (cM s n) jFU 0 (fun _ => none, fun _ => none, 0) T (jgi w 31 i0) (by omega) (jFU_gt (by omega)) (fun l => pSm_none) hT1 (fun j hj => by omega)
  refine ⟨jas (jas w 30 i0 T') 31 i0 Mt', ?_, ?_, fun k hk => ?_, fun l hl => ?_⟩
  · rw [f_X5_matches, hT2]
    exact a1
  · exact (jas_same fun k => by unfold KT; omega).trans (jas_same fun k => by unfold KT; omega)
  · rw [jas_get]; exact a3 k (by omega)
  · rw [jas_ne (by omega), jas_get]; exact a2 l hl
end CMX
