/-! the pure law: what the component finds, by numbers -/
/-- some are set, one behind another -/
def pUs {α : Type} (wh : Nat → Nat) (v : Nat → α) : Nat → Nat → (Nat → α) → (Nat → α)
  | 0, _, g => g
  | c + 1, k, g => pUs wh v c (k + 1) (up g (wh k) (v k))
theorem pUs_out {α : Type} {wh : Nat → Nat} {v : Nat → α} {x : Nat} : ∀ (c k : Nat) (g : Nat → α), (∀ j, k ≤ j → j < k + c → wh j ≠ x) → pUs wh v c k g x = g x := by
  intro c
  induction c with
  | zero => intro k g _; rfl
  | succ c ih =>
    intro k g h
    show pUs wh v c (k + 1) (up g (wh k) (v k)) x = g x
    rw [ih (k + 1) _ (fun j h1 h2 => h j (by omega) (by omega)), up_ne (h k (Nat.le_refl _) (by omega)).symm]
theorem pUs_val {α : Type} {wh : Nat → Nat} {v : Nat → α} : ∀ (c k : Nat) (g : Nat → α), (∀ i j, k ≤ i → i < j → j < k + c → wh i ≠ wh j) → ∀ j, k ≤ j → j < k + c → pUs wh v c k g (wh j) = v j := by
  intro c
  induction c with
  | zero => intro k g _ j h1 h2; omega
  | succ c ih =>
    intro k g h j h1 h2
    show pUs wh v c (k + 1) (up g (wh k) (v k)) (wh j) = v j
    by_cases e : j = k
    · subst e
      rw [pUs_out c (j + 1) _ (fun i a1 a2 => (h j i (Nat.le_refl _) (by omega) (by omega)).symm), up_same]
    · exact ih (k + 1) _ (fun i j a1 a2 a3 => h i j (by omega) a2 (by omega)) j (by omega) (by omega)
section PKE
variable {i0 : Nat} {w : j_St} {i1 : Nat} {od : Nat → Nat} {pl : Nat → Nat} {va : Nat → Option Nat} {de : Nat → Int32} {pa be : Nat → Option Nat} {cm : Nat} {ca : Nat → Nat} {he : Nat → Int32} {kt : Nat → Bool} {kp : Nat} {r : Nat → Nat} {p1 : Int32}
def pKb (he de : Nat → Int32) (r : Nat → Nat) (p1 : Int32) (k : Nat) : Bool := decide (k = 0) || !decide (he (r k) - de (r k) ≤ p1)
theorem sp_keeps_s {k : Nat} (hk : k < cm) (hcm : cm ≤ 48) (hr : r k < 48) {f : Nat} : f_X5_keeps_L7 i0 p1 (f + 1) (nI k) (mkP i0 w i1 od (fun j => eN (r j)) pl va de pa be cm ca he kt kp) = f_X5_keeps_L7 i0 p1 f (nI (k + 1)) (mkP i0 w i1 od (fun j => eN (r j)) pl va de pa be cm ca he (up kt (r k) (pKb he de r p1 k)) (kp + if pKb he de r p1 k = true then 1 else 0)) := by
  have g27 : ∀ kt kp, jgr (mkP i0 w i1 od (fun j => eN (r j)) pl va de pa be cm ca he kt kp) 27 i0 k = some (48 * i0 + r k) := fun kt kp => by rw [mkP_27, eN_lt hr]; rfl
  have p1' : f_X6_persistence (48 * i0 + r k) (mkP i0 w i1 od (fun j => eN (r j)) pl va de pa be cm ca he kt kp) = some (he (r k) - de (r k), mkP i0 w i1 od (fun j => eN (r j)) pl va de pa be cm ca he kt kp) := by
    simp only [f_X6_persistence, ↓jlt_e2, mkP_1 hr, mkP_3 hr]
  have sT : jsi (mkP i0 w i1 od (fun j => eN (r j)) pl va de pa be cm ca he kt kp) 3 (48 * i0 + r k) 6 1 = mkP i0 w i1 od (fun j => eN (r j)) pl va de pa be cm ca he (up kt (r k) true) kp := mkP_s6 hr (v := true)
  have sF : jsi (mkP i0 w i1 od (fun j => eN (r j)) pl va de pa be cm ca he kt kp) 3 (48 * i0 + r k) 6 0 = mkP i0 w i1 od (fun j => eN (r j)) pl va de pa be cm ca he (up kt (r k) false) kp := mkP_s6 hr (v := false)
  have gT : jgi (mkP i0 w i1 od (fun j => eN (r j)) pl va de pa be cm ca he (up kt (r k) true) kp) 3 (48 * i0 + r k) 6 = 1 := by rw [mkP_6 hr, up_same]; rfl
  have gF : jgi (mkP i0 w i1 od (fun j => eN (r j)) pl va de pa be cm ca he (up kt (r k) false) kp) 3 (48 * i0 + r k) 6 = 0 := by rw [mkP_6 hr, up_same]; rfl
  have one0 : ((1 : Int32) = 0) = False := eq_false (by decide)
  have zz : nI kp + 0 = nI (kp + 0) := nI_add kp 0
  have n1 : (nI cm ≤ nI k) = False := eq_false (fun z => absurd ((nI_leI (by omega) (by omega)).mp z) (by omega))
  by_cases k0 : k = 0
  · have b : pKb he de r p1 k = true := by simp [pKb, k0]
    have k0' : (nI k = 0) = True := eq_true (by rw [k0]; rfl)
    rw [f_X5_keeps_L7]
    simp (disch := omega) only [↓jlt_e2, mkP_2cm, n1, if_false, jbd_nI, g27, k0', if_true, job_s2, sT, gT, one0, false_or, mkP_2kp, nI_1, mkP_s2kp, b]
  · have k0' : (nI k = 0) = False := eq_false (nI_ne0 (by omega) (by omega))
    by_cases h1 : he (r k) - de (r k) ≤ p1
    · have b : pKb he de r p1 k = false := by simp [pKb, k0, h1]
      have c1 : (he (r k) - de (r k) ≤ p1) = True := eq_true h1
      rw [f_X5_keeps_L7]
      simp (disch := omega) only [↓jlt_e2, mkP_2cm, n1, if_false, jbd_nI, g27, k0', if_true, job_s2, p1', jcb_s2, c1, sF, gF, true_or, mkP_2kp, nI_1, zz, mkP_s2kp, b, Bool.false_eq_true]
    · have b : pKb he de r p1 k = true := by simp [pKb, h1]
      have c1 : (he (r k) - de (r k) ≤ p1) = False := eq_false h1
      rw [f_X5_keeps_L7]
      simp (disch := omega) only [↓jlt_e2, mkP_2cm, n1, if_false, jbd_nI, g27, k0', if_true, job_s2, p1', jcb_s2, c1, sT, gT, one0, false_or, mkP_2kp, nI_1, mkP_s2kp, b]
theorem sp_keeps_L (hcm : cm ≤ 48) (hr : ∀ k, k < cm → r k < 48) : ∀ (c f k : Nat) (kt : Nat → Bool) (kp : Nat), k + c = cm → c < f → f_X5_keeps_L7 i0 p1 f (nI k) (mkP i0 w i1 od (fun j => eN (r j)) pl va de pa be cm ca he kt kp) = some ((), mkP i0 w i1 od (fun j => eN (r j)) pl va de pa be cm ca he (pUs r (pKb he de r p1) c k kt) (pKp (pKb he de r p1) c k kp)) := by
  intro c
  induction c with
  | zero =>
    intro f k kt kp hk hf
    obtain ⟨f, rfl⟩ : ∃ f', f = f' + 1 := ⟨f - 1, by omega⟩
    rw [f_X5_keeps_L7, jlt_eq, mkP_2cm, if_pos ((nI_leI (by omega) (by omega)).mpr (by omega))]
    rfl
  | succ c ih =>
    intro f k kt kp hk hf
    obtain ⟨f, rfl⟩ : ∃ f', f = f' + 1 := ⟨f - 1, by omega⟩
    rw [sp_keeps_s (by omega) hcm (hr k (by omega)), ih f (k + 1) _ _ (by omega) (by omega)]
    rfl
theorem sp_keeps (hcm : cm ≤ 48) (hr : ∀ k, k < cm → r k < 48) : f_X5_keeps i0 p1 (mkP i0 w i1 od (fun j => eN (r j)) pl va de pa be cm ca he kt kp) = some ((), mkP i0 w i1 od (fun j => eN (r j)) pl va de pa be cm ca he (pUs r (pKb he de r p1) cm 0 kt) (pKp (pKb he de r p1) cm 0 0)) := by
  rw [f_X5_keeps, jlt_eq, show (0 : Int32) = nI 0 from rfl, mkP_s2kp]
  exact sp_keeps_L hcm hr cm jFU 0 kt 0 (by omega) (jFU_gt (by omega))
end PKE
def KP (i0 κ i k : Nat) : Prop := (κ = 3 ∧ 48 * i0 ≤ i ∧ i < 48 * i0 + 48) ∨ ((κ = 2 ∨ (27 ≤ κ ∧ κ ≤ 31)) ∧ i = i0)
section WFP
variable {i0 : Nat} {w w' : j_St} {i1 : Nat} {od : Nat → Nat} {pl : Nat → Nat} {va : Nat → Option Nat} {de : Nat → Int32} {pa be : Nat → Option Nat} {cm : Nat} {ca : Nat → Nat} {he : Nat → Int32} {kt : Nat → Bool} {kp : Nat} {r : Nat → Nat} {s : Nat → Nat} {n z : Nat}
/-- what is read of Peaks i0 -/
def pRd (i0 : Nat) (w : j_St) (od r pl : Nat → Nat) (va : Nat → Option Nat) (de : Nat → Int32) (pa be : Nat → Option Nat) (cm : Nat) (ca : Nat → Nat) (he : Nat → Int32) (kt : Nat → Bool) (kp : Nat) : Prop :=
  (∀ c, c < 48 → jgi w 3 (48 * i0 + c) 0 = nI (pl c) ∧ jgi w 3 (48 * i0 + c) 1 = he c ∧ jgi w 3 (48 * i0 + c) 2 = pOI (va c) ∧ jgi w 3 (48 * i0 + c) 3 = de c ∧ jgi w 3 (48 * i0 + c) 4 = nI (ca c) ∧ jgi w 3 (48 * i0 + c) 6 = pB (kt c) ∧ jgr w 3 (48 * i0 + c) 5 = pQ i0 (pa c)) ∧
  (∀ k, jgi w 29 i0 k = nI (od k) ∧ jgr w 27 i0 k = pQ i0 (eN (r k)) ∧ jgr w 28 i0 k = pQ i0 (be k)) ∧ jgi w 2 i0 5 = nI cm ∧ jgi w 2 i0 6 = nI kp
theorem mkP_Rd : pRd i0 (mkP i0 w i1 od (fun j => eN (r j)) pl va de pa be cm ca he kt kp) od r pl va de pa be cm ca he kt kp :=
  ⟨fun c hc => ⟨mkP_0 hc, mkP_1 hc, mkP_2 hc, mkP_3 hc, mkP_4 hc, mkP_6 hc, mkP_5 hc⟩, fun k => ⟨mkP_29, mkP_27, mkP_28⟩, mkP_2cm, mkP_2kp⟩
theorem mkP_self (h : pRd i0 w od r pl va de pa be cm ca he kt kp) (h4 : jgr w 2 i0 4 = some i1) : w = mkP i0 w i1 od (fun j => eN (r j)) pl va de pa be cm ca he kt kp := by
  obtain ⟨h1, h2, h3, h5⟩ := h
  refine Prod.ext (funext fun x => funext fun y => funext fun k => ?_) (Prod.ext rfl (Prod.ext (funext fun x => funext fun y => funext fun k => ?_) rfl))
  · show jgi w x y k = jgi (mkP i0 w i1 od (fun j => eN (r j)) pl va de pa be cm ca he kt kp) x y k
    by_cases c : x = 3 ∧ 48 * i0 ≤ y ∧ y < 48 * i0 + 48
    · obtain ⟨rfl, c1, c2⟩ := c
      obtain ⟨d, rfl⟩ : ∃ d, y = 48 * i0 + d := ⟨y - 48 * i0, by omega⟩
      have hd : d < 48 := by omega
      obtain ⟨g0, g1, g2, g3, g4, g6, -⟩ := h1 d hd
      by_cases k0 : k = 0
      · subst k0; rw [g0, mkP_0 hd]
      by_cases k1 : k = 1
      · subst k1; rw [g1, mkP_1 hd]
      by_cases k2 : k = 2
      · subst k2; rw [g2, mkP_2 hd]
      by_cases k3 : k = 3
      · subst k3; rw [g3, mkP_3 hd]
      by_cases k4 : k = 4
      · subst k4; rw [g4, mkP_4 hd]
      by_cases k6 : k = 6
      · subst k6; rw [g6, mkP_6 hd]
      simp [jgi, mkP, hd, k0, k1, k2, k3, k4, k6]
    by_cases c29 : x = 29 ∧ y = i0
    · obtain ⟨rfl, rfl⟩ := c29; rw [(h2 k).1, mkP_29]
    by_cases c5 : x = 2 ∧ y = i0 ∧ k = 5
    · obtain ⟨rfl, rfl, rfl⟩ := c5; rw [h3, mkP_2cm]
    by_cases c6 : x = 2 ∧ y = i0 ∧ k = 6
    · obtain ⟨rfl, rfl, rfl⟩ := c6; rw [h5, mkP_2kp]
    simp [jgi, mkP, c, c29, c5, c6]
  · show jgr w x y k = jgr (mkP i0 w i1 od (fun j => eN (r j)) pl va de pa be cm ca he kt kp) x y k
    by_cases c : x = 3 ∧ 48 * i0 ≤ y ∧ y < 48 * i0 + 48
    · obtain ⟨rfl, c1, c2⟩ := c
      obtain ⟨d, rfl⟩ : ∃ d, y = 48 * i0 + d := ⟨y - 48 * i0, by omega⟩
      have hd : d < 48 := by omega
      by_cases k5 : k = 5
      · subst k5; rw [(h1 d hd).2.2.2.2.2.2, mkP_5 hd]
      simp [jgr, mkP, hd, k5]
    by_cases c27 : x = 27 ∧ y = i0
    · obtain ⟨rfl, rfl⟩ := c27; rw [(h2 k).2.1, mkP_27]
    by_cases c28 : x = 28 ∧ y = i0
    · obtain ⟨rfl, rfl⟩ := c28; rw [(h2 k).2.2, mkP_28]
    by_cases c4 : x = 2 ∧ y = i0 ∧ k = 4
    · obtain ⟨rfl, rfl, rfl⟩ := c4; rw [h4, mkP_24]
    simp [jgr, mkP, c, c27, c28, c4]
theorem mkP_othi {κ i k : Nat} (h : ¬ KP i0 κ i k) : jgi (mkP i0 w i1 od (fun j => eN (r j)) pl va de pa be cm ca he kt kp) κ i k = jgi w κ i k := by
  unfold KP at h
  have c1 : ¬ (κ = 3 ∧ 48 * i0 ≤ i ∧ i < 48 * i0 + 48) := by omega
  have c2 : ¬ (κ = 29 ∧ i = i0) := by omega
  have c3 : ¬ (κ = 2 ∧ i = i0 ∧ k = 5) := by omega
  have c4 : ¬ (κ = 2 ∧ i = i0 ∧ k = 6) := by omega
  simp [jgi, mkP, c1, c2, c3, c4]
theorem mkP_othr {κ i k : Nat} (h : ¬ KP i0 κ i k) : jgr (mkP i0 w i1 od (fun j => eN (r j)) pl va de pa be cm ca he kt kp) κ i k = jgr w κ i k := by
  unfold KP at h
  have c1 : ¬ (κ = 3 ∧ 48 * i0 ≤ i ∧ i < 48 * i0 + 48) := by omega
  have c2 : ¬ (κ = 27 ∧ i = i0) := by omega
  have c3 : ¬ (κ = 28 ∧ i = i0) := by omega
  have c4 : ¬ (κ = 2 ∧ i = i0 ∧ k = 4) := by omega
  simp [jgr, mkP, c1, c2, c3, c4]
theorem mkP_same : pSame (KP i0) w (mkP i0 w i1 od (fun j => eN (r j)) pl va de pa be cm ca he kt kp) := ⟨fun _ _ _ h => mkP_othi h, fun _ _ _ _ => rfl, fun _ _ _ h => mkP_othr h, fun _ _ _ => rfl⟩
/-- Peaks i0 is typed -/
def WfP (i0 : Nat) (w : j_St) : Prop := ∃ (od r pl : Nat → Nat) (va : Nat → Option Nat) (de : Nat → Int32) (pa be : Nat → Option Nat) (cm : Nat) (ca : Nat → Nat) (he : Nat → Int32) (kt : Nat → Bool) (kp : Nat), pRd i0 w od r pl va de pa be cm ca he kt kp ∧ ∀ q, pSm (be q)
theorem pRd.same {K : Nat → Nat → Nat → Prop} (h : pRd i0 w od r pl va de pa be cm ca he kt kp) (g : pSame K w w') (hK : ∀ κ i k, KP i0 κ i k → ¬ (κ = 2 ∧ k = 4) → ¬ K κ i k) : pRd i0 w' od r pl va de pa be cm ca he kt kp := by
  obtain ⟨h1, h2, h3, h5⟩ := h
  have gi : ∀ κ i k, KP i0 κ i k → ¬ (κ = 2 ∧ k = 4) → jgi w' κ i k = jgi w κ i k := fun κ i k a b => g.1 κ i k (hK κ i k a b)
  have gr : ∀ κ i k, KP i0 κ i k → ¬ (κ = 2 ∧ k = 4) → jgr w' κ i k = jgr w κ i k := fun κ i k a b => g.2.2.1 κ i k (hK κ i k a b)
  refine ⟨fun c hc => ?_, fun k => ?_, ?_, ?_⟩
  · rw [gi 3 _ 0 (by unfold KP; omega) (by omega), gi 3 _ 1 (by unfold KP; omega) (by omega), gi 3 _ 2 (by unfold KP; omega) (by omega), gi 3 _ 3 (by unfold KP; omega) (by omega), gi 3 _ 4 (by unfold KP; omega) (by omega), gi 3 _ 6 (by unfold KP; omega) (by omega), gr 3 _ 5 (by unfold KP; omega) (by omega)]
    exact h1 c hc
  · rw [gi 29 _ k (by unfold KP; omega) (by omega), gr 27 _ k (by unfold KP; omega) (by omega), gr 28 _ k (by unfold KP; omega) (by omega)]
    exact h2 k
  · rw [gi 2 _ 5 (by unfold KP; omega) (by omega)]; exact h3
  · rw [gi 2 _ 6 (by unfold KP; omega) (by omega)]; exact h5
theorem WfP.same {K : Nat → Nat → Nat → Prop} (h : WfP i0 w) (g : pSame K w w') (hK : ∀ κ i k, KP i0 κ i k → ¬ (κ = 2 ∧ k = 4) → ¬ K κ i k) : WfP i0 w' := by
  obtain ⟨od, r, pl, va, de, pa, be, cm, ca, he, kt, kp, h, hb⟩ := h
  exact ⟨od, r, pl, va, de, pa, be, cm, ca, he, kt, kp, h.same g hK, hb⟩
/-- the component's peaks, read -/
def pCP (w : j_St) (i0 i1 : Nat) (s : Nat → Nat) (n z : Nat) : Prop := jgr w 2 i0 4 = some i1 ∧ jgi w 2 i0 5 = nI (cM s n) ∧ jgi w 2 i0 6 = nI (cK s n z) ∧ (∀ k, k < cM s n → jgr w 27 i0 k = some (48 * i0 + cW s n k)) ∧
  (∀ c, c < cM s n → jgi w 3 (48 * i0 + c) 0 = nI (cPl s n c) ∧ jgi w 3 (48 * i0 + c) 1 = nI (s (cPl s n c)) ∧ jgi w 3 (48 * i0 + c) 2 = pOI (cVa s n c) ∧ jgi w 3 (48 * i0 + c) 3 = nI (cDn s n c) ∧ jgr w 3 (48 * i0 + c) 5 = pQ i0 (cPa s n c)) ∧
  ∀ k, k < cM s n → jgi w 3 (48 * i0 + cW s n k) 6 = pB (decide (k < cK s n z))
/-- WHAT THE COMPONENT FINDS -/
theorem sp_cof (h : pCn w i1 (sI s) n) (h0 : 0 < n) (hs : ∀ k, k < n → s k ≤ 999) (hz : z ≤ 999) (hW : WfP i0 w) :
    ∃ w', f_X5_of i0 i1 (nI z) w = some ((), w') ∧ pSame (KP i0) w w' ∧ pCP w' i0 i1 s n z ∧ WfP i0 w' := by
  obtain ⟨od, r, pl, va, de, pa, be, cm, ca, he, kt, kp, hR, hb⟩ := hW
  have hn := h.2.2
  have s1 : pSame (fun κ i k => κ = 2 ∧ i = i0 ∧ k = 4) w (jsr w 2 i0 4 (some i1)) := pSame.jsr ⟨rfl, rfl, rfl⟩
  have hR1 := hR.same s1 (fun κ i k a b c => b ⟨c.1, c.2.2⟩)
  have h' : pCn (jsr w 2 i0 4 (some i1)) i1 (sI s) n := h
  have s2 : pSame (KP i0) w (jsr w 2 i0 4 (some i1)) := pSame.jsr (by unfold KP; omega)
  generalize hw1 : jsr w 2 i0 4 (some i1) = w1 at hR1 h' s2
  have e1 : w1 = mkP i0 w1 i1 od (fun j => eN (r j)) pl va de pa be cm ca he kt kp := mkP_self hR1 (by rw [← hw1]; exact (if_pos ⟨rfl, rfl, rfl⟩))
  have hom := cO_ord (a := sI s) (n := n)
  have hod : pOrd (sI s) n (pWh 0 (pOm (sI s)) n 0 od) := pOrd_is
  rw [f_X5_of, jlt_eq, hw1]
  have step : ∀ kk : j_St → Option (Unit × j_St), f_X5_of_L12 i0 i1 kk jFU 0 (jsi w1 2 i0 5 0) = kk (mkP i0 w1 i1 (pWh 0 (pOm (sI s)) n 0 od) (fun j => eN (r j)) pl va de pa (pBe0 n be) 0 ca he kt kp) := fun kk => by
    have e0 : pBe0 0 be = be := by funext q; unfold pBe0; rw [if_neg (by omega)]
    have := sp_of_L12 (i0 := i0) (rw := fun j => eN (r j)) (pl := pl) (va := va) (de := de) (pa := pa) (cm := 0) (ca := ca) (he := he) (kt := kt) (kp := kp) h' (kk := kk) n jFU 0 od be (by omega) (fun j hj => by omega) (jFU_gt (by omega))
    rw [e0] at this
    rw [e1, show (0 : Int32) = nI 0 from rfl, mkP_s2cm]
    rw [← e1]
    exact this
  rw [jlt_eq, step]
  obtain ⟨ca', he', gI, gL⟩ := sp_of_L96 (i0 := i0) (rw := fun j => eN (r j)) (kt := kt) (kp := kp) h' hod.1 (kk := fun (w44 : j_St) => jcb (f_X5_ends i0 w44) fun _ w46 => jcb (f_X5_keeps i0 (nI z) w46) fun _ w49 => some ((), w49)) n jFU 0 (pl, va, de, pa, pBe0 n be, 0) ca he ⟨⟨fun q => by
      show pSm (if q < n then none else be q)
      split
      · exact pSm_none
      · exact hb q, Nat.le_refl _⟩, fun q c e hq => (by
      have e : pBe0 n be q = some c := e
      rw [pBe0_lt hq] at e
      cases e), fun x hx => by have hx : x < 0 := hx; omega, fun x y _ hy => by have hy : y < 0 := hy; omega, fun x hx => by have hx : x < 0 := hx; omega⟩ (by omega) (jFU_gt (by omega))
  obtain ⟨hJ, -⟩ := pT_all (S := (pl, va, de, pa, pBe0 n be, 0)) h0 hod (fun q hq => pBe0_lt hq) rfl
  obtain ⟨-, hend⟩ := pJ_end h0 hod hJ
  have hF : pF (pLet (sI s) n (pWh 0 (pOm (sI s)) n 0 od) (pl, va, de, pa, be, 0)) (cS (sI s) n) := pLet_F h0 hod
  unfold pLet at hF
  simp only [] at hF
  rw [show (0 : Int32) = nI 0 from rfl]
  refine (show ∃ w', _ = some ((), w') ∧ pSame (KP i0) w w' ∧ pCP w' i0 i1 s n z ∧ WfP i0 w' from ?_)
  simp only [show ∀ ca he kt kp, mkP i0 w1 i1 (pWh 0 (pOm (sI s)) n 0 od) (fun j => eN (r j)) pl va de pa (pBe0 n be) 0 ca he kt kp = mkQ i0 w1 i1 (pWh 0 (pOm (sI s)) n 0 od) (fun j => eN (r j)) (pl, va, de, pa, pBe0 n be, 0) ca he kt kp from fun _ _ _ _ => rfl]
  rw [gL]
  generalize pLets (sI s) n (pWh 0 (pOm (sI s)) n 0 od) n 0 (pl, va, de, pa, pBe0 n be, 0) = T at gI hJ hend hF
  obtain ⟨pl', va', de', pa', be', cm'⟩ := T
  obtain ⟨j1, j2, j3, j4, j5, j6, j7, j8, j9, j10⟩ := hJ
  obtain ⟨⟨i1', i2'⟩, i3', i4', i5', i6'⟩ := gI
  simp only [] at j1 j2 j3 j4 j5 j6 j7 j8 j9 j10 i1' i2' i3' i4' i5' i6' hend hF
  obtain ⟨k1, k2, k3⟩ := j8 h0
  have hpl : ∀ x, x < cm' → pl' x < n := fun x hx => by
    obtain ⟨k, hk, e⟩ := j6 x hx
    rw [← e]
    exact hod.1 k hk
  have hv : ∀ x, x < cm' → (va' x = none ↔ x = 0) := fun x hx => ⟨fun e => by
    apply Classical.byContradiction
    intro hx0
    exact hend x (by omega) hx e, fun e => by rw [e]; exact k2⟩
  have hvs : ∀ x, x < cm' → pSm (va' x) := fun x hx b e => by have := (j7 x b hx e).1; omega
  have hpa0 : pa' 0 = none := (j4 0 k1 k2).1
  have hends := sp_ends (i0 := i0) (w := w1) (od := pWh 0 (pOm (sI s)) n 0 od) (pl := pl') (va := va') (de := de') (pa := pa') (be := be') (cm := cm') (ca := ca') (he := he') (kt := kt) (kp := kp) h' h0 (by omega) k1 hv hvs (fun x hx => by have := hpl x hx; omega) i6' (fun x hx hx0 => by
    obtain ⟨l, hl, -⟩ := j5 x hx (hend x (by omega) hx)
    exact ⟨l, hl⟩) hpa0 (r := r)
  have ec : cm' = cM s n := hF.1
  have hW1 : ∀ k, k < cm' → pWh 1 (pMv (sI s) (pl', va', up de' 0 (pLst (sI s) (n - 1) 1 (sI s 0)), pa', be', cm')) cm' 0 r k = cW s n k := fun k hk => by
    rw [ec] at hk ⊢
    exact pWh_congr (N := cM s n) (fun c q hc hq => cAh_is hs h0 (by rw [← ec]; exact hF) hc hq) (cM s n) 0 r (fun _ => 0) (by omega) (fun j hj => by omega) (fun j hj => by omega) k (by omega)
  show ∃ w', jcb (f_X5_ends i0 (mkP i0 w1 i1 (pWh 0 (pOm (sI s)) n 0 od) (fun j => eN (r j)) pl' va' de' pa' be' cm' ca' he' kt kp)) _ = _ ∧ _
  rw [hends, jcb_some']
  generalize pWh 1 (pMv (sI s) (pl', va', up de' 0 (pLst (sI s) (n - 1) 1 (sI s 0)), pa', be', cm')) cm' 0 r = r' at hW1
  have hr' : ∀ k, k < cm' → r' k < 48 := fun k hk => by
    rw [hW1 k hk]
    have := cW_lt (s := s) h0 (by rw [← ec]; exact hk)
    have := cM_le (s := s) h0
    omega
  have hcm := cM_le (s := s) h0
  rw [sp_keeps (by omega) hr', jcb_some']
  refine ⟨_, rfl, s2.trans mkP_same, ?_, ⟨_, _, _, _, _, _, _, _, _, _, _, _, mkP_Rd, i1'⟩⟩
  generalize up de' 0 (pLst (sI s) (n - 1) 1 (sI s 0)) = de2 at hF
  have fc : ∀ c, c < cM s n → pl' c = cPl s n c ∧ va' c = cVa s n c ∧ de2 c = nI (cDn s n c) ∧ pa' c = cPa s n c := fun c hc => by
    obtain ⟨a1, a2, a3, a4⟩ := hF.2 c (by show c < cm'; rw [ec]; exact hc)
    exact ⟨a1, a2, by rw [← cDn_is hs h0 hc]; exact a3, a4⟩
  have kb : ∀ k, k < cM s n → pKb he' de2 r' (nI z) k = cKt s n z k := fun k hk => by
    have hw := cW_lt h0 hk
    obtain ⟨a1, a2, a3, a4⟩ := fc _ hw
    have l1 := cLf_le hs h0 hw
    unfold pKb cKt
    rw [hW1 k (by omega), i6' _ (by rw [ec]; exact hw), a3, a1, show sI s (cPl s n (cW s n k)) = nI (s (cPl s n (cW s n k))) from rfl, nI_sub (cDn_le hs h0 hw)]
    show (decide (k = 0) || !decide (nI (cLf s n (cW s n k)) ≤ nI z)) = _
    have d1 : (nI (cLf s n (cW s n k)) ≤ nI z) = (cLf s n (cW s n k) ≤ z) := propext (nI_leI (by omega) (by omega))
    have d2 : (!decide (cLf s n (cW s n k) ≤ z)) = decide (z < cLf s n (cW s n k)) := by
      rw [Bool.eq_iff_iff]
      simp
    simp only [d1]
    rw [d2]
  refine ⟨mkP_24, by rw [mkP_2cm, ec], ?_, fun k hk => ?_, fun c hc => ?_, fun k hk => ?_⟩
  · rw [mkP_2kp, ec]
    exact congrArg nI (pKp_congr _ _ _ fun j _ hj => kb j (by omega))
  · rw [mkP_27, hW1 k (by omega), eN_lt (by have := cW_lt h0 hk; omega)]
    rfl
  · obtain ⟨a1, a2, a3, a4⟩ := fc c hc
    have hc48 : c < 48 := by omega
    rw [mkP_0 hc48, mkP_1 hc48, mkP_2 hc48, mkP_3 hc48, mkP_5 hc48, a1, a2, a3, a4, i6' c (by omega), a1]
    exact ⟨rfl, rfl, rfl, rfl, rfl⟩
  · have hw := cW_lt h0 hk
    rw [mkP_6 (by omega), ← hW1 k (by omega), ec, pUs_val (cM s n) 0 kt (fun i j _ hij hj => by rw [hW1 i (by omega), hW1 j (by omega)]; exact cW_ne h0 (by omega) (by omega) (by omega)) k (Nat.zero_le _) (by omega), kb k hk]
    congr 1
    rw [Bool.eq_iff_iff, cK_iff h0 hk]
    simp
end WFP
