/-! the pure law: what is fed -/
section FEED
variable {w w' : j_St} {A A' : pA} {X : pX}
def sh (k : Nat) : Int32 := 24 - nI (8 * k)
def fB (x : Int32) (k : Nat) : Nat := ((x >>> (sh k &&& 31)) &&& 255).toBitVec.toNat
theorem and255 (y : Int32) : y &&& 255 = nI (y &&& 255).toBitVec.toNat := by
  apply Int32.toBitVec_inj.mp
  unfold nI
  simp
theorem and255_lt (y : Int32) : (y &&& 255).toBitVec.toNat < 256 := by
  rw [Int32.toBitVec_and, BitVec.toNat_and]
  have : (255 : Int32).toBitVec.toNat = 255 := by decide
  rw [this]
  have := Nat.and_le_right (n := y.toBitVec.toNat) (m := 255)
  omega
theorem fB_is (x : Int32) (k : Nat) : (x >>> (sh k &&& 31)) &&& 255 = nI (fB x k) := and255 _
theorem fB_lt (x : Int32) (k : Nat) : fB x k < 256 := and255_lt _
theorem fB_byte (x : Int32) (k : Nat) : ((x >>> (sh k &&& 31)).toInt8.toInt32).toInt8.toInt32 = (nI (fB x k)).toInt8.toInt32 := by
  rw [← fB_is, Int32.toInt8_and, show (255 : Int32).toInt8 = -1 by decide]
  simp
/-- one byte more, if it is one -/
abbrev pP : Type := Nat × (Nat → Nat)
def fS (b : Nat) (P : pP) : pP := if b = 0 then P else (P.1 + 1, up P.2 P.1 b)
def fN (g : Nat → Nat) (c : Nat) : Nat := pIt (fun m v => v + if g m = 0 then 0 else 1) c 0 0
def fF (g : Nat → Nat) (c : Nat) (P : pP) : pP := pIt (fun m P => fS (g m) P) c 0 P
theorem pIt_cnt {g : Nat → Nat} : ∀ (c m v : Nat), pIt (fun m v => v + if g m = 0 then 0 else 1) c m v = v + pIt (fun m v => v + if g m = 0 then 0 else 1) c m 0 := by
  intro c
  induction c with
  | zero => intro m v; rfl
  | succ c ih =>
    intro m v
    show pIt _ c (m + 1) (v + if g m = 0 then 0 else 1) = v + pIt _ c (m + 1) (0 + if g m = 0 then 0 else 1)
    rw [ih, ih (m + 1) (0 + _)]
    omega
theorem fF_1 {g : Nat → Nat} : ∀ (c m : Nat) (P : pP), (pIt (fun m P => fS (g m) P) c m P).1 = P.1 + pIt (fun m v => v + if g m = 0 then 0 else 1) c m 0 := by
  intro c
  induction c with
  | zero => intro m P; rfl
  | succ c ih =>
    intro m P
    show (pIt _ c (m + 1) (fS (g m) P)).1 = P.1 + pIt _ c (m + 1) (0 + if g m = 0 then 0 else 1)
    rw [ih, pIt_cnt c (m + 1) (0 + _)]
    unfold fS
    split <;> (try dsimp only) <;> omega
theorem fN_le {g : Nat → Nat} : ∀ (c m : Nat), pIt (fun m v => v + if g m = 0 then 0 else 1) c m 0 ≤ c := by
  intro c
  induction c with
  | zero => intro m; exact Nat.le_refl _
  | succ c ih =>
    intro m
    show pIt _ c (m + 1) (0 + if g m = 0 then 0 else 1) ≤ c + 1
    rw [pIt_cnt]
    have := ih (m + 1)
    split <;> omega
def setP (A : pA) (P : pP) : pA := (P, A.2)
theorem setP_self : setP A (A.1.1, A.1.2) = A := rfl
def wfP (P : pP) : Prop := ∀ k, k < P.1 → 1 ≤ P.2 k ∧ P.2 k ≤ 255
theorem fS_wf {P : pP} {b : Nat} (h : wfP P) (hb : b < 256) : wfP (fS b P) := by
  unfold fS
  split
  · exact h
  · intro k hk
    show 1 ≤ up P.2 P.1 b k ∧ up P.2 P.1 b k ≤ 255
    have hk : k < P.1 + 1 := hk
    by_cases e : k = P.1
    · rw [e, up_same]
      omega
    · rw [up_ne e]
      exact h k (by omega)
theorem fF_wf {g : Nat → Nat} (hg : ∀ k, g k < 256) : ∀ (c m : Nat) (P : pP), wfP P → wfP (pIt (fun m P => fS (g m) P) c m P) := by
  intro c
  induction c with
  | zero => intro m P h; exact h
  | succ c ih => intro m P h; exact ih (m + 1) _ (fS_wf h (hg m))
theorem setP_wf (hA : wfA A) {P : pP} (h : wfP P) (h4 : P.1 ≤ 400) : wfA (setP A P) := ⟨⟨h4, h⟩, hA.2⟩
theorem c_put {P : pP} (hC : RelC (setP A P) w) {b : Nat} (h0 : b ≠ 0) {v : Int32} (hv : v = (nI b).toInt8.toInt32) : RelC (setP A (fS b P)) (jsi (jsi w 20 0 P.1 v) 0 0 3 (nI (P.1 + 1))) := by
  obtain ⟨h1, h2, h3, h4, h5, h6, h7, p0, p1, h10⟩ := hC
  have g : pSame (fun κ i k => κ = 20 ∨ (κ = 0 ∧ k = 3)) w (jsi (jsi w 20 0 P.1 v) 0 0 3 (nI (P.1 + 1))) := (pSame.jsi (Or.inl rfl)).trans (pSame.jsi (Or.inr ⟨rfl, rfl⟩))
  have e : fS b P = (P.1 + 1, up P.2 P.1 b) := if_neg h0
  rw [e]
  refine ⟨⟨jgi_eq, fun j hj => ?_⟩, h2.sm g (by omega) (fun k => by omega) (fun κ q k a b => by omega) (Nat.le_refl _), h3.sm g (by omega) (fun κ q k a b => by omega) (fun q k a => by omega) (fun q k a => by omega) (fun k => by omega) (Nat.le_refl _) (Nat.le_refl _) (Nat.le_refl _), h4.sm g (by omega) (fun k => by omega), h5.sm g (by omega) (fun k => by omega) (fun b k a c => by omega) (Nat.le_refl _), h6.sm g (by omega), h7.same g (fun κ i k hk => by omega), p0.low g (fun κ i k y => by omega), p1.low g (fun κ i k y => by omega), h10⟩
  have hj : j < P.1 + 1 := hj
  show jgi _ 20 0 j = (nI (up P.2 P.1 b j)).toInt8.toInt32
  rw [jgi_ne (by omega)]
  by_cases c : j = P.1
  · rw [c, jgi_eq, up_same, hv]
  · rw [jgi_ne (by omega), up_ne c]
    exact h1.2 j (show j < P.1 by omega)
theorem m_put {P : pP} (hA : wfA A) (hM : RelM (setP A P) w) {b : Nat} (h0 : b ≠ 0) : RelM (setP A (fS b P)) (jsi (jsi w 40 0 P.1 (nI b)) 1 0 2 (nI (P.1 + 1))) := by
  obtain ⟨h1, h2, h3, h4, h5, h6, p0⟩ := hM
  have g : pSame (fun κ i k => κ = 40 ∨ (κ = 1 ∧ k = 2)) w (jsi (jsi w 40 0 P.1 (nI b)) 1 0 2 (nI (P.1 + 1))) := (pSame.jsi (Or.inl rfl)).trans (pSame.jsi (Or.inr ⟨rfl, rfl⟩))
  have e : fS b P = (P.1 + 1, up P.2 P.1 b) := if_neg h0
  rw [e]
  have h2' : mScr A w := h2
  have h2s : mScr A (jsi (jsi w 40 0 P.1 (nI b)) 1 0 2 (nI (P.1 + 1))) := h2'.sm hA g (by omega) (fun k a => by omega) (fun k a => by omega)
  refine ⟨⟨jgi_eq, fun j hj => ?_⟩, h2s, h3.sm g (by omega) (fun k => by omega), h4.sm g (by omega) (fun k => by omega), h5.sm g (by omega) (fun k => by omega), h6.sm g (by omega), p0.same g (fun κ i k a b => by unfold KA at a; omega)⟩
  have hj : j < P.1 + 1 := hj
  show jgi _ 40 0 j = nI (up P.2 P.1 b j)
  rw [jgi_ne (by omega)]
  by_cases c : j = P.1
  · rw [c, jgi_eq, up_same]
  · rw [jgi_ne (by omega), up_ne c]
    exact h1.2 j (show j < P.1 by omega)
theorem sh_next {k : Nat} (hk : k < 4) : ¬ sh k < 0 ∧ sh k + (-8) = sh (k + 1) := by
  rcases (show k = 0 ∨ k = 1 ∨ k = 2 ∨ k = 3 by omega) with rfl | rfl | rfl | rfl <;> exact ⟨by decide, by decide⟩
theorem nI0 : nI 0 = 0 := rfl
theorem c_bytes (x : Int32) : f_X1_bytes x w = some (nI (fN (fB x) 4), w) := by
  have := pIt_is' (F := fun f m (v : Nat) => f_X1_bytes_L5 x f (nI v) (sh m) w) (step := fun m v => v + if fB x m = 0 then 0 else 1) (N := 4) (G := fun v => some (nI v, w)) (fun f m v hm => ?_) (fun f v => ?_) 4 jFU 0 0 (by omega) (jFU_gt (by omega))
  · refine Eq.trans ?_ this
    show f_X1_bytes x w = f_X1_bytes_L5 x jFU (nI 0) (sh 0) w
    rw [f_X1_bytes, show sh 0 = 24 by decide, nI0]
  · show f_X1_bytes_L5 x (f + 1) (nI v) (sh m) w = f_X1_bytes_L5 x f (nI (v + if fB x m = 0 then 0 else 1)) (sh (m + 1)) w
    obtain ⟨s1, s2⟩ := sh_next hm
    have lt := fB_lt x m
    rw [f_X1_bytes_L5, if_neg s1, fB_is, jlt_eq]
    by_cases c : fB x m = 0
    · rw [if_pos c, c, if_pos (by decide)]
      dsimp only
      rw [jlt_eq, jlt_eq, s2, Int32.add_zero]
      rfl
    · rw [if_neg c, if_neg (nI_ne0 (by omega) (by omega))]
      dsimp only
      rw [jlt_eq, jlt_eq, s2, nI_1]
  · show f_X1_bytes_L5 x (f + 1) (nI v) (sh 4) w = some (nI v, w)
    rw [f_X1_bytes_L5, if_pos (by decide)]
theorem c_bring4 (x : Int32) : ∀ (c m f : Nat) (P : pP) (w : j_St), m + c = 4 → c < f → P.1 + pIt (fun m v => v + if fB x m = 0 then 0 else 1) c m 0 ≤ 400 → RelC (setP A P) w → ∃ w', f_X1_bring_L3 x f (sh m) w = some ((), w') ∧ RelC (setP A (pIt (fun m P => fS (fB x m) P) c m P)) w' ∧ pSame KXC w w' := by
  intro c
  induction c with
  | zero =>
    intro m f P w hm hf h4 hC
    obtain ⟨f, rfl⟩ : ∃ f', f = f' + 1 := ⟨f - 1, by omega⟩
    have : m = 4 := by omega
    subst this
    exact ⟨w, by rw [f_X1_bring_L3, if_pos (by decide)], hC, pSame.refl⟩
  | succ c ih =>
    intro m f P w hm hf h4 hC
    obtain ⟨f, rfl⟩ : ∃ f', f = f' + 1 := ⟨f - 1, by omega⟩
    obtain ⟨s1, s2⟩ := sh_next (k := m) (by omega)
    have lt := fB_lt x m
    have h4' : P.1 + pIt (fun m v => v + if fB x m = 0 then 0 else 1) c (m + 1) (0 + if fB x m = 0 then 0 else 1) ≤ 400 := h4
    rw [pIt_cnt] at h4'
    by_cases b : fB x m = 0
    · have e : fS (fB x m) P = P := if_pos b
      rw [if_pos b] at h4'
      obtain ⟨w2, e2, r2, g2⟩ := ih (m + 1) f P w (by omega) (by omega) (by omega) hC
      refine ⟨w2, ?_, ?_, g2⟩
      · rw [f_X1_bring_L3, if_neg s1, fB_is, jlt_eq, b, if_pos (by decide)]
        dsimp only
        rw [jlt_eq, s2]
        exact e2
      · show RelC (setP A (pIt _ c (m + 1) (fS (fB x m) P))) w2
        rw [e]
        exact r2
    · rw [if_neg b] at h4'
      have hC1 := c_put hC b (v := ((x >>> (sh m &&& 31)).toInt8.toInt32).toInt8.toInt32) (fB_byte x m)
      have f1 : (fS (fB x m) P).1 = P.1 + 1 := by unfold fS; rw [if_neg b]
      obtain ⟨w2, e2, r2, g2⟩ := ih (m + 1) f (fS (fB x m) P) _ (by omega) (by omega) (by omega) hC1
      refine ⟨w2, ?_, r2, ((pSame.jsi (by unfold KXC; omega)).trans (pSame.jsi (by unfold KXC; omega))).trans g2⟩
      have i3 : jgi w 0 0 3 = nI P.1 := hC.1.1
      rw [f_X1_bring_L3, if_neg s1, fB_is, jlt_eq, if_neg (nI_ne0 (by omega) (by omega)), jlt_eq, i3, jbd_nI (by omega) (by decide), jlt_eq, jlt_eq, jgi_ne (by omega), i3, jlt_eq, nI_1]
      dsimp only
      rw [jlt_eq, s2]
      exact e2
theorem c_bring (x : Int32) {P : pP} (h4 : P.1 + fN (fB x) 4 ≤ 400) (hC : RelC (setP A P) w) : ∃ w', f_X1_bring x w = some ((), w') ∧ RelC (setP A (fF (fB x) 4 P)) w' ∧ pSame KXC w w' := c_bring4 x 4 0 jFU P w (by omega) (jFU_gt (by omega)) h4 hC
/-- the twenty bytes -/
def gB (p0 p1 p2 p3 p4 : Int32) (k : Nat) : Nat := if k < 4 then fB p0 k else if k < 8 then fB p1 (k - 4) else if k < 12 then fB p2 (k - 8) else if k < 16 then fB p3 (k - 12) else fB p4 (k - 16)
theorem gB_lt {p0 p1 p2 p3 p4 : Int32} (k : Nat) : gB p0 p1 p2 p3 p4 k < 256 := by
  unfold gB
  repeat' split
  all_goals exact fB_lt _ _
theorem m_byteOf {p0 p1 p2 p3 p4 : Int32} {k : Nat} (hk : k < 20) : f_X9_byteOf p0 p1 p2 p3 p4 (nI k) w = some (nI (gB p0 p1 p2 p3 p4 k), w) := by
  have hs : ∀ k : Fin 20, ((24 - (8 * (nI k.val - nI k.val / 4 * 4))) &&& 31) = (sh (k.val % 4) &&& 31) := by decide +kernel
  have hs := hs ⟨k, hk⟩
  have le : ∀ a : Nat, a < 32 → (nI a ≤ nI k ↔ a ≤ k) := fun a ha => nI_leI (by omega) (by omega)
  have fin : ∀ (x : Int32) (j : Nat), k % 4 = j → (x >>> ((24 - (8 * (nI k - nI k / 4 * 4))) &&& 31)) &&& 255 = nI (fB x j) := fun x j hj => by
    rw [hs, ← fB_is]
    show (x >>> (sh (k % 4) &&& 31)) &&& 255 = _
    rw [hj]
  rw [f_X9_byteOf, jlt_eq]
  unfold gB
  by_cases c1 : k < 4
  · rw [if_pos c1, if_neg (show ¬ (4 : Int32) ≤ nI k from fun z => by have := (le 4 (by decide)).mp z; omega)]
    dsimp only
    rw [fin p0 k (by omega)]
  · rw [if_neg c1, if_pos (show (4 : Int32) ≤ nI k from (le 4 (by decide)).mpr (by omega))]
    by_cases c2 : k < 8
    · rw [if_pos c2, if_neg (show ¬ (8 : Int32) ≤ nI k from fun z => by have := (le 8 (by decide)).mp z; omega)]
      dsimp only
      rw [fin p1 (k - 4) (by omega)]
    · rw [if_neg c2, if_pos (show (8 : Int32) ≤ nI k from (le 8 (by decide)).mpr (by omega))]
      by_cases c3 : k < 12
      · rw [if_pos c3, if_neg (show ¬ (12 : Int32) ≤ nI k from fun z => by have := (le 12 (by decide)).mp z; omega)]
        dsimp only
        rw [fin p2 (k - 8) (by omega)]
      · rw [if_neg c3, if_pos (show (12 : Int32) ≤ nI k from (le 12 (by decide)).mpr (by omega))]
        by_cases c4 : k < 16
        · rw [if_pos c4, if_neg (show ¬ (16 : Int32) ≤ nI k from fun z => by have := (le 16 (by decide)).mp z; omega)]
          dsimp only
          rw [fin p3 (k - 12) (by omega)]
        · rw [if_neg c4, if_pos (show (16 : Int32) ≤ nI k from (le 16 (by decide)).mpr (by omega))]
          dsimp only
          rw [fin p4 (k - 16) (by omega)]
theorem fN20 {p0 p1 p2 p3 p4 : Int32} : fN (gB p0 p1 p2 p3 p4) 20 = fN (fB p0) 4 + fN (fB p1) 4 + fN (fB p2) 4 + fN (fB p3) 4 + fN (fB p4) 4 := by
  simp only [fN, pIt, gB, Nat.zero_add, Nat.add_assoc]
  rfl
theorem fF20 {p0 p1 p2 p3 p4 : Int32} {P : pP} : fF (gB p0 p1 p2 p3 p4) 20 P = fF (fB p4) 4 (fF (fB p3) 4 (fF (fB p2) 4 (fF (fB p1) 4 (fF (fB p0) 4 P)))) := rfl
theorem m_feed62 {p0 p1 p2 p3 p4 : Int32} (hA : wfA A) : ∀ (c m f : Nat) (P : pP) (w : j_St), m + c = 20 → c < f → P.1 + pIt (fun m v => v + if gB p0 p1 p2 p3 p4 m = 0 then 0 else 1) c m 0 ≤ 400 → RelM (setP A P) w → ∃ w', f_X9_feed_L62 p0 p1 p2 p3 p4 f (nI m) w = some (nI (pIt (fun m P => fS (gB p0 p1 p2 p3 p4 m) P) c m P).1, w') ∧ RelM (setP A (pIt (fun m P => fS (gB p0 p1 p2 p3 p4 m) P) c m P)) w' ∧ pSame KXM w w' := by
  intro c
  induction c with
  | zero =>
    intro m f P w hm hf h4 hM
    obtain ⟨f, rfl⟩ : ∃ f', f = f' + 1 := ⟨f - 1, by omega⟩
    have : m = 20 := by omega
    subst this
    have i2 : jgi w 1 0 2 = nI P.1 := hM.1.1
    exact ⟨w, by rw [f_X9_feed_L62, if_pos (by decide), jlt_eq, i2]; rfl, hM, pSame.refl⟩
  | succ c ih =>
    intro m f P w hm hf h4 hM
    obtain ⟨f, rfl⟩ : ∃ f', f = f' + 1 := ⟨f - 1, by omega⟩
    have lt := gB_lt (p0 := p0) (p1 := p1) (p2 := p2) (p3 := p3) (p4 := p4) m
    have ng : ¬ (20 : Int32) ≤ nI m := fun z => by have := (nI_leI (a := 20) (b := m) (by omega) (by omega)).mp z; omega
    have eb := m_byteOf (p0 := p0) (p1 := p1) (p2 := p2) (p3 := p3) (p4 := p4) (w := w) (k := m) (by omega)
    have h4' : P.1 + pIt (fun m v => v + if gB p0 p1 p2 p3 p4 m = 0 then 0 else 1) c (m + 1) (0 + if gB p0 p1 p2 p3 p4 m = 0 then 0 else 1) ≤ 400 := h4
    rw [pIt_cnt] at h4'
    show ∃ w', _ = some (nI (pIt _ c (m + 1) (fS (gB p0 p1 p2 p3 p4 m) P)).1, w') ∧ RelM (setP A (pIt _ c (m + 1) (fS (gB p0 p1 p2 p3 p4 m) P))) w' ∧ _
    generalize gB p0 p1 p2 p3 p4 m = y at lt eb h4'
    by_cases b : y = 0
    · have e : fS y P = P := if_pos b
      rw [if_pos b] at h4'
      obtain ⟨w2, e2, r2, g2⟩ := ih (m + 1) f P w (by omega) (by omega) (by omega) hM
      refine ⟨w2, ?_, by rw [e]; exact r2, g2⟩
      rw [f_X9_feed_L62, if_neg ng, eb, jcb_s2, jlt_eq, b, if_pos (by decide)]
      dsimp only
      rw [jlt_eq, nI_1, e2, ← b, e]
    · rw [if_neg b] at h4'
      have hM1 := m_put hA hM b
      have f1 : (fS y P).1 = P.1 + 1 := by unfold fS; rw [if_neg b]
      obtain ⟨w2, e2, r2, g2⟩ := ih (m + 1) f (fS y P) _ (by omega) (by omega) (by omega) hM1
      refine ⟨w2, ?_, r2, ((pSame.jsi (by unfold KXM; omega)).trans (pSame.jsi (by unfold KXM; omega))).trans g2⟩
      have i2 : jgi w 1 0 2 = nI P.1 := hM.1.1
      rw [f_X9_feed_L62, if_neg ng, eb, jcb_s2, jlt_eq, if_neg (nI_ne0 (by omega) (by omega)), jlt_eq, i2, jbd_nI (by omega) (by decide), jlt_eq, jlt_eq, jgi_ne (by omega), i2, jlt_eq, nI_1]
      dsimp only
      rw [jlt_eq, nI_1]
      exact e2
theorem o_feed (hA : wfA A) (p0 p1 p2 p3 p4 : Int32) : pOp A (f_X1_feed p0 p1 p2 p3 p4) (f_X9_feed p0 p1 p2 p3 p4) := by
  have tl := hA.1.1
  have n20 := fN20 (p0 := p0) (p1 := p1) (p2 := p2) (p3 := p3) (p4 := p4)
  have le0 := fN_le (g := fB p0) 4 0
  have le1 := fN_le (g := fB p1) 4 0
  have le2 := fN_le (g := fB p2) 4 0
  have le3 := fN_le (g := fB p3) 4 0
  have le4 := fN_le (g := fB p4) 4 0
  have l20 : fN (gB p0 p1 p2 p3 p4) 20 ≤ 20 := fN_le (g := gB p0 p1 p2 p3 p4) 20 0
  have le : nI (aTl A) + nI (fN (gB p0 p1 p2 p3 p4) 20) ≤ (400 : Int32) ↔ aTl A + fN (gB p0 p1 p2 p3 p4) 20 ≤ 400 := by
    rw [nI_add]
    exact nI_leI (b := 400) (by omega) (by omega)
  have ec : ∀ w, f_X1_feed p0 p1 p2 p3 p4 w = (if jgi w 0 0 3 + nI (fN (gB p0 p1 p2 p3 p4) 20) ≤ 400 then jcb (f_X1_bring p0 w) fun _ w19 => jcb (f_X1_bring p1 w19) fun _ w22 => jcb (f_X1_bring p2 w22) fun _ w25 => jcb (f_X1_bring p3 w25) fun _ w28 => jcb (f_X1_bring p4 w28) fun _ w31 => jlt (jgi w31 0 0 3) fun v33 => some (v33, w31) else some ((-1), w)) := fun w => by
    rw [f_X1_feed, c_bytes, jcb_s2, c_bytes, jcb_s2, c_bytes, jcb_s2, c_bytes, jcb_s2, c_bytes, jcb_s2, nI_add, nI_add, nI_add, nI_add, ← n20, jlt_eq, jlt_eq]
  have em : ∀ w, f_X9_feed p0 p1 p2 p3 p4 w = (if jgi w 1 0 2 + nI (fN (gB p0 p1 p2 p3 p4) 20) ≤ 400 then f_X9_feed_L62 p0 p1 p2 p3 p4 jFU 0 w else some ((-1), w)) := fun w => by
    have := pIt_is' (F := fun f m (v : Nat) => f_X9_feed_L6 p0 p1 p2 p3 p4 (fun (v11 : Int32) (w12 : j_St) => jlt (jgi w12 1 0 2) fun v13 => if v13 + v11 ≤ 400 then f_X9_feed_L62 p0 p1 p2 p3 p4 jFU 0 w12 else some ((-1), w12)) f (nI v) (nI m) w) (step := fun m v => v + if gB p0 p1 p2 p3 p4 m = 0 then 0 else 1) (N := 20) (G := fun v => if jgi w 1 0 2 + nI v ≤ 400 then f_X9_feed_L62 p0 p1 p2 p3 p4 jFU 0 w else some ((-1), w)) (fun f m v hm => ?_) (fun f v => ?_) 20 jFU 0 0 (by omega) (jFU_gt (by omega))
    · exact this
    · show f_X9_feed_L6 p0 p1 p2 p3 p4 _ (f + 1) (nI v) (nI m) w = f_X9_feed_L6 p0 p1 p2 p3 p4 _ f (nI (v + if gB p0 p1 p2 p3 p4 m = 0 then 0 else 1)) (nI (m + 1)) w
      have lt := gB_lt (p0 := p0) (p1 := p1) (p2 := p2) (p3 := p3) (p4 := p4) m
      rw [f_X9_feed_L6, if_neg (show ¬ (20 : Int32) ≤ nI m from fun z => by have := (nI_leI (a := 20) (b := m) (by omega) (by omega)).mp z; omega), m_byteOf hm, jcb_s2, jlt_eq]
      by_cases c : gB p0 p1 p2 p3 p4 m = 0
      · rw [if_pos c, c, if_pos (by decide)]
        dsimp only
        rw [jlt_eq, jlt_eq, nI_1, Int32.add_zero]
        rfl
      · rw [if_neg c, if_neg (nI_ne0 (by omega) (by omega))]
        dsimp only
        rw [jlt_eq, jlt_eq, nI_1, nI_1]
    · show f_X9_feed_L6 p0 p1 p2 p3 p4 _ (f + 1) (nI v) (nI 20) w = _
      rw [f_X9_feed_L6, if_pos (by decide), jlt_eq]
  by_cases h : aTl A + fN (gB p0 p1 p2 p3 p4) 20 ≤ 400
  · have f1 : (fF (gB p0 p1 p2 p3 p4) 20 A.1).1 = aTl A + fN (gB p0 p1 p2 p3 p4) 20 := fF_1 20 0 A.1
    refine pOp_of (A' := setP A (fF (gB p0 p1 p2 p3 p4) 20 A.1)) (r := nI (fF (gB p0 p1 p2 p3 p4) 20 A.1).1) (setP_wf hA (fF_wf gB_lt 20 0 A.1 hA.1.2) (by omega)) (fun w hC => ?_) (fun w hM => ?_)
    · have a0 : (fF (fB p0) 4 A.1).1 = aTl A + fN (fB p0) 4 := fF_1 4 0 A.1
      have a1 : (fF (fB p1) 4 (fF (fB p0) 4 A.1)).1 = (fF (fB p0) 4 A.1).1 + fN (fB p1) 4 := fF_1 4 0 _
      have a2 : (fF (fB p2) 4 (fF (fB p1) 4 (fF (fB p0) 4 A.1))).1 = (fF (fB p1) 4 (fF (fB p0) 4 A.1)).1 + fN (fB p2) 4 := fF_1 4 0 _
      have a3 : (fF (fB p3) 4 (fF (fB p2) 4 (fF (fB p1) 4 (fF (fB p0) 4 A.1)))).1 = (fF (fB p2) 4 (fF (fB p1) 4 (fF (fB p0) 4 A.1))).1 + fN (fB p3) 4 := fF_1 4 0 _
      obtain ⟨w1, e1, r1, g1⟩ := c_bring p0 (P := A.1) (A := A) (w := w) (by show aTl A + _ ≤ 400; omega) hC
      obtain ⟨w2, e2, r2, g2⟩ := c_bring p1 (by omega) r1
      obtain ⟨w3, e3, r3, g3⟩ := c_bring p2 (by omega) r2
      obtain ⟨w4, e4, r4, g4⟩ := c_bring p3 (by omega) r3
      obtain ⟨w5, e5, r5, g5⟩ := c_bring p4 (by omega) r4
      refine ⟨w5, ?_, by rw [fF20]; exact r5, (((g1.trans g2).trans g3).trans g4).trans g5⟩
      have i3 : jgi w5 0 0 3 = nI (fF (gB p0 p1 p2 p3 p4) 20 A.1).1 := by rw [fF20]; exact r5.1.1
      rw [ec, hC.1.1, if_pos (le.mpr h), e1, jcb_s2, e2, jcb_s2, e3, jcb_s2, e4, jcb_s2, e5, jcb_s2, jlt_eq, i3]
    · obtain ⟨w1, e1, r1, g1⟩ := m_feed62 (p0 := p0) (p1 := p1) (p2 := p2) (p3 := p3) (p4 := p4) hA 20 0 jFU A.1 w (by omega) (jFU_gt (by omega)) h hM
      exact ⟨w1, by rw [em, hM.1.1, if_pos (le.mpr h)]; exact e1, r1, g1⟩
  · refine (pQry_of (r := -1) (fun w hC => ⟨w, ?_, hC.self⟩) (fun w hM => ⟨w, ?_, hM.self⟩)).op hA
    · rw [ec, hC.1.1, if_neg (fun z => h (le.mp z))]
    · rw [em, hM.1.1, if_neg (fun z => h (le.mp z))]
end FEED
