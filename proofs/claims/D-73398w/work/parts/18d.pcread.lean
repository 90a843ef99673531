/-! the pure law: the component's reader: looks, letters, digits, numbers -/
section CREAD
variable {w w' : j_St} {P : pP} {n : Nat}
def TpC (P : pP) (w : j_St) : Prop := jgi w 0 0 3 = nI P.1 ∧ (∀ k, k < P.1 → jgi w 20 0 k = (nI (P.2 k)).toInt8.toInt32) ∧ P.1 ≤ 400 ∧ ∀ k, k < P.1 → 1 ≤ P.2 k ∧ P.2 k ≤ 255
def KR (n κ i k : Nat) : Prop := κ = 8 ∧ i = n ∧ k = 0
theorem TpC.same {K : Nat → Nat → Nat → Prop} (h : TpC P w) (s : pSame K w w') (hK : ¬ K 0 0 3 ∧ ∀ k, ¬ K 20 0 k) : TpC P w' := by
  obtain ⟨h1, h2, h3⟩ := h
  exact ⟨by rw [s.1 _ _ _ hK.1]; exact h1, fun k hk => by rw [s.1 _ _ _ (hK.2 k)]; exact h2 k hk, h3⟩
theorem TpC.rd (h : TpC P w) (s : pSame (KR n) w w') : TpC P w' := h.same s ⟨by unfold KR; omega, fun k => by unfold KR; omega⟩
theorem sb_32 {b : Nat} (h : b < 256) : (nI b).toInt8.toInt32 = 32 ↔ gS b = true := by
  have hd : ∀ b : Fin 256, (nI b.val).toInt8.toInt32 = 32 ↔ gS b.val = true := by decide +kernel
  exact hd ⟨b, h⟩
theorem sb_L {b : Nat} (h : b < 256) : (if (nI b).toInt8.toInt32 < 97 then (0 : Int32) else if 122 < (nI b).toInt8.toInt32 then 0 else 1) = if gL b = true then 1 else 0 := by
  have hd : ∀ b : Fin 256, (if (nI b.val).toInt8.toInt32 < 97 then (0 : Int32) else if 122 < (nI b.val).toInt8.toInt32 then 0 else 1) = if gL b.val = true then 1 else 0 := by decide +kernel
  exact hd ⟨b, h⟩
theorem sb_D {b : Nat} (h : b < 256) : (if (nI b).toInt8.toInt32 < 48 then (0 : Int32) else if 57 < (nI b).toInt8.toInt32 then 0 else 1) = if gD b = true then 1 else 0 := by
  have hd : ∀ b : Fin 256, (if (nI b.val).toInt8.toInt32 < 48 then (0 : Int32) else if 57 < (nI b.val).toInt8.toInt32 then 0 else 1) = if gD b.val = true then 1 else 0 := by decide +kernel
  exact hd ⟨b, h⟩
theorem sb_255 {b : Nat} (h : b < 256) : (nI b).toInt8.toInt32 &&& 255 = nI b := by
  have hd : ∀ b : Fin 256, (nI b.val).toInt8.toInt32 &&& 255 = nI b.val := by decide +kernel
  exact hd ⟨b, h⟩
theorem sb_small {b : Nat} (h : b < 128) : (nI b).toInt8.toInt32 = nI b := by
  have hd : ∀ b : Fin 128, (nI b.val).toInt8.toInt32 = nI b.val := by decide +kernel
  exact hd ⟨b, h⟩
theorem c_skip {kk : j_St → Option (Int32 × j_St)} : ∀ p f w, P.1 - p < f → TpC P w → jgi w 8 n 0 = nI p → p ≤ 400 → ∃ w', f_X10_peek_L0 n kk f w = kk w' ∧ pSame (KR n) w w' ∧ jgi w' 8 n 0 = nI (tE gS P p) := by
  refine tE_ind (P := P) (g := gS) (motive := fun p => ∀ f w, P.1 - p < f → TpC P w → jgi w 8 n 0 = nI p → p ≤ 400 → ∃ w', f_X10_peek_L0 n kk f w = kk w' ∧ pSame (KR n) w w' ∧ jgi w' 8 n 0 = nI (tE gS P p)) (fun p h hg ih => ?_) (fun p h => ?_)
  · intro f w hf hT hp h4
    obtain ⟨f, rfl⟩ : ∃ f', f = f' + 1 := ⟨f - 1, by omega⟩
    have hL := hT.2.2.1
    have hb := hT.2.2.2 p h
    have s1 : pSame (KR n) w (jsi w 8 n 0 (nI (p + 1))) := pSame.jsi ⟨rfl, rfl, rfl⟩
    obtain ⟨w2, e2, s2, p2⟩ := ih f (jsi w 8 n 0 (nI (p + 1))) (by omega) (hT.rd s1) jgi_eq (by omega)
    refine ⟨w2, ?_, s1.trans s2, by rw [tE_T h hg]; exact p2⟩
    rw [f_X10_peek_L0, jlt_eq, hp, jlt_eq, hT.1, if_neg (fun z => by have := (nI_leI (a := P.1) (b := p) (by omega) (by omega)).mp z; omega), jlt_eq, jbd_nI (by omega) (by decide), jlt_eq, hT.2.1 p h, if_pos ((sb_32 (by omega)).mpr hg), jlt_eq, jlt_eq, nI_1]
    exact e2
  · intro f w hf hT hp h4
    obtain ⟨f, rfl⟩ : ∃ f', f = f' + 1 := ⟨f - 1, by omega⟩
    have hL := hT.2.2.1
    rw [tE_F h]
    refine ⟨w, ?_, pSame.refl, hp⟩
    rw [f_X10_peek_L0, jlt_eq, hp, jlt_eq, hT.1]
    by_cases c : p < P.1
    · have hb := hT.2.2.2 p c
      rw [if_neg (fun z => by have := (nI_leI (a := P.1) (b := p) (by omega) (by omega)).mp z; omega), jlt_eq, jbd_nI (by omega) (by decide), jlt_eq, hT.2.1 p c, if_neg (fun z => h ⟨c, (sb_32 (by omega)).mp z⟩)]
    · rw [if_pos ((nI_leI (a := P.1) (b := p) (by omega) (by omega)).mpr (by omega))]
theorem c_peek (hT : TpC P w) {p : Nat} (hp : jgi w 8 n 0 = nI p) (h4 : p ≤ P.1) : ∃ w', f_X10_peek n w = some (bt P (tE gS P p), w') ∧ pSame (KR n) w w' ∧ jgi w' 8 n 0 = nI (tE gS P p) := by
  have hL := hT.2.2.1
  obtain ⟨w1, e1, s1, p1⟩ := c_skip (P := P) (n := n) (kk := fun (w12 : j_St) => jlt (jgi w12 8 n 0) fun v13 => jlt (jgi w12 0 0 3) fun v15 => if v15 ≤ v13 then some ((-1), w12) else jlt (jgi w12 8 n 0) fun v18 => jbd v18 400 fun a19 => jlt (jgi w12 20 0 a19) fun v20 => some (v20 &&& 255, w12)) p jFU w (jFU_gt (by omega)) hT hp (by omega)
  have hst : tE gS P p ≤ P.1 := tE_le h4
  generalize tE gS P p = st at p1 hst
  have hT1 := hT.rd s1
  refine ⟨w1, ?_, s1, p1⟩
  rw [f_X10_peek, e1, jlt_eq, p1, jlt_eq, hT1.1]
  unfold bt
  by_cases c : st < P.1
  · have hb := hT.2.2.2 st c
    rw [if_neg (fun z => by have := (nI_leI (a := P.1) (b := st) (by omega) (by omega)).mp z; omega), jlt_eq, jbd_nI (by omega) (by decide), jlt_eq, hT1.2.1 st c, sb_255 (by omega), if_pos c]
  · rw [if_pos ((nI_leI (a := P.1) (b := st) (by omega) (by omega)).mpr (by omega)), if_neg c]
theorem c_isL (hT : TpC P w) {p : Nat} (hp : jgi w 8 n 0 = nI p) (h4 : p ≤ 400) : f_X10_isLetter n w = some (if p < P.1 ∧ gL (P.2 p) = true then 1 else 0, w) := by
  have hL := hT.2.2.1
  rw [f_X10_isLetter, jlt_eq, hp, jlt_eq, hT.1]
  by_cases c : p < P.1
  · have hb := hT.2.2.2 p c
    have k := sb_L (b := P.2 p) (by omega)
    rw [if_neg (fun z => by have := (nI_leI (a := P.1) (b := p) (by omega) (by omega)).mp z; omega), jlt_eq, jbd_nI (by omega) (by decide), jlt_eq, hT.2.1 p c, jlt_eq, jbd_nI (by omega) (by decide), jlt_eq, hT.2.1 p c]
    have e : (if p < P.1 ∧ gL (P.2 p) = true then (1 : Int32) else 0) = if gL (P.2 p) = true then 1 else 0 := by
      by_cases d : gL (P.2 p) = true
      · rw [if_pos ⟨c, d⟩, if_pos d]
      · rw [if_neg (fun z => d z.2), if_neg d]
    rw [e, ← k]
    split
    · rfl
    · split <;> rfl
  · rw [if_pos ((nI_leI (a := P.1) (b := p) (by omega) (by omega)).mpr (by omega)), if_neg (fun z => c z.1)]
theorem c_isD (hT : TpC P w) {p : Nat} (hp : jgi w 8 n 0 = nI p) (h4 : p ≤ 400) : f_X10_isDigit n w = some (if p < P.1 ∧ gD (P.2 p) = true then 1 else 0, w) := by
  have hL := hT.2.2.1
  rw [f_X10_isDigit, jlt_eq, hp, jlt_eq, hT.1]
  by_cases c : p < P.1
  · have hb := hT.2.2.2 p c
    have k := sb_D (b := P.2 p) (by omega)
    rw [if_neg (fun z => by have := (nI_leI (a := P.1) (b := p) (by omega) (by omega)).mp z; omega), jlt_eq, jbd_nI (by omega) (by decide), jlt_eq, hT.2.1 p c, jlt_eq, jbd_nI (by omega) (by decide), jlt_eq, hT.2.1 p c]
    have e : (if p < P.1 ∧ gD (P.2 p) = true then (1 : Int32) else 0) = if gD (P.2 p) = true then 1 else 0 := by
      by_cases d : gD (P.2 p) = true
      · rw [if_pos ⟨c, d⟩, if_pos d]
      · rw [if_neg (fun z => d z.2), if_neg d]
    rw [e, ← k]
    split
    · rfl
    · split <;> rfl
  · rw [if_pos ((nI_leI (a := P.1) (b := p) (by omega) (by omega)).mpr (by omega)), if_neg (fun z => c z.1)]
/-- one that was wrong is made -/
theorem c_wrong {m : Nat} {v : Int32} : f_X12_init m v (jnw w 9 m 0) = some ((), jsi (jnw w 9 m 0) 9 m 6 v) := by
  have r : ∀ k, jgr (jnw w 9 m 0) 9 m k = none := fun k => if_pos ⟨rfl, rfl⟩
  rw [f_X12_init, f_J10_init, f_J9_init_2, if_pos ⟨rfl, rfl, rfl, rfl, r 0, r 1, r 2, r 3⟩, jcb_s2, jcb_s2, jlt_eq]
/-- what the tokens' reading may touch -/
def KY (n κ i k : Nat) : Prop := KR n κ i k ∨ κ = 9 ∨ (κ = 109 ∧ i = 0)
theorem jnw_sm {K : Nat → Nat → Nat → Prop} {κ i m : Nat} (h : ∀ k, K κ i k) : pSame K w (jnw w κ i m) := jnw_same h
theorem wr_same {v : Int32} : pSame (KY n) w (jsi (jnw (jbump w 9) 9 (jgn w 109 0) 0) 9 (jgn w 109 0) 6 v) := by
  have b : pSame (KY n) w (jbump w 9) := ⟨fun _ _ _ _ => rfl, fun _ _ _ _ => rfl, fun _ _ _ _ => rfl, fun κ i h => if_neg (fun z => h (Or.inr (Or.inr ⟨z.1, z.2⟩)))⟩
  exact (b.trans (jnw_sm fun k => Or.inr (Or.inl rfl))).trans (pSame.jsi (Or.inr (Or.inl rfl)))
theorem c_digits {s : Nat} {kk : Int32 → Nat → Nat → j_St → Option ((Nat ⊕ Int32) × j_St)} : ∀ p f w, s ≤ p → P.1 - p < f → TpC P w → jgi w 8 n 0 = nI p → p ≤ 400 → ∃ w', f_X10_number_L52 n (nI s) kk f (nI (nv P s (min 3 (p - s)))) 0 0 w = kk (nI (nv P s (min 3 (tE gD P p - s)))) 0 0 w' ∧ pSame (KR n) w w' ∧ jgi w' 8 n 0 = nI (tE gD P p) := by
  refine tE_ind (P := P) (g := gD) (motive := fun p => ∀ f w, s ≤ p → P.1 - p < f → TpC P w → jgi w 8 n 0 = nI p → p ≤ 400 → ∃ w', f_X10_number_L52 n (nI s) kk f (nI (nv P s (min 3 (p - s)))) 0 0 w = kk (nI (nv P s (min 3 (tE gD P p - s)))) 0 0 w' ∧ pSame (KR n) w w' ∧ jgi w' 8 n 0 = nI (tE gD P p)) (fun p h hg ih => ?_) (fun p h => ?_)
  · intro f w hs hf hT hp h4
    obtain ⟨f, rfl⟩ : ∃ f', f = f' + 1 := ⟨f - 1, by omega⟩
    have hL := hT.2.2.1
    have hb := hT.2.2.2 p h
    have hd := gD_iff.mp hg
    have s1 : pSame (KR n) w (jsi w 8 n 0 (nI (p + 1))) := pSame.jsi ⟨rfl, rfl, rfl⟩
    obtain ⟨w2, e2, s2, p2⟩ := ih f (jsi w 8 n 0 (nI (p + 1))) (by omega) (by omega) (hT.rd s1) jgi_eq (by omega)
    refine ⟨w2, ?_, s1.trans s2, by rw [tE_T h hg]; exact p2⟩
    rw [tE_T h hg]
    refine Eq.trans ?_ e2
    rw [f_X10_number_L52, if_pos ⟨by decide, by decide⟩, c_isD hT hp (by omega), jcb_s2, if_pos (c := p < P.1 ∧ gD (P.2 p) = true) ⟨h, hg⟩, if_neg n10, jlt_eq, hp, jlt_eq, nI_sub hs]
    have hp9 := hp
    by_cases c : 3 ≤ p - s
    · rw [if_pos (show (3 : Int32) ≤ nI (p - s) from (nI_leI (a := 3) (by omega) (by omega)).mpr c)]
      dsimp only
      rw [jlt_eq, hp, jlt_eq, nI_1, show min 3 (p - s) = min 3 (p + 1 - s) by omega]
    · rw [if_neg (show ¬ (3 : Int32) ≤ nI (p - s) from fun z => c ((nI_leI (a := 3) (by omega) (by omega)).mp z)), jlt_eq, jbd_nI (by omega) (by decide), jlt_eq, hT.2.1 p h, sb_small (by omega), show min 3 (p - s) = p - s by omega, nv_step hd.1]
      dsimp only
      rw [jlt_eq, hp, jlt_eq, nI_1, show min 3 (p + 1 - s) = p - s + 1 by omega, nv_s, Nat.add_sub_cancel' hs]
  · intro f w hs hf hT hp h4
    obtain ⟨f, rfl⟩ : ∃ f', f = f' + 1 := ⟨f - 1, by omega⟩
    rw [tE_F h]
    exact ⟨w, by rw [f_X10_number_L52, if_pos ⟨by decide, by decide⟩, c_isD hT hp (by omega), jcb_s2, if_neg h, if_pos rfl], pSame.refl, hp⟩
/-- A NUMBER: when it is one -/
def nOk (P : pP) (neg : Bool) (mx st : Nat) : Prop := tK P st = 2 ∧ (neg = false → P.2 st ≠ 45) ∧ nv P (tS P st) (tN P st) ≤ mx
theorem c_numIn {s mx : Nat} {v8 v4 : Int32} (hT : TpC P w) (hp : jgi w 8 n 0 = nI s) (h4 : s ≤ P.1) (hmx : mx < 1000) :
    (1 ≤ tE gD P s - s ∧ tE gD P s - s ≤ 3 ∧ nv P s (tE gD P s - s) ≤ mx → ∃ w', f_X10_number_L52 n (nI s) (fun (v42 : Int32) (c46 : Nat) (c47 : Nat) (w43 : j_St) => jlt (jgi w43 8 n 0) fun v48 => if c46 ≤ 1 ∧ c47 ≤ 7 then jcb (f_X1_isIn ((v48 - nI s).toInt64) 1 3 w43) fun v49 w50 => jlt (fun (c58 : Nat) (c59 : Nat) (w55 : j_St) => jlt (jgn w55 109 0) fun n60 => jlt (jbump w55 9) fun w62 => if c58 + 1 ≤ 1 ∧ c59 + 7 ≤ 7 then jlt (jnw w62 9 n60 0) fun w67 => if c58 + 1 + 0 ≤ 1 ∧ c59 + 7 + 0 ≤ 7 then jcb (f_X12_init n60 v4 w67) fun _ w71 => if c58 + 1 + 0 ≤ 1 ∧ c59 + 7 + 0 ≤ 7 then some (.inl n60, w71) else none else none else none) fun K135 => if v49 = 0 then K135 c46 c47 w50 else if v42 ≤ nI mx then if v8 = 0 then if c46 ≤ 1 ∧ c47 ≤ 7 then some (.inr v42, w50) else none else if c46 ≤ 1 ∧ c47 ≤ 7 then some (.inr (-v42), w50) else none else K135 c46 c47 w50 else none) jFU 0 0 0 w = some (.inr (if v8 = 0 then nI (nv P s (tE gD P s - s)) else -nI (nv P s (tE gD P s - s))), w') ∧ pSame (KY n) w w' ∧ jgi w' 8 n 0 = nI (tE gD P s)) ∧
    (¬ (1 ≤ tE gD P s - s ∧ tE gD P s - s ≤ 3 ∧ nv P s (tE gD P s - s) ≤ mx) → ∃ m w', f_X10_number_L52 n (nI s) (fun (v42 : Int32) (c46 : Nat) (c47 : Nat) (w43 : j_St) => jlt (jgi w43 8 n 0) fun v48 => if c46 ≤ 1 ∧ c47 ≤ 7 then jcb (f_X1_isIn ((v48 - nI s).toInt64) 1 3 w43) fun v49 w50 => jlt (fun (c58 : Nat) (c59 : Nat) (w55 : j_St) => jlt (jgn w55 109 0) fun n60 => jlt (jbump w55 9) fun w62 => if c58 + 1 ≤ 1 ∧ c59 + 7 ≤ 7 then jlt (jnw w62 9 n60 0) fun w67 => if c58 + 1 + 0 ≤ 1 ∧ c59 + 7 + 0 ≤ 7 then jcb (f_X12_init n60 v4 w67) fun _ w71 => if c58 + 1 + 0 ≤ 1 ∧ c59 + 7 + 0 ≤ 7 then some (.inl n60, w71) else none else none else none) fun K135 => if v49 = 0 then K135 c46 c47 w50 else if v42 ≤ nI mx then if v8 = 0 then if c46 ≤ 1 ∧ c47 ≤ 7 then some (.inr v42, w50) else none else if c46 ≤ 1 ∧ c47 ≤ 7 then some (.inr (-v42), w50) else none else K135 c46 c47 w50 else none) jFU 0 0 0 w = some (.inl m, w') ∧ pSame (KY n) w w' ∧ jgi w' 9 m 6 = v4) := by
  have hL := hT.2.2.1
  have he : tE gD P s ≤ P.1 := tE_le h4
  have hge : s ≤ tE gD P s := tE_ge s
  have nvb : ∀ k, k ≤ 3 → s + k ≤ tE gD P s → nv P s k < 1000 := fun k hk hs => by
    have dig : ∀ i, i < k → P.2 (s + i) - 48 ≤ 9 := fun i hi => by
      have := gD_iff.mp (tE_in (g := gD) (P := P) (p := s) (q := s + i) (by omega) (by omega)).2
      omega
    rcases (show k = 0 ∨ k = 1 ∨ k = 2 ∨ k = 3 by omega) with rfl | rfl | rfl | rfl
    · show (0 : Nat) < 1000; omega
    · have d0 := dig 0 (by omega)
      rw [nv_s]
      show 10 * 0 + _ < 1000
      omega
    · have d0 := dig 0 (by omega)
      have d1 := dig 1 (by omega)
      rw [nv_s, nv_s]
      show 10 * (10 * 0 + _) + _ < 1000
      omega
    · have d0 := dig 0 (by omega)
      have d1 := dig 1 (by omega)
      have d2 := dig 2 (by omega)
      rw [nv_s, nv_s, nv_s]
      show 10 * (10 * (10 * 0 + _) + _) + _ < 1000
      omega
  obtain ⟨w1, e1, s1, p1⟩ := c_digits (P := P) (n := n) (s := s) (kk := fun (v42 : Int32) (c46 : Nat) (c47 : Nat) (w43 : j_St) => jlt (jgi w43 8 n 0) fun v48 => if c46 ≤ 1 ∧ c47 ≤ 7 then jcb (f_X1_isIn ((v48 - nI s).toInt64) 1 3 w43) fun v49 w50 => jlt (fun (c58 : Nat) (c59 : Nat) (w55 : j_St) => jlt (jgn w55 109 0) fun n60 => jlt (jbump w55 9) fun w62 => if c58 + 1 ≤ 1 ∧ c59 + 7 ≤ 7 then jlt (jnw w62 9 n60 0) fun w67 => if c58 + 1 + 0 ≤ 1 ∧ c59 + 7 + 0 ≤ 7 then jcb (f_X12_init n60 v4 w67) fun _ w71 => if c58 + 1 + 0 ≤ 1 ∧ c59 + 7 + 0 ≤ 7 then some (.inl n60, w71) else none else none else none) fun K135 => if v49 = 0 then K135 c46 c47 w50 else if v42 ≤ nI mx then if v8 = 0 then if c46 ≤ 1 ∧ c47 ≤ 7 then some (.inr v42, w50) else none else if c46 ≤ 1 ∧ c47 ≤ 7 then some (.inr (-v42), w50) else none else K135 c46 c47 w50 else none) s jFU w (Nat.le_refl _) (jFU_gt (by omega)) hT hp (by omega)
  rw [Nat.sub_self] at e1
  have e1 := e1
  have i13 : ∀ c : Nat, c < 2 ^ 31 → ((1 : Int32) ≤ nI c ∧ nI c ≤ (3 : Int32) ↔ 1 ≤ c ∧ c ≤ 3) := fun c hc => ⟨fun z => ⟨(nI_leI (a := 1) (by omega) hc).mp z.1, (nI_leI (b := 3) hc (by omega)).mp z.2⟩, fun z => ⟨(nI_leI (a := 1) (by omega) hc).mpr z.1, (nI_leI (b := 3) hc (by omega)).mpr z.2⟩⟩
  have sub : nI (tE gD P s) - nI s = nI (tE gD P s - s) := nI_sub hge
  have bad : ∀ x : j_St, pSame (KR n) w x → ∃ m w', (jlt (jgn x 109 0) fun n60 => jlt (jbump x 9) fun w62 => if (0 : Nat) + 1 ≤ 1 ∧ (0 : Nat) + 7 ≤ 7 then jlt (jnw w62 9 n60 0) fun w67 => if (0 : Nat) + 1 + 0 ≤ 1 ∧ (0 : Nat) + 7 + 0 ≤ 7 then jcb (f_X12_init n60 v4 w67) fun _ w71 => if (0 : Nat) + 1 + 0 ≤ 1 ∧ (0 : Nat) + 7 + 0 ≤ 7 then some ((Sum.inl n60 : Nat ⊕ Int32), w71) else none else none else none) = some (.inl m, w') ∧ pSame (KY n) w w' ∧ jgi w' 9 m 6 = v4 := fun x hx => by
    refine ⟨jgn x 109 0, _, ?_, (hx.mono fun κ i k y => Or.inl y).trans wr_same, jgi_eq⟩
    rw [jlt_eq, jlt_eq, if_pos ⟨by decide, by decide⟩, jlt_eq, if_pos ⟨by decide, by decide⟩, c_wrong, jcb_s2, if_pos ⟨by decide, by decide⟩]
  constructor
  · intro ⟨c1, c2, c3⟩
    refine ⟨w1, ?_, s1.mono fun κ i k y => Or.inl y, p1⟩
    refine e1.trans ?_
    rw [jlt_eq, p1, if_pos ⟨by decide, by decide⟩, sub, sp_isIn (l := 1) (h := 3) (l' := 1) (h' := 3) (by decide) (by decide), if_pos ((i13 _ (by omega)).mpr ⟨c1, c2⟩), jcb_s2, jlt_eq, if_neg n10, show min 3 (tE gD P s - s) = tE gD P s - s by omega, if_pos ((nI_leI (by omega) (by omega)).mpr c3)]
    by_cases v : v8 = 0
    · rw [if_pos v, if_pos v, if_pos ⟨by decide, by decide⟩]
    · rw [if_neg v, if_neg v, if_pos ⟨by decide, by decide⟩]
  · intro c
    obtain ⟨m, w2, e2, r⟩ := bad w1 s1
    refine ⟨m, w2, ?_, r⟩
    refine e1.trans ?_
    rw [jlt_eq, p1, if_pos ⟨by decide, by decide⟩, sub, sp_isIn (l := 1) (h := 3) (l' := 1) (h' := 3) (by decide) (by decide)]
    by_cases c1 : 1 ≤ tE gD P s - s ∧ tE gD P s - s ≤ 3
    · rw [if_pos ((i13 _ (by omega)).mpr c1), jcb_s2, jlt_eq, if_neg n10, show min 3 (tE gD P s - s) = tE gD P s - s by omega, if_neg (fun z => c ⟨c1.1, c1.2, (nI_leI (by have := nvb (tE gD P s - s) c1.2 (by omega); omega) (by omega)).mp z⟩)]
      exact e2
    · rw [if_neg (fun z => c1 ((i13 _ (by omega)).mp z)), jcb_s2, jlt_eq, if_pos rfl]
      exact e2
end CREAD
