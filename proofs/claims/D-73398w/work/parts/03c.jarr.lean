/-! J: arrays, branches over references, switches, returns -/
theorem j_ix {j : Int32} {n : Nat} (h : 0 ≤ j.toInt ∧ j.toInt < (n : Int)) : ¬ (j < 0 ∨ n ≤ j.toNatClampNeg) ∧ j.toNatClampNeg < n ∧ j.toNatClampNeg = j.toInt.toNat := by
  have e : j.toNatClampNeg = j.toInt.toNat := rfl
  rw [e]
  refine ⟨fun q => ?_, by omega, rfl⟩
  rcases q with q | q
  · rw [Int32.lt_iff_toInt_lt] at q
    simp at q
    omega
  · omega
section JA
variable {α β : Type} {g : j_G} {x : j_X} {cc : ByteArray} {nL : Nat} {own : String} {ret : Option FieldType} {rm : Room} {B : j_B} {Q : α → j_St → State → Prop} {cells slots : Nat} {o o1 o2 : Option (α × j_St)} {pc : Nat} {lv lv' : List (Nat × Value)} {st : List Value} {w : j_St}
theorem J.bd {j : Int32} {n : Nat} {f : Nat → Option (α × j_St)} (k : (0 ≤ j.toInt ∧ j.toInt < (n : Int)) → J g x nL B Q cells slots (f j.toInt.toNat) pc lv st w) : J g x nL B Q cells slots (jbd j n f) pc lv st w := by
  unfold jbd
  split
  · next h => exact k h
  · exact J.nne
theorem J.iald (hx : j_C cc nL own ret rm g x) {κ i : Nat} {j : Int32} {n : Nat} {f : Int32 → Option (α × j_St)} (h0 : jk0 κ = 1) (hn : jln w κ i = n) (ha : B.2.1 κ i) (d : decode cc pc = .ok (.iaload, 1))
    (kk : ∀ v : Int32, J g x nL B Q cells slots (f v) (pc + 1) lv (.int v :: st) w) : J g x nL B Q cells slots (jbd j n fun a => jlt (jgi w κ i a) f) pc lv (.int j :: .ref (B.1 κ i) :: st) w := by
  refine J.bd fun hb => ?_
  obtain ⟨b1, b2, b3⟩ := j_ix hb
  intro r w' ho H locs ls h hR hq
  have kk := kk _ r w' ho H locs ls h hR hq
  obtain ⟨p, e, R, s, m, args, below, meth, c⟩ := x
  obtain ⟨h1, h2, h3, h4, h5, h6, h7⟩ := hx
  obtain ⟨-, hA, -⟩ := h6
  have hcell := (hR.1 κ i ha).arr (by rw [h0]; decide) (by rw [h0]; decide)
  rw [hn] at hcell
  have hc1 : jk1 κ = 0 ∨ ¬ jk1 κ = 0 := by omega
  have hs : jfs κ j.toInt.toNat = 0 := by unfold jfs jfd; rw [h0]; rfl
  have hty : jty (jk1 κ) = .int ∧ jk1 κ < 9 := by
    have key : ∀ q ∈ jkt, q.1 = 1 → jty q.2.1 = .int ∧ q.2.1 < 9 := by decide +kernel
    unfold jk0 at h0
    unfold jk1
    by_cases hl : κ < jkt.length
    · rw [List.getD_eq_getElem?_getD, List.getElem?_eq_getElem hl] at h0 ⊢
      exact key _ (List.getElem_mem hl) h0
    · rw [List.getD_eq_getElem?_getD, List.getElem?_eq_none (by omega)] at h0
      cases h0
  have hAr := (hA _ hty.2).1 n (jfv B.1 w κ i)
  rw [hty.1] at hAr
  exact W.iald (v := .int (jgi w κ i j.toInt.toNat)) h1 h2 hcell hAr (fun q => by cases q) (by rw [arrV_size]; exact b1) (by rw [arrV_read _ _ b2, b3, jfv_i hs]) rfl rfl d kk
theorem j_tyk {t : Nat} {ty : FieldType} (key : ∀ q ∈ jkt, q.1 = t → jty q.2.1 = ty ∧ q.2.1 < 9) (h7 : t ≠ 7) {κ : Nat} (h0 : jk0 κ = t) : jty (jk1 κ) = ty ∧ jk1 κ < 9 := by
  unfold jk0 at h0
  unfold jk1
  by_cases hl : κ < jkt.length
  · rw [List.getD_eq_getElem?_getD, List.getElem?_eq_getElem hl] at h0 ⊢
    exact key _ (List.getElem_mem hl) h0
  · rw [List.getD_eq_getElem?_getD, List.getElem?_eq_none (by omega)] at h0
    exact absurd h0.symm h7
theorem J.bald (hx : j_C cc nL own ret rm g x) {κ i : Nat} {j : Int32} {n : Nat} {f : Int32 → Option (α × j_St)} (h0 : jk0 κ = 2) (hn : jln w κ i = n) (ha : B.2.1 κ i) (d : decode cc pc = .ok (.baload, 1))
    (kk : ∀ v : Int32, J g x nL B Q cells slots (f v) (pc + 1) lv (.int v :: st) w) : J g x nL B Q cells slots (jbd j n fun a => jlt (jgi w κ i a) f) pc lv (.int j :: .ref (B.1 κ i) :: st) w := by
  refine J.bd fun hb => ?_
  obtain ⟨b1, b2, b3⟩ := j_ix hb
  intro r w' ho H locs ls h hR hq
  have kk := kk _ r w' ho H locs ls h hR hq
  obtain ⟨p, e, R, s, m, args, below, meth, c⟩ := x
  obtain ⟨h1, h2, h3, h4, h5, h6, h7⟩ := hx
  obtain ⟨-, hA, -⟩ := h6
  have hcell := (hR.1 κ i ha).arr (by rw [h0]; decide) (by rw [h0]; decide)
  rw [hn] at hcell
  have hs : jfs κ j.toInt.toNat = 0 := by unfold jfs jfd; rw [h0]; rfl
  have hty := j_tyk (t := 2) (ty := .byte) (by decide +kernel) (by decide) h0
  have hAr := (hA _ hty.2).1 n (jfv B.1 w κ i)
  rw [hty.1] at hAr
  exact W.bald (v := .int (jgi w κ i j.toInt.toNat)) h1 h2 hcell hAr (fun q => by cases q) (by rw [arrV_size]; exact b1) (by rw [arrV_read _ _ b2, b3, jfv_i hs]) rfl rfl d kk
theorem J.lald (hx : j_C cc nL own ret rm g x) {κ i : Nat} {j : Int32} {n : Nat} {f : Int64 → Option (α × j_St)} (h0 : jk0 κ = 3) (hn : jln w κ i = n) (ha : B.2.1 κ i) (d : decode cc pc = .ok (.laload, 1))
    (kk : ∀ v : Int64, J g x nL B Q cells slots (f v) (pc + 1) lv (.long v :: st) w) : J g x nL B Q cells slots (jbd j n fun a => jlt (jgl w κ i a) f) pc lv (.int j :: .ref (B.1 κ i) :: st) w := by
  refine J.bd fun hb => ?_
  obtain ⟨b1, b2, b3⟩ := j_ix hb
  intro r w' ho H locs ls h hR hq
  have kk := kk _ r w' ho H locs ls h hR hq
  obtain ⟨p, e, R, s, m, args, below, meth, c⟩ := x
  obtain ⟨h1, h2, h3, h4, h5, h6, h7⟩ := hx
  obtain ⟨-, hA, -⟩ := h6
  have hcell := (hR.1 κ i ha).arr (by rw [h0]; decide) (by rw [h0]; decide)
  rw [hn] at hcell
  have hs : jfs κ j.toInt.toNat = 1 := by unfold jfs jfd; rw [h0]; rfl
  have hty := j_tyk (t := 3) (ty := .long) (by decide +kernel) (by decide) h0
  have hAr := (hA _ hty.2).1 n (jfv B.1 w κ i)
  rw [hty.1] at hAr
  exact W.lald (v := .long (jgl w κ i j.toInt.toNat)) h1 h2 hcell hAr (fun q => by cases q) (by rw [arrV_size]; exact b1) (by rw [arrV_read _ _ b2, b3, jfv_l hs]) rfl rfl d kk
/-- an element that is a reference -/
theorem J.aald0 (hx : j_C cc nL own ret rm g x) {κ i : Nat} {j : Int32} {n : Nat} {v : Value} {C : String} (h0 : jk0 κ ≠ 0 ∧ jk0 κ ≠ 6 ∧ jk0 κ ≠ 8 ∧ jk0 κ ≠ 9) (h9 : jk1 κ < 9) (hC : jty (jk1 κ) = .object C) (hn : jln w κ i = n) (ha : B.2.1 κ i) (hb : 0 ≤ j.toInt ∧ j.toInt < (n : Int)) (hv : jfv B.1 w κ i j.toInt.toNat = v) (d : decode cc pc = .ok (.aaload, 1))
    (kk : J g x nL B Q cells slots o (pc + 1) lv (v :: st) w) : J g x nL B Q cells slots o pc lv (.int j :: .ref (B.1 κ i) :: st) w := by
  obtain ⟨b1, b2, b3⟩ := j_ix hb
  intro r w' ho H locs ls h hR hq
  have kk := kk r w' ho H locs ls h hR hq
  obtain ⟨p, e, R, s, m, args, below, meth, c⟩ := x
  obtain ⟨h1, h2, h3, h4, h5, h6, h7⟩ := hx
  obtain ⟨-, hA, -⟩ := h6
  have hcell := (hR.1 κ i ha).arr h0.1 h0.2
  rw [hn] at hcell
  have hAr := (hA _ h9).1 n (jfv B.1 w κ i)
  rw [hC] at hAr
  exact W.aald (v := v) (ty := .object C) h1 h2 hcell hAr rfl (fun q => by cases q) (by rw [arrV_size]; exact b1) (by rw [arrV_read _ _ b2, b3, hv]) rfl rfl d kk
theorem J.aald (hx : j_C cc nL own ret rm g x) {κ i : Nat} (κ' : Nat) {j : Int32} {n : Nat} {C : String} {f : Option Nat → Option (α × j_St)} (h0 : jk0 κ = 4) (hκ : jk2 κ = κ') (h9 : jk1 κ < 9) (hC : jty (jk1 κ) = .object C) (hn : jln w κ i = n) (ha : B.2.1 κ i) (d : decode cc pc = .ok (.aaload, 1))
    (kk : ∀ v : Option Nat, (∀ q, v = some q → B.2.1 κ' q ∧ B.2.2 κ' q) → J g x nL B Q cells slots (f v) (pc + 1) lv (va_re (B.1 κ') v :: st) w) : J g x nL B Q cells slots (jbd j n fun a => jlt (jgr w κ i a) f) pc lv (.int j :: .ref (B.1 κ i) :: st) w := by
  subst hκ
  have hs : ∀ k, jfd κ k = jfr (jk2 κ) := fun k => by unfold jfd; rw [h0]; rfl
  have hs2 : ∀ k, jfs κ k = 2 := fun k => by unfold jfs; rw [hs]; rfl
  have hsk : ∀ k, jfk κ k = jk2 κ := fun k => by unfold jfk; rw [hs]; rfl
  refine J.bd fun hb => ?_
  intro r w' ho H locs ls h hR hq
  refine J.aald0 hx (by rw [h0]; decide) h9 hC hn ha hb (v := va_re (B.1 (jk2 κ)) (jgr w κ i j.toInt.toNat)) ?_ d (kk _ fun q hq' => ?_) r w' ho H locs ls h hR hq
  · rw [jfv_r (by rw [hs2]; omega), hsk]
  · have := hR.2.2.2.2.2.2.1 κ i _ q ha hq' (hs2 _)
    rw [hsk] at this
    exact ⟨hR.2.2.2.2.2.2.2.2.1 _ _ this, this⟩
theorem J.aaldc (hx : j_C cc nL own ret rm g x) {κ i : Nat} (κ' m9 : Nat) {j : Int32} {n : Nat} {C : String} {f : Nat → Option (α × j_St)} (h0 : jk0 κ = 5) (hκ : jk2 κ = κ') (hm : jk3 κ = n) (hm9 : n = m9) (h9 : jk1 κ < 9) (hC : jty (jk1 κ) = .object C) (hn : jln w κ i = n) (hb : B.2.2 κ i) (d : decode cc pc = .ok (.aaload, 1))
    (kk : ∀ a : Nat, a < n → B.2.1 κ' (m9 * i + a) ∧ B.2.2 κ' (m9 * i + a) → J g x nL B Q cells slots (f (m9 * i + a)) (pc + 1) lv (.ref (B.1 κ' (m9 * i + a)) :: st) w) : J g x nL B Q cells slots (jbd j n fun a => f (m9 * i + a)) pc lv (.int j :: .ref (B.1 κ i) :: st) w := by
  subst hκ
  subst hm9
  refine J.bd fun hbd => ?_
  have hlt : j.toInt.toNat < n := by omega
  have hs : jfd κ j.toInt.toNat = (3, jk2 κ, fun i k => jk3 κ * i + k) := by
    unfold jfd
    rw [h0, if_neg (by decide), if_neg (by decide), if_neg (by decide), if_pos rfl, if_pos (by rw [hm]; exact hlt)]
  intro r w' ho H locs ls h hR hq
  obtain ⟨e1, e2⟩ := hR.2.2.2.2.2.2.2.1 κ i j.toInt.toNat hb (by unfold jfs; rw [hs])
  have hk2 : jfk κ j.toInt.toNat = jk2 κ := by unfold jfk; rw [hs]
  have hci : jci κ i j.toInt.toNat = n * i + j.toInt.toNat := by unfold jci; rw [hs, ← hm]
  rw [hk2, hci] at e2
  rw [hci] at e1
  refine J.aald0 hx (by rw [h0]; decide) h9 hC hn (hR.2.2.2.2.2.2.2.2.1 κ i hb) hbd (v := .ref (B.1 (jk2 κ) (n * i + j.toInt.toNat))) ?_ d (kk _ hlt ⟨hR.2.2.2.2.2.2.2.2.1 _ _ e2, e2⟩) r w' ho H locs ls h hR hq
  rw [jfv_r (by unfold jfs; rw [hs]; exact Nat.le_succ 2), hk2, e1]
  rfl
theorem j_put_arr {g : j_G} {B : j_B} {w w2 : j_St} {H' : Heap} {κ i n k : Nat} {v : Value} (h0 : jk0 κ ≠ 0 ∧ jk0 κ ≠ 6 ∧ jk0 κ ≠ 8 ∧ jk0 κ ≠ 9) (hn : jln w κ i = n) (hn2 : jln w2 κ i = n) (e1 : H'[B.1 κ i]? = some ((arrV (jgA g (jk1 κ)) n (jfv B.1 w κ i)).setSlot k v)) (hv : jfv B.1 w2 κ i = updV (jfv B.1 w κ i) k v) : j_ok g B w2 H' κ i := by
  refine j_ok.mka h0.1 h0.2 ?_
  rw [e1, arrV_store, hn2, hv]
theorem J.iast (hx : j_C cc nL own ret rm g x) {κ i : Nat} {j v : Int32} {n : Nat} {f : j_St → Option (α × j_St)} (h0 : jk0 κ = 1) (hro : jro κ = false) (hn : jln w κ i = n) (ha : B.2.1 κ i) (d : decode cc pc = .ok (.iastore, 1))
    (kk : ∀ w2 : j_St, J g x nL B Q cells slots (f w2) (pc + 1) lv st w2) : J g x nL B Q cells slots (jbd j n fun a => jlt (jsi w κ i a v) f) pc lv (.int v :: .int j :: .ref (B.1 κ i) :: st) w := by
  refine J.bd fun hb => ?_
  obtain ⟨b1, b2, b3⟩ := j_ix hb
  intro r w' ho H locs ls h hR hq
  have kk := fun (H' : Heap) (locs' : List Loc) => kk _ r w' ho H' locs' ls h
  obtain ⟨p, e, R, s, m, args, below, meth, c⟩ := x
  obtain ⟨h1, h2, h3, h4, h5, h6, h7⟩ := hx
  obtain ⟨-, hA, -⟩ := h6
  have hcell := (hR.1 κ i ha).arr (by rw [h0]; decide) (by rw [h0]; decide)
  rw [hn] at hcell
  have hs : jfs κ j.toInt.toNat = 0 := by unfold jfs jfd; rw [h0]; rfl
  have hty := j_tyk (t := 1) (ty := .int) (by decide +kernel) (by decide) h0
  have hAr := (hA _ hty.2).1 n (jfv B.1 w κ i)
  rw [hty.1] at hAr
  refine W.iast h1 h2 hcell hAr (fun q => by cases q) (by rw [arrV_size]; exact b1) rfl rfl d fun H' e1 e2 e3 => kk H' _ (hR.si ha hro e2 e3 ?_) ?_
  · rw [b3] at e1
    exact j_put_arr (by rw [h0]; decide) hn hn e1 (jfv_si hs)
  · intro q hq0
    rcases List.mem_append.mp hq0 with z | z
    · exact hq q z
    · cases List.mem_singleton.mp z
      exact hR.2.2.1 κ i ha hro
theorem J.bast (hx : j_C cc nL own ret rm g x) {κ i : Nat} {j v : Int32} {n : Nat} {f : j_St → Option (α × j_St)} (h0 : jk0 κ = 2) (hro : jro κ = false) (hn : jln w κ i = n) (ha : B.2.1 κ i) (d : decode cc pc = .ok (.bastore, 1))
    (kk : ∀ w2 : j_St, J g x nL B Q cells slots (f w2) (pc + 1) lv st w2) : J g x nL B Q cells slots (jbd j n fun a => jlt (jsi w κ i a v.toInt8.toInt32) f) pc lv (.int v :: .int j :: .ref (B.1 κ i) :: st) w := by
  refine J.bd fun hb => ?_
  obtain ⟨b1, b2, b3⟩ := j_ix hb
  intro r w' ho H locs ls h hR hq
  have kk := fun (H' : Heap) (locs' : List Loc) => kk _ r w' ho H' locs' ls h
  obtain ⟨p, e, R, s, m, args, below, meth, c⟩ := x
  obtain ⟨h1, h2, h3, h4, h5, h6, h7⟩ := hx
  obtain ⟨-, hA, -⟩ := h6
  have hcell := (hR.1 κ i ha).arr (by rw [h0]; decide) (by rw [h0]; decide)
  rw [hn] at hcell
  have hs : jfs κ j.toInt.toNat = 0 := by unfold jfs jfd; rw [h0]; rfl
  have hty := j_tyk (t := 2) (ty := .byte) (by decide +kernel) (by decide) h0
  have hAr := (hA _ hty.2).1 n (jfv B.1 w κ i)
  rw [hty.1] at hAr
  refine W.bast h1 h2 hcell hAr (fun q => by cases q) (by rw [arrV_size]; exact b1) rfl rfl d fun H' e1 e2 e3 => kk H' _ (hR.si ha hro e2 e3 ?_) ?_
  · rw [b3] at e1
    exact j_put_arr (by rw [h0]; decide) hn hn e1 (jfv_si hs)
  · intro q hq0
    rcases List.mem_append.mp hq0 with z | z
    · exact hq q z
    · cases List.mem_singleton.mp z
      exact hR.2.2.1 κ i ha hro
theorem J.last (hx : j_C cc nL own ret rm g x) {κ i : Nat} {j : Int32} {v : Int64} {n : Nat} {f : j_St → Option (α × j_St)} (h0 : jk0 κ = 3) (hro : jro κ = false) (hn : jln w κ i = n) (ha : B.2.1 κ i) (d : decode cc pc = .ok (.lastore, 1))
    (kk : ∀ w2 : j_St, J g x nL B Q cells slots (f w2) (pc + 1) lv st w2) : J g x nL B Q cells slots (jbd j n fun a => jlt (jsl w κ i a v) f) pc lv (.long v :: .int j :: .ref (B.1 κ i) :: st) w := by
  refine J.bd fun hb => ?_
  obtain ⟨b1, b2, b3⟩ := j_ix hb
  intro r w' ho H locs ls h hR hq
  have kk := fun (H' : Heap) (locs' : List Loc) => kk _ r w' ho H' locs' ls h
  obtain ⟨p, e, R, s, m, args, below, meth, c⟩ := x
  obtain ⟨h1, h2, h3, h4, h5, h6, h7⟩ := hx
  obtain ⟨-, hA, -⟩ := h6
  have hcell := (hR.1 κ i ha).arr (by rw [h0]; decide) (by rw [h0]; decide)
  rw [hn] at hcell
  have hs : jfs κ j.toInt.toNat = 1 := by unfold jfs jfd; rw [h0]; rfl
  have hty := j_tyk (t := 3) (ty := .long) (by decide +kernel) (by decide) h0
  have hAr := (hA _ hty.2).1 n (jfv B.1 w κ i)
  rw [hty.1] at hAr
  refine W.last h1 h2 hcell hAr (fun q => by cases q) (by rw [arrV_size]; exact b1) rfl rfl d fun H' e1 e2 e3 => kk H' _ (hR.sl ha hro e2 e3 ?_) ?_
  · rw [b3] at e1
    exact j_put_arr (by rw [h0]; decide) hn hn e1 (jfv_sl hs)
  · intro q hq0
    rcases List.mem_append.mp hq0 with z | z
    · exact hq q z
    · cases List.mem_singleton.mp z
      exact hR.2.2.1 κ i ha hro
/-- a reference (or null) into an array; the element's kind is of class number ci -/
theorem J.aast (hx : j_C cc nL own ret rm g x) {κ i : Nat} (κ' : Nat) {j : Int32} {v : Option Nat} {n : Nat} {r0 : vw_C} {f : j_St → Option (α × j_St)} (h0 : jk0 κ = 4) (hκ : jk2 κ = κ') (h9 : jk1 κ < 9) (hro : jro κ = false) (h0' : jk0 κ' = 0) (hc' : jcl[jk1 κ']? = some r0) (hC : jty (jk1 κ) = .object r0.1) (hn : jln w κ i = n) (ha : B.2.1 κ i) (hv : ∀ q, v = some q → B.2.1 κ' q ∧ B.2.2 κ' q) (d : decode cc pc = .ok (.aastore, 1))
    (kk : ∀ w2 : j_St, J g x nL B Q cells slots (f w2) (pc + 1) lv st w2) : J g x nL B Q cells slots (jbd j n fun a => jlt (jsr w κ i a v) f) pc lv (va_re (B.1 κ') v :: .int j :: .ref (B.1 κ i) :: st) w := by
  subst hκ
  have hs : ∀ k, jfd κ k = jfr (jk2 κ) := fun k => by unfold jfd; rw [h0]; rfl
  have hs2 : ∀ k, jfs κ k = 2 := fun k => by unfold jfs; rw [hs]; rfl
  have hsk : ∀ k, jfk κ k = jk2 κ := fun k => by unfold jfk; rw [hs]; rfl
  refine J.bd fun hb => ?_
  obtain ⟨b1, b2, b3⟩ := j_ix hb
  intro r w' ho H locs ls h hR hq
  have kk := fun (H' : Heap) (locs' : List Loc) => kk _ r w' ho H' locs' ls h
  obtain ⟨p, e, R, s, m, args, below, meth, c⟩ := x
  obtain ⟨h1, h2, h3, h4, h5, h6, h7⟩ := hx
  obtain ⟨hK, hA, -⟩ := h6
  have hcell := (hR.1 κ i ha).arr (by rw [h0]; decide) (by rw [h0]; decide)
  rw [hn] at hcell
  have hAr := hA _ h9
  rw [hC] at hAr
  have hlocs : ∀ q ∈ locs ++ [(⟨B.1 κ i, j.toNatClampNeg⟩ : Loc)], jgb g ≤ q.base := by
    intro q hq0
    rcases List.mem_append.mp hq0 with z | z
    · exact hq q z
    · cases List.mem_singleton.mp z
      exact hR.2.2.1 κ i ha hro
  have fin : ∀ H' : Heap, H'[B.1 κ i]? = some ((arrV (jgA g (jk1 κ)) n (jfv B.1 w κ i)).setSlot j.toNatClampNeg (va_re (B.1 (jk2 κ)) v)) → H'.size = H.size → (∀ q : Nat, q ≠ B.1 κ i → H'[q]? = H[q]?) → j_R g B (jsr w κ i j.toInt.toNat v) H' := by
    intro H' e1 e2 e3
    refine hR.sr ha hro e2 e3 ?_ (fun q hq => by rw [hsk]; exact ⟨(hv q hq).1, fun _ => (hv q hq).2⟩) (fun z => by rw [hs2] at z; omega)
    rw [b3] at e1
    refine j_put_arr (by rw [h0]; decide) hn hn e1 ?_
    rw [jfv_sr (by rw [hs2]; omega), hsk]
  cases v with
  | none =>
    exact va_WaastN (C := r0.1) h1 h2 hcell (hAr.1 n _) (fun z => by cases z) (by rw [arrV_size]; exact b1) rfl rfl d fun H' e1 e2 e3 => kk H' _ (fin H' e1 e2 e3) hlocs
  | some q =>
    obtain ⟨cellV, g1, g2, g3, -⟩ := (hR.1 (jk2 κ) q (hv q rfl).1).obj h0' hc'
    have hcls := (hK.1 _ r0 hc').2
    obtain ⟨kA, comp, k1, k2, k3, -⟩ := hAr.2
    have hcomp : comp = (jgD g).1 (jk1 (jk2 κ)) := Option.some.inj (k3.symm.trans hcls.1)
    subst hcomp
    obtain ⟨kC, hkC, -⟩ := hcls.2
    exact W.aast h1 h2 hcell (fun q h => by cases h) (fun h => by cases h) k1 k2 rfl hkC ⟨fun z => b1 (Or.inl z), by rw [arrV_size]; exact b2⟩ g1 (fun q h => by rw [g3] at h; cases h) (by rw [g2]; exact hkC) (by rw [g2]; exact va_assign hcls) rfl rfl d fun H' e1 e2 e3 => kk H' _ (fin H' e1 e2 e3) hlocs
theorem J.alen (hx : j_C cc nL own ret rm g x) {κ i n : Nat} {v : Int32} (h0 : jk0 κ ≠ 0 ∧ jk0 κ ≠ 6 ∧ jk0 κ ≠ 8 ∧ jk0 κ ≠ 9) (h9 : jk1 κ < 9) (hn : jln w κ i = n) (hv : Int32.ofNat n = v) (ha : B.2.1 κ i) (d : decode cc pc = .ok (.arraylength, 1))
    (kk : J g x nL B Q cells slots o (pc + 1) lv (.int v :: st) w) : J g x nL B Q cells slots o pc lv (.ref (B.1 κ i) :: st) w := by
  subst hv
  intro r w' ho H locs ls h hR hq
  have kk := kk r w' ho H locs ls h hR hq
  obtain ⟨p, e, R, s, m, args, below, meth, c⟩ := x
  obtain ⟨h1, h2, h3, h4, h5, h6, h7⟩ := hx
  obtain ⟨hK, hA, -⟩ := h6
  have hcell := (hR.1 κ i ha).arr h0.1 h0.2
  rw [hn] at hcell
  exact W.alen (n := Int32.ofNat n) h1 h2 hcell ((hA _ h9).1 n _) (by rw [arrV_size] <;> rfl) rfl rfl d kk
/-! branches over references -/
theorem J.ifnull (hx : j_C cc nL own ret rm g x) {κ : Nat} {v : Option Nat} {off : Int} (tgt : Nat) {f : Nat → Option (α × j_St)} (d : decode cc pc = .ok (.ifnull off, 3)) (ht : (pc : Int) + off = (tgt : Int)) (k1 : v = none → J g x nL B Q cells slots o1 tgt lv st w) (k2 : ∀ q, v = some q → J g x nL B Q cells slots (f q) (pc + 3) lv st w) : J g x nL B Q cells slots (jcs v o1 f) pc lv (va_re (B.1 κ) v :: st) w := by
  intro r w' ho H locs ls h hR hq
  cases v with
  | none => exact lv_ifnullN hx.1 hx.2.1 d ht (k1 rfl r w' ho H locs ls h hR hq)
  | some q => exact lv_ifnull hx.1 hx.2.1 d (k2 q rfl r w' ho H locs ls h hR hq)
theorem J.ifnonnull (hx : j_C cc nL own ret rm g x) {κ : Nat} {v : Option Nat} {off : Int} (tgt : Nat) {f : Nat → Option (α × j_St)} (d : decode cc pc = .ok (.ifnonnull off, 3)) (ht : (pc : Int) + off = (tgt : Int)) (k1 : v = none → J g x nL B Q cells slots o1 (pc + 3) lv st w) (k2 : ∀ q, v = some q → J g x nL B Q cells slots (f q) tgt lv st w) : J g x nL B Q cells slots (jcs v o1 f) pc lv (va_re (B.1 κ) v :: st) w := by
  intro r w' ho H locs ls h hR hq
  cases v with
  | none => exact lv_ifnonnullN hx.1 hx.2.1 d (k1 rfl r w' ho H locs ls h hR hq)
  | some q => exact lv_ifnonnull hx.1 hx.2.1 d ht (k2 q rfl r w' ho H locs ls h hR hq)
theorem j_inj {κ : Nat} {a b : Option Nat} {H : Heap} (hR : j_R g B w H) (ha : ∀ q, a = some q → B.2.1 κ q) (hb : ∀ q, b = some q → B.2.1 κ q) : (a.map (B.1 κ) = b.map (B.1 κ)) ↔ a = b := by
  cases a with
  | none => cases b <;> simp
  | some a => cases b with
    | none => simp
    | some b =>
      simp only [Option.map_some, Option.some.injEq]
      exact ⟨fun z => (hR.2.1 κ a κ b (ha a rfl) (hb b rfl) z).2, fun z => by rw [z]⟩
theorem J.acmp_eq (hx : j_C cc nL own ret rm g x) {κ : Nat} {a b : Option Nat} {off : Int} (tgt : Nat) (d : decode cc pc = .ok (.if_acmp .eq off, 3)) (ht : (pc : Int) + off = (tgt : Int)) (ha : ∀ q, a = some q → B.2.1 κ q) (hb : ∀ q, b = some q → B.2.1 κ q) (k1 : J g x nL B Q cells slots o1 tgt lv st w) (k2 : J g x nL B Q cells slots o2 (pc + 3) lv st w) : J g x nL B Q cells slots (if a = b then o1 else o2) pc lv (va_re (B.1 κ) b :: va_re (B.1 κ) a :: st) w := by
  intro r w' ho H locs ls h hR hq
  refine lv_acmp_eq hx.1 hx.2.1 d ht (fun hc => k1 r w' ?_ H locs ls h hR hq) (fun hc => k2 r w' ?_ H locs ls h hR hq)
  · rw [j_inj hR ha hb] at hc
    rw [← ho, if_pos hc]
  · rw [j_inj hR ha hb] at hc
    rw [← ho, if_neg hc]
theorem J.acmp_ne (hx : j_C cc nL own ret rm g x) {κ : Nat} {a b : Option Nat} {off : Int} (tgt : Nat) (d : decode cc pc = .ok (.if_acmp .ne off, 3)) (ht : (pc : Int) + off = (tgt : Int)) (ha : ∀ q, a = some q → B.2.1 κ q) (hb : ∀ q, b = some q → B.2.1 κ q) (k1 : J g x nL B Q cells slots o1 (pc + 3) lv st w) (k2 : J g x nL B Q cells slots o2 tgt lv st w) : J g x nL B Q cells slots (if a = b then o1 else o2) pc lv (va_re (B.1 κ) b :: va_re (B.1 κ) a :: st) w := by
  intro r w' ho H locs ls h hR hq
  refine lv_acmp_ne hx.1 hx.2.1 d ht (fun hc => k2 r w' ?_ H locs ls h hR hq) (fun hc => k1 r w' ?_ H locs ls h hR hq)
  · rw [j_inj hR ha hb] at hc
    rw [← ho, if_neg hc]
  · rw [j_inj hR ha hb] at hc
    rw [← ho, if_pos hc]
/-! switches: one case after another -/
theorem J.tsw (hx : j_C cc nL own ret rm g x) {dflt lo hi : Int} {offs : Array Int} {len : Nat} {v : Int32} (tgt : Nat) (d : decode cc pc = .ok (.tableswitch dflt lo hi offs, len)) (hlo : lo ≤ v.toInt) (hhi : v.toInt ≤ hi) {off : Int} (ho : offs[(v.toInt - lo).toNat]? = some off) (ht : (pc : Int) + off = (tgt : Int)) (k : J g x nL B Q cells slots o tgt lv st w) : J g x nL B Q cells slots o pc lv (.int v :: st) w := fun r w' ho' H locs ls h hR hq => lv_tableIn hx.1 hx.2.1 d (by omega) (by omega) ho ht (k r w' ho' H locs ls h hR hq)
theorem J.tswD (hx : j_C cc nL own ret rm g x) {dflt lo hi : Int} {offs : Array Int} {len : Nat} {v : Int32} (tgt : Nat) (d : decode cc pc = .ok (.tableswitch dflt lo hi offs, len)) (hv : v.toInt < lo ∨ hi < v.toInt) (ht : (pc : Int) + dflt = (tgt : Int)) (k : J g x nL B Q cells slots o tgt lv st w) : J g x nL B Q cells slots o pc lv (.int v :: st) w := fun r w' ho' H locs ls h hR hq => lv_tableOut hx.1 hx.2.1 d hv ht (k r w' ho' H locs ls h hR hq)
theorem J.lsw (hx : j_C cc nL own ret rm g x) {dflt : Int} {ps : Array (Int × Int)} {len : Nat} {v : Int32} {off : Int} (tgt : Nat) (d : decode cc pc = .ok (.lookupswitch dflt ps, len)) (hp : (ps.toList.zip (ps.toList.drop 1)).all (fun (a, next) => a.1 < next.1) = true) (ho : Op.lookupswitch.offset ps.toList dflt v.toInt = off) (ht : (pc : Int) + off = (tgt : Int)) (k : J g x nL B Q cells slots o tgt lv st w) : J g x nL B Q cells slots o pc lv (.int v :: st) w := fun r w' ho' H locs ls h hR hq => lv_lookup hx.1 hx.2.1 d hp ho ht (k r w' ho' H locs ls h hR hq)
theorem J.ite {c : Prop} {_ : Decidable c} (k1 : c → J g x nL B Q cells slots o1 pc lv st w) (k2 : ¬ c → J g x nL B Q cells slots o2 pc lv st w) : J g x nL B Q cells slots (if c then o1 else o2) pc lv st w := by
  by_cases hc : c
  · rw [if_pos hc]; exact k1 hc
  · rw [if_neg hc]; exact k2 hc
/-! ends -/
theorem J.iret (hx : j_C cc nL own ret rm g x) {v : Int32} {lv : List (Nat × Value)} (hr : ret = some .int) (hc : cells ≤ rm.cells) (hs : slots ≤ rm.slots) (d : decode cc pc = .ok (.ireturn, 1)) : J g x nL B (j_Q g x B rm jri) cells slots (some (v, w)) pc lv [.int v] w := by
  intro r w' ho H locs ls h hR hq
  cases ho
  refine W.widen hc hs ?_
  exact W.iret hx.1 hx.2.1 (hx.2.2.2.2.2.2.2.1.trans hr) (fun t ht _ => ⟨rfl, by rw [ht]; exact hR⟩) hq d hx.2.2.2.2.2.2.1
theorem J.zret (hx : j_C cc nL own ret rm g x) {v : Int32} {lv : List (Nat × Value)} {ty : FieldType} (hr : ret = some ty) (hn : narrow ty (.int v) = .int v) (hc : cells ≤ rm.cells) (hs : slots ≤ rm.slots) (d : decode cc pc = .ok (.ireturn, 1)) : J g x nL B (j_Q g x B rm jri) cells slots (some (v, w)) pc lv [.int v] w := by
  intro r w' ho H locs ls h hR hq
  cases ho
  refine W.widen hc hs ?_
  exact W.zret hx.1 hx.2.1 (hx.2.2.2.2.2.2.2.1.trans hr) hn (fun t ht _ => ⟨rfl, by rw [ht]; exact hR⟩) hq d hx.2.2.2.2.2.2.1
theorem J.lret (hx : j_C cc nL own ret rm g x) {v : Int64} {lv : List (Nat × Value)} (hr : ret = some .long) (hc : cells ≤ rm.cells) (hs : slots ≤ rm.slots) (d : decode cc pc = .ok (.lreturn, 1)) : J g x nL B (j_Q g x B rm jrl) cells slots (some (v, w)) pc lv [.long v] w := by
  intro r w' ho H locs ls h hR hq
  cases ho
  refine W.widen hc hs ?_
  exact W.lret hx.1 hx.2.1 (hx.2.2.2.2.2.2.2.1.trans hr) (fun t ht _ => ⟨rfl, by rw [ht]; exact hR⟩) hq d hx.2.2.2.2.2.2.1
theorem J.vret (hx : j_C cc nL own ret rm g x) {lv : List (Nat × Value)} (hr : ret = none) (hc : cells ≤ rm.cells) (hs : slots ≤ rm.slots) (d : decode cc pc = .ok (.return_, 1)) : J g x nL B (j_Q g x B rm jrv) cells slots (some ((), w)) pc lv [] w := by
  intro r w' ho H locs ls h hR hq
  cases ho
  refine W.widen hc hs ?_
  exact W.vret hx.1 hx.2.1 (hx.2.2.2.2.2.2.2.1.trans hr) (fun t ht _ => ⟨rfl, by rw [ht]; exact hR⟩) hq d hx.2.2.2.2.2.2.1
theorem J.aret (hx : j_C cc nL own ret rm g x) {κ q : Nat} {rt : FieldType} {lv : List (Nat × Value)} (hr : ret = some rt) (hrt : (∃ n, rt = .object n) ∨ ∃ t, rt = .array t) (hc : cells ≤ rm.cells) (hs : slots ≤ rm.slots) (d : decode cc pc = .ok (.areturn, 1)) : J g x nL B (j_Q g x B rm (jrr B κ)) cells slots (some (q, w)) pc lv [.ref (B.1 κ q)] w := by
  intro r w' ho H locs ls h hR hq
  cases ho
  refine W.widen hc hs ?_
  exact W.aret hx.1 hx.2.1 (hx.2.2.2.2.2.2.2.1.trans hr) hrt (Or.inr ⟨_, rfl⟩) (fun t ht _ => ⟨rfl, by rw [ht]; exact hR⟩) hq d hx.2.2.2.2.2.2.1
theorem J.aretq (hx : j_C cc nL own ret rm g x) {κ : Nat} {q : Option Nat} {rt : FieldType} {lv : List (Nat × Value)} (hr : ret = some rt) (hrt : (∃ n, rt = .object n) ∨ ∃ t, rt = .array t) (hc : cells ≤ rm.cells) (hs : slots ≤ rm.slots) (d : decode cc pc = .ok (.areturn, 1)) : J g x nL B (j_Q g x B rm (jro_ B κ)) cells slots (some (q, w)) pc lv [va_re (B.1 κ) q] w := by
  intro r w' ho H locs ls h hR hq
  cases ho
  refine W.widen hc hs ?_
  exact W.aret hx.1 hx.2.1 (hx.2.2.2.2.2.2.2.1.trans hr) hrt (by cases q with
    | none => exact Or.inl rfl
    | some q => exact Or.inr ⟨_, rfl⟩) (fun t ht _ => ⟨rfl, by rw [ht]; exact hR⟩) hq d hx.2.2.2.2.2.2.1
theorem J.zretc (hx : j_C cc nL own ret rm g x) {v : Int32} {lv : List (Nat × Value)} (hr : ret = some .boolean) (hc : cells ≤ rm.cells) (hs : slots ≤ rm.slots) (d : decode cc pc = .ok (.ireturn, 1)) : J g x nL B (j_Q g x B rm jri) cells slots (if v = 0 ∨ v = 1 then some (v, w) else none) pc lv [.int v] w := by
  by_cases hv : v = 0 ∨ v = 1
  · rw [if_pos hv]
    exact J.zret hx hr (by rcases hv with rfl | rfl <;> rfl) hc hs d
  · rw [if_neg hv]
    exact J.nne
/-- a join: what comes behind it is a function -/
theorem J.fn {A : Type} (P : A → Prop) {K0 : A} {f : A → Option (α × j_St)} (h1 : P K0) (h2 : ∀ K, P K → J g x nL B Q cells slots (f K) pc lv st w) : J g x nL B Q cells slots (jlt K0 f) pc lv st w := h2 K0 h1
theorem J.thisret (hx : j_C cc nL own ret rm g x) {κ q : Nat} {rt : FieldType} {lv : List (Nat × Value)} (hr : ret = some rt) (hrt : (∃ n, rt = .object n) ∨ ∃ t, rt = .array t) (hc : cells ≤ rm.cells) (hs : slots ≤ rm.slots) (d : decode cc pc = .ok (.areturn, 1)) : J g x nL B (j_Q g x B rm (fun _ : Unit => some (.ref (B.1 κ q)))) cells slots (some ((), w)) pc lv [.ref (B.1 κ q)] w := by
  intro r w' ho H locs ls h hR hq
  cases ho
  refine W.widen hc hs ?_
  exact W.aret hx.1 hx.2.1 (hx.2.2.2.2.2.2.2.1.trans hr) hrt (Or.inr ⟨_, rfl⟩) (fun t ht _ => ⟨rfl, by rw [ht]; exact hR⟩) hq d hx.2.2.2.2.2.2.1
theorem j_neT {v k : Int32} {a : Int} (h : ¬ v = k) (hk : k.toInt = a) : ¬ v.toInt = a := fun q => h (Int32.toInt_inj.mp (by rw [hk]; exact q))
theorem J.lcmp (hx : j_C cc nL own ret rm g x) {a b : Int64} (d : decode cc pc = .ok (.lcmp, 1)) (k : J g x nL B Q cells slots o (pc + 1) lv (.int (lg_cmp a b) :: st) w) : J g x nL B Q cells slots o pc lv (.long b :: .long a :: st) w := fun r w' ho H locs ls h hR hq => W.lcmp hx.1 hx.2.1 d (k r w' ho H locs ls h hR hq)
end JA
def jFU : Nat := 20000
