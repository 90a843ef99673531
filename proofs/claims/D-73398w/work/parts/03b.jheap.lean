/-! J: cells read and written -/
theorem jfv_i {ad : Nat → Nat → Nat} {w : j_St} {κ i k : Nat} (h : jfs κ k = 0) : jfv ad w κ i k = .int (jgi w κ i k) := by simp only [jfv, h]
theorem jfv_l {ad : Nat → Nat → Nat} {w : j_St} {κ i k : Nat} (h : jfs κ k = 1) : jfv ad w κ i k = .long (jgl w κ i k) := by simp only [jfv, h]
theorem jfv_r {ad : Nat → Nat → Nat} {w : j_St} {κ i k : Nat} (h : 2 ≤ jfs κ k) : jfv ad w κ i k = va_re (ad (jfk κ k)) (jgr w κ i k) := by
  unfold jfv
  split
  · omega
  · omega
  · rfl
theorem jfv_eq {ad : Nat → Nat → Nat} {w w' : j_St} {κ i k : Nat} (h1 : jgi w' κ i k = jgi w κ i k) (h2 : jgl w' κ i k = jgl w κ i k) (h3 : jgr w' κ i k = jgr w κ i k) : jfv ad w' κ i k = jfv ad w κ i k := by
  unfold jfv
  rw [h1, h2, h3]
theorem j_ok.kept {g : j_G} {B : j_B} {w w' : j_St} {H H' : Heap} {κ i : Nat} (h : j_ok g B w H κ i) (hq : H'[B.1 κ i]? = H[B.1 κ i]?) (hv : jfv B.1 w' κ i = jfv B.1 w κ i) (hn : jgn w' κ i = jgn w κ i) : j_ok g B w' H' κ i := by
  unfold j_ok at h ⊢
  unfold jln at h ⊢
  rw [hv, hn]
  split at h
  · obtain ⟨r, h1, h2⟩ := h
    exact ⟨r, h1, h2.kept hq⟩
  · rw [hq]; exact h
  · rw [hq]; exact h
  · rw [hq]; exact h
  · rw [hq]; exact h
theorem j_ok.lt {g : j_G} {B : j_B} {w : j_St} {H : Heap} {κ i : Nat} (h : j_ok g B w H κ i) : B.1 κ i < H.size := by
  unfold j_ok at h
  split at h
  · obtain ⟨r, h1, cell, h2, -⟩ := h
    exact (Array.getElem?_eq_some_iff.mp h2).1
  · obtain ⟨cell, h2, -⟩ := h
    exact (Array.getElem?_eq_some_iff.mp h2).1
  · obtain ⟨cell, h2, -⟩ := h
    exact (Array.getElem?_eq_some_iff.mp h2).1
  · obtain ⟨r, -, cell, h2, -⟩ := h
    exact (Array.getElem?_eq_some_iff.mp h2).1
  · exact (Array.getElem?_eq_some_iff.mp h).1
theorem j_ok.obj {g : j_G} {B : j_B} {w : j_St} {H : Heap} {κ i : Nat} (h : j_ok g B w H κ i) (h0 : jk0 κ = 0) {r : vw_C} (hc : jcl[jk1 κ]? = some r) : t_OB (B.1 κ i) ((jgD g).1 (jk1 κ)) r.2.2 ((jgD g).2 (jk1 κ)) H (jfv B.1 w κ i) := by
  unfold j_ok at h
  rw [h0] at h
  obtain ⟨r', h1, h2⟩ := h
  cases hc.symm.trans h1
  exact h2
theorem j_ok.arr {g : j_G} {B : j_B} {w : j_St} {H : Heap} {κ i : Nat} (h : j_ok g B w H κ i) (h0 : jk0 κ ≠ 0) (h6 : jk0 κ ≠ 6 ∧ jk0 κ ≠ 8 ∧ jk0 κ ≠ 9) : H[B.1 κ i]? = some (arrV (jgA g (jk1 κ)) (jln w κ i) (jfv B.1 w κ i)) := by
  unfold j_ok at h
  split at h
  · contradiction
  · exact absurd (by assumption) h6.1
  · exact absurd (by assumption) h6.2.1
  · exact absurd (by assumption) h6.2.2
  · exact h
theorem j_ok.mka {g : j_G} {B : j_B} {w : j_St} {H : Heap} {κ i : Nat} (h0 : jk0 κ ≠ 0) (h6 : jk0 κ ≠ 6 ∧ jk0 κ ≠ 8 ∧ jk0 κ ≠ 9) (h : H[B.1 κ i]? = some (arrV (jgA g (jk1 κ)) (jln w κ i) (jfv B.1 w κ i))) : j_ok g B w H κ i := by
  unfold j_ok
  split
  · contradiction
  · exact absurd (by assumption) h6.1
  · exact absurd (by assumption) h6.2.1
  · exact absurd (by assumption) h6.2.2
  · exact h
theorem j_ok.mko {g : j_G} {B : j_B} {w : j_St} {H : Heap} {κ i : Nat} (h0 : jk0 κ = 0) {r : vw_C} (hc : jcl[jk1 κ]? = some r) (h : t_OB (B.1 κ i) ((jgD g).1 (jk1 κ)) r.2.2 ((jgD g).2 (jk1 κ)) H (jfv B.1 w κ i)) : j_ok g B w H κ i := by
  unfold j_ok
  rw [h0]
  exact ⟨r, hc, h⟩
/-- one cell is written -/
theorem j_R.put {g : j_G} {B : j_B} {w w' : j_St} {H H' : Heap} {κ i : Nat} (hR : j_R g B w H) (ha : B.2.1 κ i) (hro : jro κ = false) (e2 : H'.size = H.size) (e3 : ∀ q : Nat, q ≠ B.1 κ i → H'[q]? = H[q]?) (hok : j_ok g B w' H' κ i)
    (hw : ∀ κ' i', ¬ (κ' = κ ∧ i' = i) → jfv B.1 w' κ' i' = jfv B.1 w κ' i' ∧ jgn w' κ' i' = jgn w κ' i')
    (ht : ∀ κ' i' k j, jgr w' κ' i' k = some j → jgr w κ' i' k = some j ∨ (B.2.1 (jfk κ' k) j ∧ (jfs κ' k = 2 → B.2.2 (jfk κ' k) j)))
    (hc : ∀ κ' i' k, B.2.2 κ' i' → jfs κ' k = 3 → jgr w' κ' i' k = jgr w κ' i' k) (hn : w'.2.2.2 = w.2.2.2 := by rfl) : j_R g B w' H' := by
  obtain ⟨r1, r2, r3, r4, r5, r6, r7, r8, r9, r10⟩ := hR
  refine ⟨fun κ' i' h => ?_, r2, r3, by rw [e2]; exact r4, fun q hq => ?_, fun κ' i' k j h hj => ?_, fun κ' i' k j h hj h2 => ?_, fun κ' i' k h h3 => ?_, r9, fun κ' i' h => by
    have := r10 κ' i' h
    unfold jcnt jgn at this ⊢
    rw [hn]
    exact this⟩
  · by_cases hκ : κ' = κ ∧ i' = i
    · obtain ⟨rfl, rfl⟩ := hκ
      exact hok
    · obtain ⟨q1, q2⟩ := hw κ' i' hκ
      exact (r1 κ' i' h).kept (e3 _ fun z => hκ (r2 κ' i' κ i h ha z)) q1 q2
  · rw [e3 q (fun z => by have := r3 κ i ha hro; omega)]
    exact r5 q hq
  · rcases ht κ' i' k j hj with q | q
    · exact r6 κ' i' k j h q
    · exact q.1
  · rcases ht κ' i' k j hj with q | q
    · exact r7 κ' i' k j h q h2
    · exact q.2 h2
  · rw [hc κ' i' k h h3]
    exact r8 κ' i' k h h3
theorem jfv_ne {ad : Nat → Nat → Nat} {w w' : j_St} {κ i : Nat} (h1 : ∀ κ' i' k', ¬ (κ' = κ ∧ i' = i) → jgi w' κ' i' k' = jgi w κ' i' k') (h2 : ∀ κ' i' k', ¬ (κ' = κ ∧ i' = i) → jgl w' κ' i' k' = jgl w κ' i' k') (h3 : ∀ κ' i' k', ¬ (κ' = κ ∧ i' = i) → jgr w' κ' i' k' = jgr w κ' i' k') : ∀ κ' i', ¬ (κ' = κ ∧ i' = i) → jfv ad w' κ' i' = jfv ad w κ' i' := fun κ' i' h => by
  funext k
  exact jfv_eq (h1 _ _ _ h) (h2 _ _ _ h) (h3 _ _ _ h)
theorem ju3_ne {α : Type} {f : Nat → Nat → Nat → α} {κ i k : Nat} {v : α} {κ' i' k' : Nat} (h : ¬ (κ' = κ ∧ i' = i ∧ k' = k)) : ju3 f κ i k v κ' i' k' = f κ' i' k' := by unfold ju3; rw [if_neg h]
theorem ju3_eq {α : Type} {f : Nat → Nat → Nat → α} {κ i k : Nat} {v : α} : ju3 f κ i k v κ i k = v := by unfold ju3; rw [if_pos ⟨rfl, rfl, rfl⟩]
theorem jfv_si {ad : Nat → Nat → Nat} {w : j_St} {κ i k : Nat} {v : Int32} (h : jfs κ k = 0) : jfv ad (jsi w κ i k v) κ i = updV (jfv ad w κ i) k (.int v) := by
  funext j
  by_cases hj : j = k
  · subst hj
    rw [jfv_i h]
    simp [updV, jgi, jsi, ju3_eq]
  · have : ¬ (κ = κ ∧ i = i ∧ j = k) := fun q => hj q.2.2
    rw [show updV (jfv ad w κ i) k (.int v) j = jfv ad w κ i j by simp [updV, hj]]
    exact jfv_eq (by simp [jgi, jsi, ju3_ne this]) rfl rfl
theorem jfv_sl {ad : Nat → Nat → Nat} {w : j_St} {κ i k : Nat} {v : Int64} (h : jfs κ k = 1) : jfv ad (jsl w κ i k v) κ i = updV (jfv ad w κ i) k (.long v) := by
  funext j
  by_cases hj : j = k
  · subst hj
    rw [jfv_l h]
    simp [updV, jgl, jsl, ju3_eq]
  · have : ¬ (κ = κ ∧ i = i ∧ j = k) := fun q => hj q.2.2
    rw [show updV (jfv ad w κ i) k (.long v) j = jfv ad w κ i j by simp [updV, hj]]
    exact jfv_eq rfl (by simp [jgl, jsl, ju3_ne this]) rfl
theorem jfv_sr {ad : Nat → Nat → Nat} {w : j_St} {κ i k : Nat} {v : Option Nat} (h : 2 ≤ jfs κ k) : jfv ad (jsr w κ i k v) κ i = updV (jfv ad w κ i) k (va_re (ad (jfk κ k)) v) := by
  funext j
  by_cases hj : j = k
  · subst hj
    rw [jfv_r h]
    simp [updV, jgr, jsr, ju3_eq]
  · have : ¬ (κ = κ ∧ i = i ∧ j = k) := fun q => hj q.2.2
    rw [show updV (jfv ad w κ i) k (va_re (ad (jfk κ k)) v) j = jfv ad w κ i j by simp [updV, hj]]
    exact jfv_eq rfl rfl (by simp [jgr, jsr, ju3_ne this])
theorem j_R.si {g : j_G} {B : j_B} {w : j_St} {H H' : Heap} {κ i k : Nat} {v : Int32} (hR : j_R g B w H) (ha : B.2.1 κ i) (hro : jro κ = false) (e2 : H'.size = H.size) (e3 : ∀ q : Nat, q ≠ B.1 κ i → H'[q]? = H[q]?) (hok : j_ok g B (jsi w κ i k v) H' κ i) : j_R g B (jsi w κ i k v) H' := by
  refine hR.put ha hro e2 e3 hok (fun κ' i' h => ⟨jfv_ne (w := w) (w' := jsi w κ i k v) (κ := κ) (i := i) (fun a b c q => ?_) (fun _ _ _ _ => rfl) (fun _ _ _ _ => rfl) κ' i' h, rfl⟩) (fun κ' i' k j h => Or.inl h) (fun κ' i' k _ _ => rfl)
  exact ju3_ne fun z => q ⟨z.1, z.2.1⟩
theorem j_R.sl {g : j_G} {B : j_B} {w : j_St} {H H' : Heap} {κ i k : Nat} {v : Int64} (hR : j_R g B w H) (ha : B.2.1 κ i) (hro : jro κ = false) (e2 : H'.size = H.size) (e3 : ∀ q : Nat, q ≠ B.1 κ i → H'[q]? = H[q]?) (hok : j_ok g B (jsl w κ i k v) H' κ i) : j_R g B (jsl w κ i k v) H' := by
  refine hR.put ha hro e2 e3 hok (fun κ' i' h => ⟨jfv_ne (w := w) (w' := jsl w κ i k v) (κ := κ) (i := i) (fun _ _ _ _ => rfl) (fun a b c q => ?_) (fun _ _ _ _ => rfl) κ' i' h, rfl⟩) (fun κ' i' k j h => Or.inl h) (fun κ' i' k _ _ => rfl)
  exact ju3_ne fun z => q ⟨z.1, z.2.1⟩
theorem j_R.sr {g : j_G} {B : j_B} {w : j_St} {H H' : Heap} {κ i k : Nat} {v : Option Nat} (hR : j_R g B w H) (ha : B.2.1 κ i) (hro : jro κ = false) (e2 : H'.size = H.size) (e3 : ∀ q : Nat, q ≠ B.1 κ i → H'[q]? = H[q]?) (hok : j_ok g B (jsr w κ i k v) H' κ i)
    (hv : ∀ q, v = some q → B.2.1 (jfk κ k) q ∧ (jfs κ k = 2 → B.2.2 (jfk κ k) q)) (hb : jfs κ k = 3 → ¬ B.2.2 κ i) : j_R g B (jsr w κ i k v) H' := by
  refine hR.put ha hro e2 e3 hok (fun κ' i' h => ⟨jfv_ne (w := w) (w' := jsr w κ i k v) (κ := κ) (i := i) (fun _ _ _ _ => rfl) (fun _ _ _ _ => rfl) (fun a b c q => ?_) κ' i' h, rfl⟩) (fun κ' i' k' j h => ?_) (fun κ' i' k' h h3 => ?_)
  · exact ju3_ne fun z => q ⟨z.1, z.2.1⟩
  · by_cases q : κ' = κ ∧ i' = i ∧ k' = k
    · obtain ⟨rfl, rfl, rfl⟩ := q
      have : v = some j := by rw [← h]; exact ju3_eq.symm
      exact Or.inr (hv j this)
    · left
      rw [← h]
      exact (ju3_ne q).symm
  · refine ju3_ne fun z => ?_
    obtain ⟨rfl, rfl, rfl⟩ := z
    exact hb h3 h
/-- where the tables say how a field is reached -/
def jlk (own : String) (index : Nat) (ref n d : String) : Prop := Cond.fieldLink own index ref n d ∈ lw_all ∨ ∃ host, Cond.fieldLinkNest own index ref n d host ∈ jnl
section JH
variable {α β : Type} {g : j_G} {x : j_X} {cc : ByteArray} {nL : Nat} {own : String} {ret : Option FieldType} {rm : Room} {B : j_B} {Q : α → j_St → State → Prop} {cells slots : Nat} {o o1 o2 : Option (α × j_St)} {pc : Nat} {lv lv' : List (Nat × Value)} {st : List Value} {w : j_St}
theorem J.get0 (hx : j_C cc nL own ret rm g x) {κ i k index : Nat} {C : String} {T : u_T} {N : Nat} {v : Value} (h0 : jk0 κ = 0) (hc : jcl[jk1 κ]? = some (C, T, N)) (hin : ∀ w ∈ u_ws C T N, w ∈ lw_all) (hk : k < N) (hl : jlk own index (T k).1 (T k).2.1 (T k).2.2.1) (ha : B.2.1 κ i)
    (d : decode cc pc = .ok (.getfield index, 3)) (hv : jfv B.1 w κ i k = v) (kk : J g x nL B Q cells slots o (pc + 3) lv (v :: st) w) : J g x nL B Q cells slots o pc lv (.ref (B.1 κ i) :: st) w := by
  intro r w' ho H locs ls h hR hq
  have kk := kk r w' ho H locs ls h hR hq
  obtain ⟨p, e, R, s, m, args, below, meth, c⟩ := x
  obtain ⟨h1, h2, h3, h4, h5, h6, h7⟩ := hx
  obtain ⟨hK, -, hN, -⟩ := h6
  subst hv
  have hP : va_P (jgD g) jcl [(B.1 κ i, .inr (jk1 κ, (List.range N).map (jfv B.1 w κ i)))] H := by
    intro n q hn
    match n, hn with
    | 0, hn =>
      cases hn
      refine ⟨(C, T, N), hc, ((hR.1 κ i ha).obj h0 hc).to fun j hj => ?_⟩
      simp [vp_V, List.getD_eq_getElem?_getD, hj]
    | n + 1, hn => simp at hn
  have hfs : ((List.range N).map (jfv B.1 w κ i))[k]? = some (jfv B.1 w κ i k) := by simp [hk]
  rcases hl with hl | ⟨host, hl⟩
  · exact va_get (D := jgD g) (cl := jcl) h1 h2 h5 hin h4 hK hP 0 rfl hc k hk (h5 _ hl) (fun _ z => z) hfs d kk
  · exact va_getN (D := jgD g) (cl := jcl) h1 h2 h5 hin h4 hK hP 0 rfl hc k hk (va_Nw.use rfl (hN _ hl)) (fun _ z => z) hfs d kk
theorem J.geti (hx : j_C cc nL own ret rm g x) {κ i k index : Nat} {C : String} {T : u_T} {N : Nat} {f : Int32 → Option (α × j_St)} (h0 : jk0 κ = 0) (hc : jcl[jk1 κ]? = some (C, T, N)) (hs : jfs κ k = 0) (hin : ∀ w ∈ u_ws C T N, w ∈ lw_all) (hk : k < N) (hl : jlk own index (T k).1 (T k).2.1 (T k).2.2.1) (ha : B.2.1 κ i)
    (d : decode cc pc = .ok (.getfield index, 3)) (kk : ∀ v : Int32, J g x nL B Q cells slots (f v) (pc + 3) lv (.int v :: st) w) : J g x nL B Q cells slots (jlt (jgi w κ i k) f) pc lv (.ref (B.1 κ i) :: st) w := J.get0 hx h0 hc hin hk hl ha d (jfv_i hs) (kk _)
theorem J.getl (hx : j_C cc nL own ret rm g x) {κ i k index : Nat} {C : String} {T : u_T} {N : Nat} {f : Int64 → Option (α × j_St)} (h0 : jk0 κ = 0) (hc : jcl[jk1 κ]? = some (C, T, N)) (hs : jfs κ k = 1) (hin : ∀ w ∈ u_ws C T N, w ∈ lw_all) (hk : k < N) (hl : jlk own index (T k).1 (T k).2.1 (T k).2.2.1) (ha : B.2.1 κ i)
    (d : decode cc pc = .ok (.getfield index, 3)) (kk : ∀ v : Int64, J g x nL B Q cells slots (f v) (pc + 3) lv (.long v :: st) w) : J g x nL B Q cells slots (jlt (jgl w κ i k) f) pc lv (.ref (B.1 κ i) :: st) w := J.get0 hx h0 hc hin hk hl ha d (jfv_l hs) (kk _)
theorem J.getr (hx : j_C cc nL own ret rm g x) {κ i k index : Nat} (κ' : Nat) {C : String} {T : u_T} {N : Nat} {f : Option Nat → Option (α × j_St)} (h0 : jk0 κ = 0) (hc : jcl[jk1 κ]? = some (C, T, N)) (hs : jfs κ k = 2) (hκ : jfk κ k = κ') (hin : ∀ w ∈ u_ws C T N, w ∈ lw_all) (hk : k < N) (hl : jlk own index (T k).1 (T k).2.1 (T k).2.2.1) (ha : B.2.1 κ i)
    (d : decode cc pc = .ok (.getfield index, 3)) (kk : ∀ v : Option Nat, (∀ q, v = some q → B.2.1 κ' q ∧ B.2.2 κ' q) → J g x nL B Q cells slots (f v) (pc + 3) lv (va_re (B.1 κ') v :: st) w) : J g x nL B Q cells slots (jlt (jgr w κ i k) f) pc lv (.ref (B.1 κ i) :: st) w := by
  subst hκ
  intro r w' ho H locs ls h hR hq
  exact J.get0 hx h0 hc hin hk hl ha d (jfv_r (by omega)) (kk _ fun q hq' => ⟨hR.2.2.2.2.2.1 κ i k q ha hq', hR.2.2.2.2.2.2.1 κ i k q ha hq' hs⟩) r w' ho H locs ls h hR hq
theorem J.getc (hx : j_C cc nL own ret rm g x) {κ i k index : Nat} (κ' i' : Nat) {C : String} {T : u_T} {N : Nat} (h0 : jk0 κ = 0) (hc : jcl[jk1 κ]? = some (C, T, N)) (hs : jfs κ k = 3) (hκ : jfk κ k = κ') (hi : jci κ i k = i') (hin : ∀ w ∈ u_ws C T N, w ∈ lw_all) (hk : k < N) (hl : jlk own index (T k).1 (T k).2.1 (T k).2.2.1) (hb : B.2.2 κ i)
    (d : decode cc pc = .ok (.getfield index, 3)) (kk : B.2.1 κ' i' ∧ B.2.2 κ' i' → J g x nL B Q cells slots o (pc + 3) lv (.ref (B.1 κ' i') :: st) w) : J g x nL B Q cells slots o pc lv (.ref (B.1 κ i) :: st) w := by
  subst hκ
  subst hi
  intro r w' ho H locs ls h hR hq
  obtain ⟨e1, e2⟩ := hR.2.2.2.2.2.2.2.1 κ i k hb hs
  exact J.get0 hx h0 hc hin hk hl (hR.2.2.2.2.2.2.2.2.1 κ i hb) d (by rw [jfv_r (by omega), e1]; rfl) (kk ⟨hR.2.2.2.2.2.2.2.2.1 _ _ e2, e2⟩) r w' ho H locs ls h hR hq
theorem J.put0 (hx : j_C cc nL own ret rm g x) {κ i k index : Nat} {C : String} {T : u_T} {N : Nat} {v : Value} {w2 : j_St} (h0 : jk0 κ = 0) (hc : jcl[jk1 κ]? = some (C, T, N)) (hin : ∀ w ∈ u_ws C T N, w ∈ lw_all) {ty0 : Nat → FieldType} (hty : ∀ k, k < N → parseFieldDescriptor (T k).2.2.1 = some (ty0 k)) (hnm : ∀ a, a < N → ∀ b, b < N → a ≠ b → (T a).2.1 ≠ (T b).2.1) (hk : k < N) (hl : jlk own index (T k).1 (T k).2.1 (T k).2.2.1) (hfin : (T k).2.2.2 = false) (hro : jro κ = false) (ha : B.2.1 κ i)
    (hn : narrow (ty0 k) v = v) (hf : fits (ty0 k) v = true) (d : decode cc pc = .ok (.putfield index, 3)) (hv : jfv B.1 w2 κ i = updV (jfv B.1 w κ i) k v)
    (hw : ∀ H H' : Heap, j_R g B w H → H'.size = H.size → (∀ q : Nat, q ≠ B.1 κ i → H'[q]? = H[q]?) → j_ok g B w2 H' κ i → j_R g B w2 H')
    (kk : J g x nL B Q cells slots o (pc + 3) lv st w2) : J g x nL B Q cells slots o pc lv (v :: .ref (B.1 κ i) :: st) w := by
  intro r w' ho H locs ls h hR hq
  have kk := fun (H' : Heap) (locs' : List Loc) (hR' : j_R g B w2 H') (hq' : ∀ q ∈ locs', jgb g ≤ q.base) => kk r w' ho H' locs' ls h hR' hq'
  obtain ⟨p, e, R, s, m, args, below, meth, c⟩ := x
  obtain ⟨h1, h2, h3, h4, h5, h6, h7⟩ := hx
  obtain ⟨hK, -, hN, -⟩ := h6
  have hap := va_apart (own := own) h5 hin ty0 hty hnm hK hc
  obtain ⟨cell, q1, q2, q3, q4⟩ := (hR.1 κ i ha).obj h0 hc
  obtain ⟨hS, hfc, kC, hkC, hkind⟩ := hK.1 _ _ hc
  obtain ⟨cf, kf, fi, f, hi, hsl⟩ := hS k hk
  have hlay := h5 _ (hin _ (u_in_lay hk))
  unfold u_lay at hlay
  rw [if_neg (by rw [hfin]; decide)] at hlay
  have hst := (u_facts hfc hkC (u_lays h5 hin hk) hi).1
  have h6 := u_store hfc hkC hkind hlay hi (hty k hk) hn hf
  have fin : ∀ H' : Heap, H'[B.1 κ i]? = some (cell.setSlot f.slot v) → H'.size = H.size → (∀ q : Nat, q ≠ B.1 κ i → H'[q]? = H[q]?) → j_R g B w2 H' := by
    intro H' e1 e2 e3
    refine hw H H' hR e2 e3 (j_ok.mko h0 hc ?_)
    rw [hsl] at e1
    rw [hv]
    exact ⟨_, e1, q2, q3, t_set q4 hap hk v⟩
  have hb0 : jgb g ≤ B.1 κ i := hR.2.2.1 κ i ha hro
  have hlocs : ∀ q ∈ locs ++ [(⟨B.1 κ i, f.slot⟩ : Loc)], jgb g ≤ q.base := by
    intro q hq0
    rcases List.mem_append.mp hq0 with z | z
    · exact hq q z
    · cases List.mem_singleton.mp z
      exact hb0
  rcases hl with hl | ⟨host, hl⟩
  · exact W.putK h1 h2 (f := f) ⟨h4, h5 _ hl, ⟨_, _, _, hi⟩, hst⟩ (by rw [q2]; exact h6) q1 q3 (by rw [hsl]; exact k2_hasslot (q4 k hk)) rfl rfl d fun H' e1 e2 e3 => kk H' _ (fin H' e1 e2 e3) hlocs
  · exact va_WputK h1 h2 (f := f) h4 (va_Nw.use rfl (hN _ hl)) hi hst (by rw [q2]; exact h6) q1 q3 (by rw [hsl]; exact k2_hasslot (q4 k hk)) rfl rfl d fun H' e1 e2 e3 => kk H' _ (fin H' e1 e2 e3) hlocs
/-- an int (or a value that its field's type leaves as it is) -/
theorem J.puti (hx : j_C cc nL own ret rm g x) {κ i k index : Nat} {C : String} {T : u_T} {N : Nat} {v : Int32} {f : j_St → Option (α × j_St)} (h0 : jk0 κ = 0) (hc : jcl[jk1 κ]? = some (C, T, N)) (hs : jfs κ k = 0) (hin : ∀ w ∈ u_ws C T N, w ∈ lw_all) {ty0 : Nat → FieldType} (hty : ∀ k, k < N → parseFieldDescriptor (T k).2.2.1 = some (ty0 k)) (hnm : ∀ a, a < N → ∀ b, b < N → a ≠ b → (T a).2.1 ≠ (T b).2.1) (hk : k < N) (hl : jlk own index (T k).1 (T k).2.1 (T k).2.2.1) (hfin : (T k).2.2.2 = false) (hro : jro κ = false) (ha : B.2.1 κ i)
    (hn : narrow (ty0 k) (.int v) = .int v ∧ fits (ty0 k) (.int v) = true) (d : decode cc pc = .ok (.putfield index, 3))
    (kk : ∀ w2 : j_St, J g x nL B Q cells slots (f w2) (pc + 3) lv st w2) : J g x nL B Q cells slots (jlt (jsi w κ i k v) f) pc lv (.int v :: .ref (B.1 κ i) :: st) w :=
  J.put0 hx h0 hc hin hty hnm hk hl hfin hro ha hn.1 hn.2 d (jfv_si hs) (fun H H' hR e2 e3 hok => hR.si ha hro e2 e3 hok) (kk _)
theorem J.putz (hx : j_C cc nL own ret rm g x) {κ i k index : Nat} {C : String} {T : u_T} {N : Nat} {v : Int32} {f : j_St → Option (α × j_St)} (h0 : jk0 κ = 0) (hc : jcl[jk1 κ]? = some (C, T, N)) (hs : jfs κ k = 0) (hin : ∀ w ∈ u_ws C T N, w ∈ lw_all) {ty0 : Nat → FieldType} (hty : ∀ k, k < N → parseFieldDescriptor (T k).2.2.1 = some (ty0 k)) (hnm : ∀ a, a < N → ∀ b, b < N → a ≠ b → (T a).2.1 ≠ (T b).2.1) (hk : k < N) (hl : jlk own index (T k).1 (T k).2.1 (T k).2.2.1) (hfin : (T k).2.2.2 = false) (hro : jro κ = false) (ha : B.2.1 κ i)
    (hn : ty0 k = .boolean) (d : decode cc pc = .ok (.putfield index, 3))
    (kk : ∀ w2 : j_St, J g x nL B Q cells slots (f w2) (pc + 3) lv st w2) : J g x nL B Q cells slots (if v = 0 ∨ v = 1 then jlt (jsi w κ i k v) f else none) pc lv (.int v :: .ref (B.1 κ i) :: st) w := by
  by_cases hv : v = 0 ∨ v = 1
  · rw [if_pos hv]
    refine J.puti hx h0 hc hs hin hty hnm hk hl hfin hro ha ?_ d kk
    rw [hn]
    rcases hv with rfl | rfl <;> exact ⟨rfl, rfl⟩
  · rw [if_neg hv]
    exact J.nne
theorem J.putl (hx : j_C cc nL own ret rm g x) {κ i k index : Nat} {C : String} {T : u_T} {N : Nat} {v : Int64} {f : j_St → Option (α × j_St)} (h0 : jk0 κ = 0) (hc : jcl[jk1 κ]? = some (C, T, N)) (hs : jfs κ k = 1) (hin : ∀ w ∈ u_ws C T N, w ∈ lw_all) {ty0 : Nat → FieldType} (hty : ∀ k, k < N → parseFieldDescriptor (T k).2.2.1 = some (ty0 k)) (hnm : ∀ a, a < N → ∀ b, b < N → a ≠ b → (T a).2.1 ≠ (T b).2.1) (hk : k < N) (hl : jlk own index (T k).1 (T k).2.1 (T k).2.2.1) (hfin : (T k).2.2.2 = false) (hro : jro κ = false) (ha : B.2.1 κ i)
    (hn : ty0 k = .long) (d : decode cc pc = .ok (.putfield index, 3))
    (kk : ∀ w2 : j_St, J g x nL B Q cells slots (f w2) (pc + 3) lv st w2) : J g x nL B Q cells slots (jlt (jsl w κ i k v) f) pc lv (.long v :: .ref (B.1 κ i) :: st) w :=
  J.put0 hx h0 hc hin hty hnm hk hl hfin hro ha (by rw [hn]; rfl) (by rw [hn]; rfl) d (jfv_sl hs) (fun H H' hR e2 e3 hok => hR.sl ha hro e2 e3 hok) (kk _)
theorem J.putr (hx : j_C cc nL own ret rm g x) {κ i k index : Nat} (κ' : Nat) {C : String} {T : u_T} {N : Nat} {v : Option Nat} {f : j_St → Option (α × j_St)} (h0 : jk0 κ = 0) (hc : jcl[jk1 κ]? = some (C, T, N)) (hs : jfs κ k = 2) (hκ : jfk κ k = κ') (hin : ∀ w ∈ u_ws C T N, w ∈ lw_all) {ty0 : Nat → FieldType} (hty : ∀ k, k < N → parseFieldDescriptor (T k).2.2.1 = some (ty0 k)) (hnm : ∀ a, a < N → ∀ b, b < N → a ≠ b → (T a).2.1 ≠ (T b).2.1) (hk : k < N) (hl : jlk own index (T k).1 (T k).2.1 (T k).2.2.1) (hfin : (T k).2.2.2 = false) (hro : jro κ = false) (ha : B.2.1 κ i)
    (hn : ∀ a, narrow (ty0 k) (.ref a) = .ref a ∧ fits (ty0 k) (.ref a) = true ∧ narrow (ty0 k) .null = .null ∧ fits (ty0 k) .null = true) (hv : ∀ q, v = some q → B.2.1 κ' q ∧ B.2.2 κ' q) (d : decode cc pc = .ok (.putfield index, 3))
    (kk : ∀ w2 : j_St, J g x nL B Q cells slots (f w2) (pc + 3) lv st w2) : J g x nL B Q cells slots (jlt (jsr w κ i k v) f) pc lv (va_re (B.1 κ') v :: .ref (B.1 κ i) :: st) w := by
  subst hκ
  refine J.put0 hx h0 hc hin hty hnm hk hl hfin hro ha ?_ ?_ d (jfv_sr (by omega)) (fun H H' hR e2 e3 hok => hR.sr ha hro e2 e3 hok (fun q hq => ⟨(hv q hq).1, fun _ => (hv q hq).2⟩) (fun z => by omega)) (kk _)
  · cases v with
    | none => exact (hn 0).2.2.1
    | some q => exact (hn _).1
  · cases v with
    | none => exact (hn 0).2.2.2
    | some q => exact (hn _).2.1
end JH
