/-! J: what text needs: cells built at birth, bytes copied, arrays cloned, String constants, casts, inherited methods -/
def jbN (B : j_B) (κ i q : Nat) : j_B := jbb (jbn B κ i q) (fun a b => a = κ ∧ b = i)
theorem jN_old {B : j_B} {κ i q a b : Nat} (h : B.2.1 a b ∧ B.2.2 a b) : (jbN B κ i q).2.1 a b ∧ (jbN B κ i q).2.2 a b := ⟨Or.inr h.1, Or.inl h.2⟩
theorem jN_oldq {B : j_B} {κ i q κ' : Nat} {v : Option Nat} (h : ∀ a, v = some a → B.2.1 κ' a ∧ B.2.2 κ' a) : ∀ a, v = some a → (jbN B κ i q).2.1 κ' a ∧ (jbN B κ i q).2.2 κ' a := fun a e => jN_old (h a e)
theorem jN_oldh {B : j_B} {κ i q a b : Nat} (h : B.2.1 a b ∧ True) : (jbN B κ i q).2.1 a b ∧ True := ⟨Or.inr h.1, trivial⟩
theorem jN_al {B : j_B} {κ i q : Nat} : (jbN B κ i q).2.1 κ i ∧ (jbN B κ i q).2.2 κ i := ⟨jbn_al B (q := q), Or.inr ⟨rfl, rfl⟩⟩
theorem jN_ext {B : j_B} {κ i q : Nat} (hf : ¬ B.2.1 κ i) : j_ext B (jbN B κ i q) := (jbn_ext hf).tr jbb_ext
theorem jn3_9 (k : Nat) : jfs 9 k ≠ 3 := by
  match k with
  | 0 => decide
  | 1 => decide
  | 2 => decide
  | 3 => decide
  | 4 => decide
  | 5 => decide
  | 6 => decide
  | k + 7 => show ¬ 0 = 3; decide
theorem jn3_15 (k : Nat) : jfs 15 k ≠ 3 := by
  match k with
  | 0 => decide
  | 1 => decide
  | 2 => decide
  | 3 => decide
  | k + 4 => show ¬ 0 = 3; decide
theorem jn3_16 (k : Nat) : jfs 16 k ≠ 3 := by
  match k with
  | 0 => decide
  | 1 => decide
  | 2 => decide
  | 3 => decide
  | k + 4 => show ¬ 0 = 3; decide
theorem jn3_70 (k : Nat) : jfs 70 k ≠ 3 := by
  show ¬ 0 = 3
  decide
theorem j_arrV_congr {cI : ClassId} {N : Nat} {f f' : Nat → Value} (h : ∀ j, j < N → f j = f' j) : arrV cI N f = arrV cI N f' := by
  unfold arrV
  rw [show (fun j : Fin N => f j.val) = fun j => f' j.val from funext fun j => h _ j.isLt]
/-- bytes are bytes -/
def jbyt (w : j_St) (κ i a n : Nat) : Bool := (List.range n).all fun k => fits .byte (.int (jgi w κ i (a + k)))
theorem jbyt_at {w : j_St} {κ i a n : Nat} (h : jbyt w κ i a n = true) {k : Nat} (hk : k < n) : fits .byte (.int (jgi w κ i (a + k))) = true := List.all_eq_true.mp h k (List.mem_range.mpr hk)
/-- the String constants and the JDK's arrays of digits are in the book -/
def j_lit (g : j_G) (B : j_B) : Prop := (∀ i, i < 15 → (B.2.1 17 i ∧ B.2.2 17 i) ∧ B.1 17 i = jgM g 117 i) ∧ (∀ i, i < 2 → (B.2.1 72 i ∧ B.2.2 72 i) ∧ B.1 72 i = jgM g 172 i)
theorem j_lit.mv {g : j_G} {B B' : j_B} (h : j_lit g B) (he : j_ext B B') : j_lit g B' := ⟨fun i hi => ⟨he.mv (h.1 i hi).1, (he.ad (h.1 i hi).1).trans (h.1 i hi).2⟩, fun i hi => ⟨he.mv (h.2 i hi).1, (he.ad (h.2 i hi).1).trans (h.2 i hi).2⟩⟩
/-- words -/
theorem j_wU {own : String} {idx : Nat} {C owner : String} {x y : MethodName} {b : ByteArray} {L : Nat} {r : Option FieldType} (h1 : Cond.methodLink own idx x ∈ lw_all) (h2 : Cond.sameMethod x.cls owner x.name x.desc ∈ lw_all) (h3 : Cond.selects C x y ∈ lw_all) (h4 : Cond.instanceMethod y ∈ lw_all) (h5 : Cond.initialized y.cls ∈ lw_all) (h6 : Cond.code y b L r ∈ lw_all) : GoodIn lw_all (va_wsU own idx C owner x y (ws_ y b L r)) := by
  refine lw_app ?_ (lw_meth h6)
  intro w hw
  simp only [List.mem_cons, List.not_mem_nil, or_false] at hw
  rcases hw with e | e | e | e | e
  · rw [e]; exact h1
  · rw [e]; exact h2
  · rw [e]; exact h3
  · rw [e]; exact h4
  · rw [e]; exact h5
theorem j_wO {own : String} {idx : Nat} {C owner : String} {x y : MethodName} {b : ByteArray} {L : Nat} {r : Option FieldType} (h1 : Cond.methodLink own idx x ∈ lw_all) (h2 : Cond.sameMethod x.cls owner x.name x.desc ∈ lw_all) (h2' : Cond.instanceMethod ⟨owner, x.name, x.desc⟩ ∈ lw_all) (h3 : Cond.selects C x y ∈ lw_all) (h4 : Cond.instanceMethod y ∈ lw_all) (h5 : Cond.initialized y.cls ∈ lw_all) (h6 : Cond.code y b L r ∈ lw_all) : GoodIn lw_all (va_wsO own idx C owner x y (ws_ y b L r)) := by
  refine lw_app ?_ (lw_meth h6)
  intro w hw
  simp only [List.mem_cons, List.not_mem_nil, or_false] at hw
  rcases hw with e | e | e | e | e | e
  · rw [e]; exact h1
  · rw [e]; exact h2
  · rw [e]; exact h2'
  · rw [e]; exact h3
  · rw [e]; exact h4
  · rw [e]; exact h5
theorem j_wSU {own : String} {idx : Nat} {y : MethodName} {b : ByteArray} {L : Nat} {r : Option FieldType} (h1 : Cond.methodLink own idx y ∈ lw_all) (h2 : Cond.sameMethod y.cls y.cls y.name y.desc ∈ lw_all) (h3 : Cond.superclass own y.cls ∈ lw_all) (h4 : Cond.instanceMethod y ∈ lw_all) (h5 : Cond.initialized y.cls ∈ lw_all) (h6 : Cond.code y b L r ∈ lw_all) : GoodIn lw_all (va_wsSU own idx y (ws_ y b L r)) := by
  refine lw_app ?_ (lw_meth h6)
  intro w hw
  simp only [List.mem_cons, List.not_mem_nil, or_false] at hw
  rcases hw with e | e | e | e | e
  · rw [e]; exact h1
  · rw [e]; exact h2
  · rw [e]; exact h3
  · rw [e]; exact h4
  · rw [e]; exact h5
/-- a private method selects itself, whoever the receiver is (the class of another method's word is known) -/
theorem j_selP {s : State} {args : Array Value} {C : String} {y y0 : MethodName} (h0 : (Cond.selects C y0 y0).before args s = true) (hcls : y0.cls = y.cls) (hpriv : (Cond.privateMethod y).before args s = true) (hinst : (Cond.instanceMethod y).before args s = true) (hy : y.cls ≠ "java/lang/invoke/MethodHandle" ∧ y.cls ≠ "java/lang/invoke/VarHandle") : (Cond.selects C y y).before args s = true := by
  obtain ⟨c, r2, m2, q1, q2, q3, q4, kP, hkP, hkPi⟩ := Cond.selects_spec h0
  obtain ⟨mk, methM, hnamed, hmethM, -, -⟩ := Cond.instanceMethod_spec hinst
  have hfound : s.methodFound? y.cls y.name y.desc = some mk := State.methodFound?_of_named hnamed hy
  have hcl : mk.cls = m2.cls := by
    have e1 := findClass_of_methodNamed hnamed
    have e2 := findClass_of_methodNamed q3
    rw [hcls] at e2
    exact Option.some.inj (e1.symm.trans e2)
  have hsel : selectMethod {} s.vm c mk = .method mk := selectMethod_private hmethM (Cond.privateMethod_at hpriv mk methM hnamed hmethM)
  simp only [Cond.before, Cond.holds, Cond.value, q1, hfound, hnamed, hsel, hcl, hkP]
  simp
  exact hkPi
section JS
variable {α β : Type} {g : j_G} {x : j_X} {cc : ByteArray} {nL : Nat} {own : String} {ret : Option FieldType} {rm : Room} {B B0 : j_B} {Q : α → j_St → State → Prop} {cells slots : Nat} {o o1 o2 : Option (α × j_St)} {pc pc' : Nat} {lv lv' : List (Nat × Value)} {st st' rest : List Value} {w w1 : j_St}
theorem J.acopyb (hx : j_C cc nL own ret rm g x) {κ i κ' i' n0 n1 index : Nat} {sp dp n : Int32} {rest : List Value} {f : j_St → Option (α × j_St)} (h0 : jk0 κ = 2) (h0' : jk0 κ' = 2) (hro : jro κ' = false) (hn0 : jln w κ i = n0) (hn1 : jln w κ' i' = n1) (ha : B.2.1 κ i) (ha' : B.2.1 κ' i')
    (hl : Cond.methodLink own index arraycopyName ∈ lw_all) (hnat : Cond.native arraycopyName ∈ lw_all) (hst : Cond.static arraycopyName ∈ lw_all) (hini : Cond.initialized "java/lang/System" ∈ lw_all) (hfr : 1 ≤ rm.frames) (hlo : 8 + (nativeFrameWords "java/lang/System" "arraycopy" 5 + 11) ≤ rm.locals) (hW : (rest.map fun v => v.category).sum ≤ 8) (d : decode cc pc = .ok (.invokestatic index, 3))
    (kk : ∀ w2 : j_St, J g x nL B Q cells slots (f w2) (pc + 3) lv rest w2) :
    J g x nL B Q cells slots (if 0 ≤ sp.toInt ∧ 0 ≤ dp.toInt ∧ 0 ≤ n.toInt ∧ sp.toInt + n.toInt ≤ (n0 : Int) ∧ dp.toInt + n.toInt ≤ (n1 : Int) ∧ jbyt w κ i sp.toInt.toNat n.toInt.toNat = true then jlt (jcp w κ i sp.toInt.toNat κ' i' dp.toInt.toNat n.toInt.toNat) f else none) pc lv (.int n :: .int dp :: .ref (B.1 κ' i') :: .int sp :: .ref (B.1 κ i) :: rest) w := by
  refine J.ite (fun hc => ?_) (fun _ => J.nne)
  obtain ⟨c1, c2, c3, c4, c5, c6⟩ := hc
  intro r w' ho H locs ls h hR hq
  have kk := fun (H' : Heap) (locs' : List Loc) => kk _ r w' ho H' locs' ls h
  obtain ⟨p, e, R, s, m, args, below, meth, c⟩ := x
  obtain ⟨h1, h2, h3, h4, h5, h6, -, -, h9⟩ := hx
  cases h9
  obtain ⟨hK, hA, -⟩ := h6
  have hs : ∀ k, jfs κ k = 0 := fun k => by unfold jfs jfd; rw [h0]; rfl
  have hs' : ∀ k, jfs κ' k = 0 := fun k => by unfold jfs jfd; rw [h0']; rfl
  have e0 : jfv B.1 w κ i = fun j => .int (jgi w κ i j) := funext fun j => jfv_i (hs j)
  have e1 : jfv B.1 w κ' i' = fun j => .int (jgi w κ' i' j) := funext fun j => jfv_i (hs' j)
  have hc0 := (hR.1 κ i ha).arr (by rw [h0]; decide) (by rw [h0]; decide)
  have hc1 := (hR.1 κ' i' ha').arr (by rw [h0']; decide) (by rw [h0']; decide)
  rw [hn0, e0] at hc0
  rw [hn1, e1] at hc1
  have hty := j_tyk (t := 2) (ty := .byte) (by decide +kernel) (by decide) h0
  have hty' := j_tyk (t := 2) (ty := .byte) (by decide +kernel) (by decide) h0'
  have hAr := (hA _ hty.2).1 n0 (fun j => .int (jgi w κ i j))
  have hAr' := (hA _ hty'.2).1 n1 (fun j => .int (jgi w κ' i' j))
  rw [hty.1] at hAr
  rw [hty'.1] at hAr'
  obtain ⟨-, k0, hk0, cm0, hkk0⟩ := hAr
  obtain ⟨-, k1, hk1, cm1, hkk1⟩ := hAr'
  have z1 : ∀ z : Int32, 0 ≤ z.toInt → ¬ z < 0 := fun z hz q => by
    rw [Int32.lt_iff_toInt_lt] at q
    simp at q
    omega
  intro T hT X
  obtain ⟨vm', X', step⟩ := X.arraycopy h1 h4 (h5 _ hl) (h5 _ hnat) (h5 _ hst) (h5 _ hini) (src := B.1 κ i) (dst := B.1 κ' i') (cs := arrV (jgA g (jk1 κ)) n0 (fun j => .int (jgi w κ i j))) (cd := arrV (jgA g (jk1 κ')) n1 (fun j => .int (jgi w κ' i' j))) (srcPos := sp) (destPos := dp) (n := n) (by rw [hT]; exact hc0) (by rw [hT]; exact hc1)
    (fun _ h => by cases h) (fun _ h => by cases h) (fun h => by cases h) (fun h => by cases h) hk0 hk1 hkk0 hkk1 (by rfl) (z1 _ c1) (z1 _ c2) (z1 _ c3)
    (by rw [arrV_size]; omega) (by rw [arrV_size]; omega)
    (fun vm₁ _ j hj => by
      have e : (arrV (jgA g (jk1 κ)) n0 (fun j => .int (jgi w κ i j))).slots.getD (sp.toNatClampNeg + j) .null = .int (jgi w κ i (sp.toNatClampNeg + j)) := by
        have q1 : sp.toNatClampNeg = sp.toInt.toNat := rfl
        have q2 : n.toNatClampNeg = n.toInt.toNat := rfl
        rw [Array.getD_eq_getD_getElem?, arrV_read _ _ (by omega)]
        rfl
      rw [e]
      exact ⟨jbyt_at c6 (show j < n.toInt.toNat from hj), trivial⟩)
    (g := F0 m pc ls (.int n :: .int dp :: .ref (B.1 κ' i') :: .int sp :: .ref (B.1 κ i) :: rest)) rfl (h.1.trans h3.symm) (rest := rest) rfl (by rw [h2]; exact d) hfr (by
      have hlo' : 8 + (nativeFrameWords "java/lang/System" "arraycopy" 5 + 11) ≤ R.locals := hlo
      show 2 * 0 + _ + _ ≤ R.locals
      omega)
  have ec : copied (arrV (jgA g (jk1 κ)) n0 (fun j => .int (jgi w κ i j))) (arrV (jgA g (jk1 κ')) n1 (fun j => .int (jgi w κ' i' j))) sp dp n = arrV (jgA g (jk1 κ')) n1 (fun j => .int (va_cpy (jgi w κ i) (jgi w κ' i') sp.toNatClampNeg dp.toNatClampNeg n.toNatClampNeg j)) := va_copied (fun z => .int z) _ _ _ _ (by
      have q1 : sp.toNatClampNeg = sp.toInt.toNat := rfl
      have q2 : n.toNatClampNeg = n.toInt.toNat := rfl
      omega)
  rw [ec] at X' step
  have hl : B.1 κ' i' < H.size := (Array.getElem?_eq_some_iff.mp hc1).1
  generalize hnewcell : arrV (jgA g (jk1 κ')) n1 (fun j => .int (va_cpy (jgi w κ i) (jgi w κ' i') sp.toNatClampNeg dp.toNatClampNeg n.toNatClampNeg j)) = nc at X' step
  have hheap : ((T.setVm vm').setCell (B.1 κ' i') nc).heap = H.setIfInBounds (B.1 κ' i') nc := by rw [← hT]; rfl
  have o1 : (H.setIfInBounds (B.1 κ' i') nc)[B.1 κ' i']? = some nc := by simp [Array.getElem?_setIfInBounds, hl]
  have oq : ∀ q : Nat, q ≠ B.1 κ' i' → (H.setIfInBounds (B.1 κ' i') nc)[q]? = H[q]? := fun q hq => by simp [Array.getElem?_setIfInBounds, Ne.symm hq]
  have hR2 : j_R g B (jcp w κ i sp.toInt.toNat κ' i' dp.toInt.toNat n.toInt.toNat) (H.setIfInBounds (B.1 κ' i') nc) := by
    refine hR.put ha' hro (by simp) oq (j_ok.mka (by rw [h0']; decide) (by rw [h0']; decide) ?_) (fun a b q => ⟨?_, rfl⟩) (fun _ _ _ _ z => Or.inl z) (fun _ _ _ _ _ => rfl)
    · rw [o1, ← hnewcell]
      show _ = some (arrV _ (jln w κ' i') _)
      rw [hn1]
      congr 2
      funext j
      rw [jfv_i (hs' j)]
      show _ = Value.int (if κ' = κ' ∧ i' = i' then _ else _)
      rw [if_pos ⟨rfl, rfl⟩]
      rfl
    · funext k
      refine jfv_eq ?_ rfl rfl
      show (if a = κ' ∧ b = i' then _ else _) = _
      rw [if_neg q]
      rfl
  obtain ⟨t, a1, b1⟩ := kk _ _ hR2 (fun q hq0 => by
      rcases List.mem_append.mp hq0 with z | z
      · exact hq q z
      · obtain ⟨y, -, hy⟩ := List.mem_map.mp z
        rw [← hy]
        exact hR.2.2.1 κ' i' ha' hro) _ hheap X'
  exact ⟨t, step t a1, b1⟩

theorem J.newB (hx : j_C cc nL own ret rm g x) {κ i index : Nat} {C : String} {T : u_T} {N : Nat} {f : j_St → Option (α × j_St)} (h0 : jk0 κ = 0) (hc : jcl[jk1 κ]? = some (C, T, N)) (hin : ∀ w ∈ u_ws C T N, w ∈ lw_all) {ty0 : Nat → FieldType} (hty : ∀ k, k < N → parseFieldDescriptor (T k).2.2.1 = some (ty0 k))
    (hd : ∀ k, k < N → defaultValue (ty0 k) = (if jfs κ k = 0 then .int 0 else if jfs κ k = 1 then .long 0 else .null)) (hk : κ < 100) (hf : ¬ B.2.1 κ i) (hb : ¬ B.2.2 κ i) (hcnt : jcnt w κ i) (h3 : ∀ k, jfs κ k ≠ 3)
    (hcl : Cond.classLink own index C ∈ lw_all) (hins : Cond.instantiable C N ∈ lw_all) (hini : Cond.initialized C ∈ lw_all) (hcs : cells + 1 ≤ rm.cells ∧ slots + N ≤ rm.slots) (d : decode cc pc = .ok (.new index, 3))
    (kk : ∀ (q : Nat) (w2 : j_St), J g x nL (jbN B κ i q) Q (cells + 1) (slots + N) (f w2) (pc + 3) lv (.ref ((jbN B κ i q).1 κ i) :: st) w2) : J g x nL B Q cells slots (jlt (jnw w κ i 0) f) pc lv st w :=
  J.new hx h0 hc hin hty hd hk hf hb hcnt hcl hins hini hcs d fun q w2 => J.built (fun a b => a = κ ∧ b = i) (fun a b h => by
    obtain ⟨rfl, rfl⟩ := h
    exact ⟨jbn_al B, fun k hk3 => absurd hk3 (h3 k)⟩) (kk q w2)
/-- a new array of bytes, its length told by the run, cap at most -/
theorem J.newD (hx : j_C cc nL own ret rm g x) (cap : Nat) {i : Nat} {j : Int32} {f : j_St → Option (α × j_St)} (hcap : cap ≤ 1000000) (hf : ¬ B.2.1 70 i) (hb : ¬ B.2.2 70 i) (hcnt : jcnt w 70 i)
    (harr : Cond.arrayClass .byte ∈ lw_all) (hcs : cells + 1 ≤ rm.cells ∧ slots + cap ≤ rm.slots) (d : decode cc pc = .ok (.newarray .byte, 2))
    (kk : ∀ (q : Nat) (w2 : j_St), J g x nL (jbN B 70 i q) Q (cells + 1) (slots + cap) (f w2) (pc + 2) lv (.ref ((jbN B 70 i q).1 70 i) :: st) w2) :
    J g x nL B Q cells slots (if 0 ≤ j.toInt ∧ j.toInt ≤ (cap : Int) then jlt (jnw w 70 i j.toInt.toNat) f else none) pc lv (.int j :: st) w := by
  refine J.ite (fun hc => ?_) (fun _ => J.nne)
  have hj : ¬ j < 0 := fun q => by
    rw [Int32.lt_iff_toInt_lt] at q
    simp at q
    omega
  have hle : j.toInt.toNat ≤ cap := by omega
  refine J.newa (κ := 70) (i := i) (m := j.toInt.toNat) (n := j.toInt.toNat) (ty := .byte) hx ⟨by decide, by decide⟩ rfl rfl (fun _ _ => rfl) (by decide) rfl hj rfl rfl (fun _ => ⟨Iff.rfl, Iff.rfl⟩) (by decide) hf hb hcnt harr (by
    have : componentBytes .byte = 1 := by decide
    rw [this]
    omega) ⟨hcs.1, by have := hcs.2; omega⟩ d fun q w2 => ?_
  refine J.widen (Nat.le_refl _) (show _ ≤ slots + cap from by omega) ?_
  exact J.built (fun a b => a = 70 ∧ b = i) (fun a b h => by
    obtain ⟨rfl, rfl⟩ := h
    exact ⟨jbn_al B, fun k hk3 => absurd hk3 (jn3_70 k)⟩) (kk q w2)
/-- String constants -/
theorem J.ldcS (hx : j_C cc nL own ret rm g x) {index n : Nat} (tx : String) (hm : (own, index, tx, n) ∈ jlits) (hL : j_lit g B) (hn : n < 15) (d : decode cc pc = .ok (.ldc index, 2)) (k : J g x nL B Q cells slots o (pc + 2) lv (.ref (B.1 17 n) :: st) w) : J g x nL B Q cells slots o pc lv st w := by
  intro r w' ho H locs ls h hR hq
  have k := k r w' ho H locs ls h hR hq
  rw [(hL.1 n hn).2] at k
  obtain ⟨p, e, R, s, m, args, below, meth, c⟩ := x
  obtain ⟨h1, h2, h3, h4, h5, h6, h7⟩ := hx
  exact va_ldcS h1 h2 h4 ((h6.2.2.2.2.2.2).2.2.2.2.1 _ hm) d k
theorem J.ldcSw (hx : j_C cc nL own ret rm g x) {index n : Nat} (tx : String) (hm : (own, index, tx, n) ∈ jlits) (hL : j_lit g B) (hn : n < 15) (d : decode cc pc = .ok (.ldc_w index, 3)) (k : J g x nL B Q cells slots o (pc + 3) lv (.ref (B.1 17 n) :: st) w) : J g x nL B Q cells slots o pc lv st w := by
  intro r w' ho H locs ls h hR hq
  have k := k r w' ho H locs ls h hR hq
  rw [(hL.1 n hn).2] at k
  obtain ⟨p, e, R, s, m, args, below, meth, c⟩ := x
  obtain ⟨h1, h2, h3, h4, h5, h6, h7⟩ := hx
  have hZ := (h6.2.2.2.2.2.2).2.2.2.2.1 _ hm
  intro T hT X
  obtain ⟨t, a1, b1⟩ := k T hT X
  exact ⟨t, X.ldcStringW h1 h4 (text := tx) (a := jgM g 117 n) hZ.1 hZ.2 (g := F0 m pc ls st) rfl (by rw [h2]; exact d) t a1, b1⟩
/-- a static that holds an array of digits -/
theorem J.getsD (hx : j_C cc nL own ret rm g x) {index i : Nat} (nm : String) (hm : (nm, i) ∈ jdig) (hi : i < 2) (hL : j_lit g B) (hl : Cond.fieldLink own index "java/lang/Integer" nm "[B" ∈ lw_all) (hd : decode cc pc = .ok (.getstatic index, 3)) (k : J g x nL B Q cells slots o (pc + 3) lv (.ref (B.1 72 i) :: st) w) : J g x nL B Q cells slots o pc lv st w := by
  intro r w' ho H locs ls h hR hq
  have k := k r w' ho H locs ls h hR hq
  rw [(hL.2 i hi).2] at k
  obtain ⟨p, e, R, s, m, args, below, meth, c⟩ := x
  obtain ⟨h1, h2, h3, h4, h5, h6, h7⟩ := hx
  obtain ⟨cf, kf, fi, f, a, cell, g1, g2, g3, g4, g5, g6, g7, g8⟩ := (h6.2.2.2.2.2.2).2.2.2.2.2.1 _ hm
  exact W.gets h1 h2 h4 (h5 _ hl) g1 g2 g3 g4 (by rw [hR.2.2.2.2.1 a (Nat.not_le.mp g8)]; exact g5) (fun e => by rw [e] at g6; cases g6) g7 rfl hd k
/-- casts that hold -/
theorem J.castS (hx : j_C cc nL own ret rm g x) {κ i index : Nat} {C : String} {T : u_T} {N : Nat} (h0 : jk0 κ = 0) (hcl : jcl[jk1 κ]? = some (C, T, N)) (ha : B.2.1 κ i) (hl : Cond.classLink own index C ∈ lw_all) (d : decode cc pc = .ok (.checkcast index, 3)) (k : J g x nL B Q cells slots o (pc + 3) lv (.ref (B.1 κ i) :: st) w) : J g x nL B Q cells slots o pc lv (.ref (B.1 κ i) :: st) w := by
  intro r w' ho H locs ls h hR hq
  have k := k r w' ho H locs ls h hR hq
  obtain ⟨cell, g1, g2, g3, -⟩ := (hR.1 κ i ha).obj h0 hcl
  obtain ⟨p, e, R, s, m, args, below, meth, c⟩ := x
  obtain ⟨h1, h2, h3, h4, h5, h6, h7⟩ := hx
  exact va_castS h1 h2 h4 (h5 _ hl) (h6.1.1 _ _ hcl).2 ⟨cell, g1, by rw [g3]; rfl, by rw [g2]; exact (h6.1.1 _ _ hcl).2.1⟩ d k
theorem J.instS (hx : j_C cc nL own ret rm g x) {κ i index : Nat} {C : String} {T : u_T} {N : Nat} (h0 : jk0 κ = 0) (hcl : jcl[jk1 κ]? = some (C, T, N)) (ha : B.2.1 κ i) (hl : Cond.classLink own index C ∈ lw_all) (d : decode cc pc = .ok (.instanceof index, 3)) (k : J g x nL B Q cells slots o (pc + 3) lv (.int 1 :: st) w) : J g x nL B Q cells slots o pc lv (.ref (B.1 κ i) :: st) w := by
  intro r w' ho H locs ls h hR hq
  have k := k r w' ho H locs ls h hR hq
  obtain ⟨cell, g1, g2, g3, -⟩ := (hR.1 κ i ha).obj h0 hcl
  obtain ⟨p, e, R, s, m, args, below, meth, c⟩ := x
  obtain ⟨h1, h2, h3, h4, h5, h6, h7⟩ := hx
  exact va_instS h1 h2 h4 (h5 _ hl) (h6.1.1 _ _ hcl).2 ⟨cell, g1, by rw [g3]; rfl, by rw [g2]; exact (h6.1.1 _ _ hcl).2.1⟩ d k
/-- an array of bytes is one -/
theorem J.castB (hx : j_C cc nL own ret rm g x) {κ i index : Nat} (h0 : jk0 κ = 2) (ha : B.2.1 κ i) (hl : Cond.classLink own index "[B" ∈ lw_all) (d : decode cc pc = .ok (.checkcast index, 3)) (k : J g x nL B Q cells slots o (pc + 3) lv (.ref (B.1 κ i) :: st) w) : J g x nL B Q cells slots o pc lv (.ref (B.1 κ i) :: st) w := by
  intro r w' ho H locs ls h hR hq
  have k := k r w' ho H locs ls h hR hq
  have hc0 := (hR.1 κ i ha).arr (by rw [h0]; decide) (by rw [h0]; decide)
  have hty := j_tyk (t := 2) (ty := .byte) (by decide +kernel) (by decide) h0
  obtain ⟨p, e, R, s, m, args, below, meth, c⟩ := x
  obtain ⟨h1, h2, h3, h4, h5, h6, h7⟩ := hx
  have hra := (h6.2.1 _ hty.2).2
  rw [hty.1] at hra
  have hnm : s.vm.findClass "[B" = some (jgA g (jk1 κ)) := hra
  intro T hT X
  obtain ⟨vm', X', st1⟩ := X.checkcastYes h1 h4 (h5 _ hl) (a := B.1 κ i) (by rw [hT]; exact hc0) (by rfl) hnm (va_asg _ _) (g := F0 m pc ls (.ref (B.1 κ i) :: st)) rfl rfl (by rw [h2]; exact d)
  obtain ⟨t, a1, b1⟩ := k (T.setVm vm') hT X'
  exact ⟨t, st1 t a1, b1⟩
/-- ends of methods that answer bytes or chars -/
theorem J.bretc (hx : j_C cc nL own ret rm g x) {v : Int32} {lv : List (Nat × Value)} (hr : ret = some .byte) (hc : cells ≤ rm.cells) (hs : slots ≤ rm.slots) (d : decode cc pc = .ok (.ireturn, 1)) : J g x nL B (j_Q g x B rm jri) cells slots (if v.toInt8.toInt32 = v then some (v, w) else none) pc lv [.int v] w := by
  refine J.ite (fun hv => ?_) (fun _ => J.nne)
  exact J.zret hx hr (by show Value.int v.toInt8.toInt32 = _; rw [hv]) hc hs d
theorem J.cretc (hx : j_C cc nL own ret rm g x) {v : Int32} {lv : List (Nat × Value)} (hr : ret = some .char) (hc : cells ≤ rm.cells) (hs : slots ≤ rm.slots) (d : decode cc pc = .ok (.ireturn, 1)) : J g x nL B (j_Q g x B rm jri) cells slots (if v.toUInt32.toUInt16.toUInt32.toInt32 = v then some (v, w) else none) pc lv [.int v] w := by
  refine J.ite (fun hv => ?_) (fun _ => J.nne)
  exact J.zret hx hr (by show Value.int v.toUInt32.toUInt16.toUInt32.toInt32 = _; rw [hv]) hc hs d
variable {y : MethodName} {cy : ByteArray} {nY : Nat} {rY : Option FieldType} {rmY : Room} {As : List Value} {v : Option Value} {index n : Nat}
/-- inherited methods: named in a class above, found there -/
theorem j_runU (hx : j_C cc nL own ret rm g x) {κ b : Nat} {C owner : String} {z : MethodName} {T : u_T} {N : Nat} (h0 : jk0 κ = 0) (hcl : jcl[jk1 κ]? = some (C, T, N)) (ha : B.2.1 κ b) {Qc : Array Value → State → Outcome → State → Prop} (hM : Met g.1 y (ws_ y cy nY rY) rmY (j_Pc g B (.ref (B.1 κ b) :: As) w) Qc rmY.cells rmY.slots (j_fr g)) (hT : GoodIn lw_all (va_wsU own index C owner z y (ws_ y cy nY rY))) (hyx : y = ⟨owner, z.name, z.desc⟩)
    (hd : owner ≠ "java/lang/invoke/MethodHandle" ∧ owner ≠ "java/lang/invoke/VarHandle" ∧ (parseMethodDescriptor z.desc).map (fun d => d.parameters.length) = some n) (hn : As.length = n) (hRm : j_rm rm rmY nY) (hW : (rest.map fun v => v.category).sum ≤ 8) (d : decode cc pc = .ok (.invokevirtual index, 3)) :
    ∀ (H : Heap) (locs : List Loc) (ls : Array Slot) (cells slots : Nat), ls.size = nL → j_R g B w H → cells + rmY.cells ≤ (jxR x).cells → slots + rmY.slots ≤ (jxR x).slots → va_Run x.1 g.1 x.2.1 x.2.2.1 x.2.2.2.1 x.2.2.2.2.1 x.2.2.2.2.2.1 x.2.2.2.2.2.2.1 x.2.2.2.2.2.2.2.1 x.2.2.2.2.2.2.2.2 H locs cells slots rmY.cells rmY.slots (F0 x.2.2.2.2.1 pc ls (As.reverse ++ .ref (B.1 κ b) :: rest)) rest (Qc (Value.ref (B.1 κ b) :: As).toArray) (j_fr g) := by
  intro H locs ls cells slots hls hR hc hs
  obtain ⟨p, e, R, s, m, args, below, meth, c⟩ := x
  obtain ⟨h1, h2, h3, h4, h5, h6, -, -, h9⟩ := hx
  cases h9
  obtain ⟨hK, hK2⟩ := h6
  have hrec : ∃ cellB : Cell, H[B.1 κ b]? = some cellB ∧ cellB.vm.isStatics = false ∧ s.vm.findClass C = some cellB.cls := by
    obtain ⟨cell, g1, g2, g3, -⟩ := (hR.1 κ b ha).obj h0 hcl
    exact ⟨cell, g1, by rw [g3]; rfl, by rw [g2]; exact (hK.1 _ _ hcl).2.1⟩
  exact va_runU (As := As) (rest := rest) ⟨h1, h2, h3, h4, h5⟩ hM (va_cwU n h5 hT rfl rfl rfl hyx hd hRm) ⟨j_Pc_blind, hrec, j_Pc_start hR ⟨hK, hK2⟩⟩ rfl hn hls rfl (lv_room hW) d ⟨hc, hs⟩
theorem j_callU (hx : j_C cc nL own ret rm g x) {κ b : Nat} {C owner : String} {z : MethodName} {T : u_T} {N : Nat} (h0 : jk0 κ = 0) (hcl : jcl[jk1 κ]? = some (C, T, N)) (ha : B.2.1 κ b) (hM : j_M g y cy nY rY rmY B (.ref (B.1 κ b) :: As) w w1 v) (hT : GoodIn lw_all (va_wsU own index C owner z y (ws_ y cy nY rY))) (hyx : y = ⟨owner, z.name, z.desc⟩)
    (hd : owner ≠ "java/lang/invoke/MethodHandle" ∧ owner ≠ "java/lang/invoke/VarHandle" ∧ (parseMethodDescriptor z.desc).map (fun d => d.parameters.length) = some n) (hn : As.length = n) (hRm : j_rm rm rmY nY) (hW : (rest.map fun v => v.category).sum ≤ 8) (d : decode cc pc = .ok (.invokevirtual index, 3)) :
    j_Call g x nL B (.ref (B.1 κ b) :: As) w w1 pc (pc + 3) (As.reverse ++ .ref (B.1 κ b) :: rest) rest rmY.cells rmY.slots v := j_call_of (a := (Value.ref (B.1 κ b) :: As).toArray) (j_runU (κ := κ) hx h0 hcl ha hM hT hyx hd hn hRm hW d)
/-- an overriding method is found -/
theorem j_runO (hx : j_C cc nL own ret rm g x) {κ b : Nat} {C owner : String} {z : MethodName} {T : u_T} {N : Nat} {b0 : ByteArray} {m0 : Nat} {r0 : Option FieldType} (h0 : jk0 κ = 0) (hcl : jcl[jk1 κ]? = some (C, T, N)) (ha : B.2.1 κ b) {Qc : Array Value → State → Outcome → State → Prop} (hM : Met g.1 y (ws_ y cy nY rY) rmY (j_Pc g B (.ref (B.1 κ b) :: As) w) Qc rmY.cells rmY.slots (j_fr g)) (hT : GoodIn lw_all (va_wsO own index C owner z y (ws_ y cy nY rY))) (hz : Cond.code ⟨owner, z.name, z.desc⟩ b0 m0 r0 ∈ lw_all)
    (hd : owner ≠ "java/lang/invoke/MethodHandle" ∧ owner ≠ "java/lang/invoke/VarHandle" ∧ (parseMethodDescriptor z.desc).map (fun d => d.parameters.length) = some n) (hn : As.length = n) (hRm : j_rm rm rmY nY) (hW : (rest.map fun v => v.category).sum ≤ 8) (d : decode cc pc = .ok (.invokevirtual index, 3)) :
    ∀ (H : Heap) (locs : List Loc) (ls : Array Slot) (cells slots : Nat), ls.size = nL → j_R g B w H → cells + rmY.cells ≤ (jxR x).cells → slots + rmY.slots ≤ (jxR x).slots → va_Run x.1 g.1 x.2.1 x.2.2.1 x.2.2.2.1 x.2.2.2.2.1 x.2.2.2.2.2.1 x.2.2.2.2.2.2.1 x.2.2.2.2.2.2.2.1 x.2.2.2.2.2.2.2.2 H locs cells slots rmY.cells rmY.slots (F0 x.2.2.2.2.1 pc ls (As.reverse ++ .ref (B.1 κ b) :: rest)) rest (Qc (Value.ref (B.1 κ b) :: As).toArray) (j_fr g) := by
  intro H locs ls cells slots hls hR hc hs
  obtain ⟨p, e, R, s, m, args, below, meth, c⟩ := x
  obtain ⟨h1, h2, h3, h4, h5, h6, -, -, h9⟩ := hx
  cases h9
  obtain ⟨hK, hK2⟩ := h6
  have hrec : ∃ cellB : Cell, H[B.1 κ b]? = some cellB ∧ cellB.vm.isStatics = false ∧ s.vm.findClass C = some cellB.cls := by
    obtain ⟨cell, g1, g2, g3, -⟩ := (hR.1 κ b ha).obj h0 hcl
    exact ⟨cell, g1, by rw [g3]; rfl, by rw [g2]; exact (hK.1 _ _ hcl).2.1⟩
  exact va_runU (As := As) (rest := rest) ⟨h1, h2, h3, h4, h5⟩ hM (va_cwO n h5 hT rfl rfl rfl hz hd hRm) ⟨j_Pc_blind, hrec, j_Pc_start hR ⟨hK, hK2⟩⟩ rfl hn hls rfl (lv_room hW) d ⟨hc, hs⟩
theorem j_callO (hx : j_C cc nL own ret rm g x) {κ b : Nat} {C owner : String} {z : MethodName} {T : u_T} {N : Nat} {b0 : ByteArray} {m0 : Nat} {r0 : Option FieldType} (h0 : jk0 κ = 0) (hcl : jcl[jk1 κ]? = some (C, T, N)) (ha : B.2.1 κ b) (hM : j_M g y cy nY rY rmY B (.ref (B.1 κ b) :: As) w w1 v) (hT : GoodIn lw_all (va_wsO own index C owner z y (ws_ y cy nY rY))) (hz : Cond.code ⟨owner, z.name, z.desc⟩ b0 m0 r0 ∈ lw_all)
    (hd : owner ≠ "java/lang/invoke/MethodHandle" ∧ owner ≠ "java/lang/invoke/VarHandle" ∧ (parseMethodDescriptor z.desc).map (fun d => d.parameters.length) = some n) (hn : As.length = n) (hRm : j_rm rm rmY nY) (hW : (rest.map fun v => v.category).sum ≤ 8) (d : decode cc pc = .ok (.invokevirtual index, 3)) :
    j_Call g x nL B (.ref (B.1 κ b) :: As) w w1 pc (pc + 3) (As.reverse ++ .ref (B.1 κ b) :: rest) rest rmY.cells rmY.slots v := j_call_of (a := (Value.ref (B.1 κ b) :: As).toArray) (j_runO (κ := κ) hx h0 hcl ha hM hT hz hd hn hRm hW d)
/-- super.m(..) -/
theorem j_runSU (hx : j_C cc nL own ret rm g x) {κ b : Nat} {C : String} {T : u_T} {N : Nat} (h0 : jk0 κ = 0) (hcl : jcl[jk1 κ]? = some (C, T, N)) (ha : B.2.1 κ b) {Qc : Array Value → State → Outcome → State → Prop} (hM : Met g.1 y (ws_ y cy nY rY) rmY (j_Pc g B (.ref (B.1 κ b) :: As) w) Qc rmY.cells rmY.slots (j_fr g)) (hT : GoodIn lw_all (va_wsSU own index y (ws_ y cy nY rY)))
    (hd : y.name ≠ "<init>" ∧ (parseMethodDescriptor y.desc).map (fun d => d.parameters.length) = some n) (hn : As.length = n) (hRm : j_rm rm rmY nY) (hW : (rest.map fun v => v.category).sum ≤ 8) (d : decode cc pc = .ok (.invokespecial index, 3)) :
    ∀ (H : Heap) (locs : List Loc) (ls : Array Slot) (cells slots : Nat), ls.size = nL → j_R g B w H → cells + rmY.cells ≤ (jxR x).cells → slots + rmY.slots ≤ (jxR x).slots → va_Run x.1 g.1 x.2.1 x.2.2.1 x.2.2.2.1 x.2.2.2.2.1 x.2.2.2.2.2.1 x.2.2.2.2.2.2.1 x.2.2.2.2.2.2.2.1 x.2.2.2.2.2.2.2.2 H locs cells slots rmY.cells rmY.slots (F0 x.2.2.2.2.1 pc ls (As.reverse ++ .ref (B.1 κ b) :: rest)) rest (Qc (Value.ref (B.1 κ b) :: As).toArray) (j_fr g) := by
  intro H locs ls cells slots hls hR hc hs
  obtain ⟨p, e, R, s, m, args, below, meth, c⟩ := x
  obtain ⟨h1, h2, h3, h4, h5, h6, -, -, h9⟩ := hx
  cases h9
  obtain ⟨hK, hK2⟩ := h6
  have hrec : ∃ cellB : Cell, H[B.1 κ b]? = some cellB ∧ cellB.vm.isStatics = false ∧ s.vm.findClass C = some cellB.cls := by
    obtain ⟨cell, g1, g2, g3, -⟩ := (hR.1 κ b ha).obj h0 hcl
    exact ⟨cell, g1, by rw [g3]; rfl, by rw [g2]; exact (hK.1 _ _ hcl).2.1⟩
  exact va_runSU (As := As) (rest := rest) (hK.1 _ _ hcl).2 ⟨h1, h2, h3, h4, h5⟩ hM (va_cwSU n h5 hT rfl rfl rfl hd hRm) ⟨j_Pc_blind, hrec, j_Pc_start hR ⟨hK, hK2⟩⟩ rfl hn hls rfl (lv_room hW) d ⟨hc, hs⟩
theorem j_callSU (hx : j_C cc nL own ret rm g x) {κ b : Nat} {C : String} {T : u_T} {N : Nat} (h0 : jk0 κ = 0) (hcl : jcl[jk1 κ]? = some (C, T, N)) (ha : B.2.1 κ b) (hM : j_M g y cy nY rY rmY B (.ref (B.1 κ b) :: As) w w1 v) (hT : GoodIn lw_all (va_wsSU own index y (ws_ y cy nY rY)))
    (hd : y.name ≠ "<init>" ∧ (parseMethodDescriptor y.desc).map (fun d => d.parameters.length) = some n) (hn : As.length = n) (hRm : j_rm rm rmY nY) (hW : (rest.map fun v => v.category).sum ≤ 8) (d : decode cc pc = .ok (.invokespecial index, 3)) :
    j_Call g x nL B (.ref (B.1 κ b) :: As) w w1 pc (pc + 3) (As.reverse ++ .ref (B.1 κ b) :: rest) rest rmY.cells rmY.slots v := j_call_of (a := (Value.ref (B.1 κ b) :: As).toArray) (j_runSU (κ := κ) hx h0 hcl ha hM hT hd hn hRm hW d)
/-- a private method of a class above -/
theorem j_runP (hx : j_C cc nL own ret rm g x) {κ b : Nat} {C : String} {y0 : MethodName} {T : u_T} {N : Nat} (h0 : jk0 κ = 0) (hcl : jcl[jk1 κ]? = some (C, T, N)) (ha : B.2.1 κ b) {Qc : Array Value → State → Outcome → State → Prop} (hM : Met g.1 y (ws_ y cy nY rY) rmY (j_Pc g B (.ref (B.1 κ b) :: As) w) Qc rmY.cells rmY.slots (j_fr g)) (hT : GoodIn lw_all (ws_ y cy nY rY)) (hl : Cond.methodLink own index y ∈ lw_all) (hin : Cond.instanceMethod y ∈ lw_all) (hini : Cond.initialized y.cls ∈ lw_all) (hp : Cond.privateMethod y ∈ jnl) (hs0 : Cond.selects C y0 y0 ∈ lw_all) (hc0 : y0.cls = y.cls) (hsm : Cond.sameMethod y.cls y.cls y.name y.desc ∈ lw_all)
    (hd : y.cls ≠ "java/lang/invoke/MethodHandle" ∧ y.cls ≠ "java/lang/invoke/VarHandle" ∧ (parseMethodDescriptor y.desc).map (fun d => d.parameters.length) = some n) (hn : As.length = n) (hRm : j_rm rm rmY nY) (hW : (rest.map fun v => v.category).sum ≤ 8) (d : decode cc pc = .ok (.invokevirtual index, 3)) :
    ∀ (H : Heap) (locs : List Loc) (ls : Array Slot) (cells slots : Nat), ls.size = nL → j_R g B w H → cells + rmY.cells ≤ (jxR x).cells → slots + rmY.slots ≤ (jxR x).slots → va_Run x.1 g.1 x.2.1 x.2.2.1 x.2.2.2.1 x.2.2.2.2.1 x.2.2.2.2.2.1 x.2.2.2.2.2.2.1 x.2.2.2.2.2.2.2.1 x.2.2.2.2.2.2.2.2 H locs cells slots rmY.cells rmY.slots (F0 x.2.2.2.2.1 pc ls (As.reverse ++ .ref (B.1 κ b) :: rest)) rest (Qc (Value.ref (B.1 κ b) :: As).toArray) (j_fr g) := by
  intro H locs ls cells slots hls hR hc hs
  obtain ⟨p, e, R, s, m, args, below, meth, c⟩ := x
  obtain ⟨h1, h2, h3, h4, h5, h6, -, -, h9⟩ := hx
  cases h9
  obtain ⟨hK, hA, hN, hK2⟩ := h6
  have hrec : ∃ cellB : Cell, H[B.1 κ b]? = some cellB ∧ cellB.vm.isStatics = false ∧ s.vm.findClass C = some cellB.cls := by
    obtain ⟨cell, g1, g2, g3, -⟩ := (hR.1 κ b ha).obj h0 hcl
    exact ⟨cell, g1, by rw [g3]; rfl, by rw [g2]; exact (hK.1 _ _ hcl).2.1⟩
  have hc : Cond.code y cy nY rY ∈ lw_all := (hT _ List.mem_cons_self).1
  have hsel : (Cond.selects C y y).before args s = true := j_selP (h5 _ hs0) hc0 (va_Nw.use (A := args) rfl (hN _ hp)) (h5 _ hin) ⟨hd.1, hd.2.1⟩
  have hcw : va_CU R s args own C y.cls index y y cy nY rY (ws_ y cy nY rY) rmY rmY.cells rmY.slots n := ⟨⟨rfl, rfl, hRm.1, hRm.2, pay_in h5 hT, List.mem_cons_self⟩, h5 _ hc, h5 _ hini, ⟨hd.1, hd.2.1⟩, fun sig hsg => by
    have h2 := hd.2.2
    rw [hsg] at h2
    exact (Option.some.inj h2).symm, h5 _ hl, h5 _ hsm, va_Decl.of (h5 _ hin) (h5 _ hc), hsel, h5 _ hin⟩
  exact va_runU (As := As) (rest := rest) ⟨h1, h2, h3, h4, h5⟩ hM hcw ⟨j_Pc_blind, hrec, j_Pc_start hR ⟨hK, hA, hN, hK2⟩⟩ rfl hn hls rfl (lv_room hW) d ⟨by assumption, hs⟩
theorem j_callP (hx : j_C cc nL own ret rm g x) {κ b : Nat} {C : String} {y0 : MethodName} {T : u_T} {N : Nat} (h0 : jk0 κ = 0) (hcl : jcl[jk1 κ]? = some (C, T, N)) (ha : B.2.1 κ b) (hM : j_M g y cy nY rY rmY B (.ref (B.1 κ b) :: As) w w1 v) (hT : GoodIn lw_all (ws_ y cy nY rY)) (hl : Cond.methodLink own index y ∈ lw_all) (hin : Cond.instanceMethod y ∈ lw_all) (hini : Cond.initialized y.cls ∈ lw_all) (hp : Cond.privateMethod y ∈ jnl) (hs0 : Cond.selects C y0 y0 ∈ lw_all) (hc0 : y0.cls = y.cls) (hsm : Cond.sameMethod y.cls y.cls y.name y.desc ∈ lw_all)
    (hd : y.cls ≠ "java/lang/invoke/MethodHandle" ∧ y.cls ≠ "java/lang/invoke/VarHandle" ∧ (parseMethodDescriptor y.desc).map (fun d => d.parameters.length) = some n) (hn : As.length = n) (hRm : j_rm rm rmY nY) (hW : (rest.map fun v => v.category).sum ≤ 8) (d : decode cc pc = .ok (.invokevirtual index, 3)) :
    j_Call g x nL B (.ref (B.1 κ b) :: As) w w1 pc (pc + 3) (As.reverse ++ .ref (B.1 κ b) :: rest) rest rmY.cells rmY.slots v := j_call_of (a := (Value.ref (B.1 κ b) :: As).toArray) (j_runP (κ := κ) hx h0 hcl ha hM hT hl hin hini hp hs0 hc0 hsm hd hn hRm hW d)

/-- an array of bytes cloned -/
theorem J.clone (hx : j_C cc nL own ret rm g x) (cap : Nat) {i ix index : Nat} {rest : List Value} {f : j_St → Option (α × j_St)} (ha : B.2.1 70 i) (hf : ¬ B.2.1 70 ix) (hb : ¬ B.2.2 70 ix) (hcnt : jcnt w 70 ix)
    (hlink : Cond.methodLink own index ⟨"[B", "clone", "()Ljava/lang/Object;"⟩ ∈ lw_all) (hsame : Cond.sameMethod "[B" "java/lang/Object" "clone" "()Ljava/lang/Object;" ∈ lw_all) (hnat : Cond.native ⟨"java/lang/Object", "clone", "()Ljava/lang/Object;"⟩ ∈ lw_all) (hinst : Cond.instanceMethod ⟨"java/lang/Object", "clone", "()Ljava/lang/Object;"⟩ ∈ lw_all)
    (hsel : Cond.selects "[B" ⟨"[B", "clone", "()Ljava/lang/Object;"⟩ ⟨"java/lang/Object", "clone", "()Ljava/lang/Object;"⟩ ∈ lw_all) (hcl : Cond.castable "[B" "java/lang/Cloneable" ∈ jnl) (hRm : 1 ≤ rm.frames ∧ 22 ≤ rm.locals) (hW : (rest.map fun v => v.category).sum ≤ 8) (hcs : cells + 1 ≤ rm.cells ∧ slots + cap ≤ rm.slots) (d : decode cc pc = .ok (.invokevirtual index, 3))
    (kk : ∀ (q : Nat) (w2 : j_St), J g x nL (jbN B 70 ix q) Q (cells + 1) (slots + cap) (f w2) (pc + 3) lv (.ref ((jbN B 70 ix q).1 70 ix) :: rest) w2) :
    J g x nL B Q cells slots (if jgn w 70 i ≤ cap ∧ jbyt w 70 i 0 (jgn w 70 i) = true then jlt (jcp (jnw w 70 ix (jgn w 70 i)) 70 i 0 70 ix 0 (jgn w 70 i)) f else none) pc lv (.ref (B.1 70 i) :: rest) w := by
  refine J.ite (fun hc => ?_) (fun _ => J.nne)
  obtain ⟨hle, hby⟩ := hc
  refine J.widen (k := cells) (n := slots) (Nat.le_refl _) (Nat.le_refl _) ?_
  intro r w' ho H locs ls h hR hq
  have ne : ¬ (70 = 70 ∧ i = ix) := fun z => hf (z.2 ▸ ha)
  have hbt : ∀ B' : j_B, B'.2.1 70 ix → ∀ κ j, κ = 70 ∧ j = ix → B'.2.1 κ j ∧ ∀ k, jfs κ k = 3 → jgr (jcp (jnw w 70 ix (jgn w 70 i)) 70 i 0 70 ix 0 (jgn w 70 i)) κ j k = some (jci κ j k) ∧ (B'.2.2 (jfk κ k) (jci κ j k) ∨ (jfk κ k = 70 ∧ jci κ j k = ix)) := fun B' hB κ j z => by
    obtain ⟨rfl, rfl⟩ := z
    exact ⟨hB, fun k hk => absurd hk (jn3_70 k)⟩
  have kk := fun (H' : Heap) (hR' : j_R g (jbn B 70 ix H.size) _ H') => kk H.size _ r w' ho H' locs ls h (hR'.built (S := fun a b => a = 70 ∧ b = ix) (hbt _ (jbn_al B))) hq
  have eaddr : (jbN B 70 ix H.size).1 70 ix = H.size := jbn_at B 70 ix H.size
  rw [eaddr] at kk
  have hc0 := (hR.1 70 i ha).arr (by decide) (by decide)
  have hln : jln w 70 i = jgn w 70 i := rfl
  rw [hln] at hc0
  have hs : ∀ k, jfs 70 k = 0 := fun k => rfl
  have e0 : jfv B.1 w 70 i = fun j => .int (jgi w 70 i j) := funext fun j => jfv_i (hs j)
  rw [e0] at hc0
  obtain ⟨p, e, R, s, m, args, below, meth, c⟩ := x
  obtain ⟨h1, h2, h3, h4, h5, h6, -, -, h9⟩ := hx
  cases h9
  obtain ⟨hK, hA, hN, hK2⟩ := h6
  have hA1 := hA 1 (by decide)
  obtain ⟨c0, t0', f1, f2, f3⟩ := Cond.castable_spec (va_Nw.use (A := args) rfl (hN _ hcl))
  have hnm : s.vm.findClass "[B" = some (jgA g 1) := hA1.2
  cases hnm.symm.trans f1
  intro T hT X
  generalize hn9 : jgn w 70 i = n9 at *
  have hcellT : T.heap[B.1 70 i]? = some (arrV (jgA g 1) n9 (fun j => .int (jgi w 70 i j))) := by rw [hT]; exact hc0
  obtain ⟨-, kA, hkA, comp, hkind⟩ := State.isArrayOf_alike X.warmed.alike (hA1.1 0 (fun _ => .null))
  obtain ⟨-, kS, hkS, compS, hkindS⟩ := hA1.1 0 (fun _ => .null)
  have hfit : ∀ (j : Nat) (v : Value), (arrV (jgA g 1) n9 (fun j => .int (jgi w 70 i j))).slots[j]? = some v → fits .byte v = true := fun j v hv => by
    by_cases hj : j < n9
    · rw [arrV_read _ _ hj] at hv
      cases hv
      have := jbyt_at hby hj
      rw [Nat.zero_add] at this
      exact this
    · rw [Array.getElem?_eq_none (by rw [arrV_size]; omega)] at hv
      cases hv
  obtain ⟨vm', X', st1⟩ := X.cloneArray h1 h4 (h5 _ hlink) (h5 _ hsame) (h5 _ hnat) (h5 _ hinst) (h5 _ hsel) (a := B.1 70 i) (cell := arrV (jgA g 1) n9 (fun j => .int (jgi w 70 i j))) hcellT (fun k h => by cases h) (fun h => by cases h) hnm f2 f3
    (fun j v hv => by
      have hk' : T.vm.classes[jgA g 1]? = some kA := hkA
      have h8 := hfit j v hv
      show T.fitsSlot (jgA g 1) .none j v = true
      have hk2 : kA.kind = .array comp .byte := hkind
      simpa [State.fitsSlot, State.slotType?, hk', hk2] using h8)
    (g := F0 m pc ls (.ref (B.1 70 i) :: rest)) rfl (h.1.trans h3.symm) rfl (by rw [h2]; exact d) hRm.1 (by show 2 * 0 + _ + 14 ≤ R.locals; have := hRm.2; have h8 : 22 ≤ R.locals := this; omega) hcs.1 (by rw [arrV_size]; have := hcs.2; have h8 : slots + cap ≤ R.slots := this; omega) (hloader := Vm.clonesLoader_of_array hkS hkindS)
  rw [arrV_size] at X'
  generalize hH1 : H.push (arrV (jgA g 1) n9 (fun j => .int (jgi w 70 i j))) = H1
  have z1 : H1.size = H.size + 1 := by rw [← hH1, Array.size_push]
  have e1 : H1[H.size]? = some (arrV (jgA g 1) n9 (fun j => .int (jgi w 70 i j))) := by rw [← hH1, Array.getElem?_push_size]
  have o1 : ∀ q : Nat, q < H.size → H1[q]? = H[q]? := fun q hq => by rw [← hH1, Array.getElem?_push, if_neg (Nat.ne_of_lt hq)]
  have hRz : j_R g (jbn B 70 ix H.size) (jnw w 70 ix n9) (H.push (arrV (jgA g 1) n9 (fun _ => .int 0))) := hR.new hf hb (by decide) hcnt (by rw [Array.size_push]) (fun q hq => by rw [Array.getElem?_push, if_neg (Nat.ne_of_lt hq)]) (j_arrzero ⟨by decide, by decide⟩ rfl rfl (fun _ => ⟨Iff.rfl, Iff.rfl⟩) (by rw [Array.getElem?_push_size]; rfl))
  have hR2 : j_R g (jbn B 70 ix H.size) (jcp (jnw w 70 ix n9) 70 i 0 70 ix 0 n9) H1 := by
    refine hRz.put (jbn_al B) rfl (by rw [z1, Array.size_push]) (fun q hq => ?_) (j_ok.mka (by decide) (by decide) ?_) (fun a b q => ⟨?_, rfl⟩) (fun _ _ _ _ z => Or.inl z) (fun _ _ _ _ _ => rfl)
    · rw [jbn_at] at hq
      rw [← hH1, Array.getElem?_push, Array.getElem?_push, if_neg hq, if_neg hq]
    · rw [jbn_at, e1]
      show _ = some (arrV _ (jln (jcp (jnw w 70 ix n9) 70 i 0 70 ix 0 n9) 70 ix) _)
      have hl : jln (jcp (jnw w 70 ix n9) 70 i 0 70 ix 0 n9) 70 ix = n9 := by
        show (if 70 = 70 ∧ ix = ix then n9 else _) = n9
        rw [if_pos ⟨rfl, rfl⟩]
      rw [hl]
      refine congrArg some (j_arrV_congr fun j hj => ?_)
      rw [jfv_i (hs j)]
      show Value.int _ = Value.int (if 70 = 70 ∧ ix = ix then _ else _)
      rw [if_pos ⟨rfl, rfl⟩]
      show Value.int (jgi w 70 i j) = Value.int (if 0 ≤ j ∧ j < 0 + n9 then (if 70 = 70 ∧ i = ix then 0 else w.1 70 i (0 + (j - 0))) else (if 70 = 70 ∧ ix = ix then 0 else w.1 70 ix j))
      rw [if_pos ⟨Nat.zero_le _, by omega⟩, if_neg ne, Nat.zero_add, Nat.sub_zero]
      rfl
    · funext k
      refine jfv_eq ?_ rfl rfl
      show (if a = 70 ∧ b = ix then _ else _) = _
      rw [if_neg q]
      rfl
  obtain ⟨t, a1, b1⟩ := kk H1 hR2 ((T.setVm vm').pushCell (arrV (jgA g 1) n9 (fun j => .int (jgi w 70 i j)))) (by
    rw [← hH1, ← hT]
    rfl) (stand_widen X' (Nat.le_refl _) (by omega))
  rw [← hT] at a1
  exact ⟨t, st1 t a1, b1⟩
end JS
section JS9
variable {α β : Type} {g : j_G} {x : j_X} {cc : ByteArray} {nL : Nat} {own : String} {ret : Option FieldType} {rm : Room} {B B0 : j_B} {Q : α → j_St → State → Prop} {cells slots : Nat} {o o1 o2 : Option (α × j_St)} {pc pc' : Nat} {lv lv' : List (Nat × Value)} {st st' rest : List Value} {w w1 : j_St}

/-! cells that stood there from the start: arrays (tag 8), the String constants (tag 9) -/
theorem j_ok.ro8 {κ i : Nat} {H : Heap} (h : j_ok g B w H κ i) (h0 : jk0 κ = 8) : ∃ cell : Cell, H[B.1 κ i]? = some cell ∧ cell.cls = jgM g (200 + κ) i ∧ (∀ k, cell.vm ≠ .statics k) ∧ cell.vm ≠ .unknown ∧ cell.slots.size = jln w κ i ∧ ∀ j, j < jln w κ i → cell.slots[j]? = some (jfv B.1 w κ i j) := by
  unfold j_ok at h
  rw [h0] at h
  exact h
theorem j_ok.ro9 {κ i : Nat} {H : Heap} (h : j_ok g B w H κ i) (h0 : jk0 κ = 9) {r : vw_C} (hc : jcl[jk1 κ]? = some r) : ∃ cell : Cell, H[B.1 κ i]? = some cell ∧ cell.cls = (jgD g).1 (jk1 κ) ∧ cell.vm.isStatics = false ∧ cell.vm ≠ .unknown ∧ ∀ k, k < r.2.2 → cell.slots[(jgD g).2 (jk1 κ) k]? = some (jfv B.1 w κ i k) := by
  unfold j_ok at h
  rw [h0] at h
  obtain ⟨r', h1, h2⟩ := h
  cases hc.symm.trans h1
  exact h2
theorem j_arr8 {U : State} {κ i : Nat} {cell : Cell} (hK : j_K g U) (h0 : jk0 κ = 8) (hc : cell.cls = jgM g (200 + κ) i) (hv : ∀ k, cell.vm ≠ .statics k) : U.isArrayOf cell (jty (jk1 κ)) := by
  have h1 := (hK.2.2.2.2.2.2.2.2.2.2.2.2.2.2.2.2 κ i h0) 0 (fun _ => .null)
  obtain ⟨-, k, hk, hkind⟩ := h1
  exact ⟨hv, k, by rw [hc]; exact hk, hkind⟩
theorem j_s8 {κ k : Nat} (h0 : jk0 κ = 8) : jfs κ k = 0 := by unfold jfs jfd; rw [h0]; rfl
theorem J.iald8 (hx : j_C cc nL own ret rm g x) {κ i : Nat} {j : Int32} {n : Nat} {f : Int32 → Option (α × j_St)} (h0 : jk0 κ = 8) (hty : jty (jk1 κ) = .int) (hn : jln w κ i = n) (ha : B.2.1 κ i) (d : decode cc pc = .ok (.iaload, 1))
    (kk : ∀ v : Int32, J g x nL B Q cells slots (f v) (pc + 1) lv (.int v :: st) w) : J g x nL B Q cells slots (jbd j n fun a => jlt (jgi w κ i a) f) pc lv (.int j :: .ref (B.1 κ i) :: st) w := by
  refine J.bd fun hb => ?_
  obtain ⟨b1, b2, b3⟩ := j_ix hb
  intro r w' ho H locs ls h hR hq
  have kk := kk _ r w' ho H locs ls h hR hq
  obtain ⟨cell, q1, q2, q3, q4, q5, q6⟩ := (hR.1 κ i ha).ro8 h0
  rw [hn] at q5 q6
  have hAr := j_arr8 hx.2.2.2.2.2.1 h0 q2 q3
  rw [hty] at hAr
  exact W.iald (v := .int (jgi w κ i j.toInt.toNat)) hx.1 hx.2.1 q1 hAr q4 (by rw [q5]; exact b1) (by rw [q6 _ b2, b3, jfv_i (j_s8 h0)]) rfl rfl d kk
theorem J.bald8 (hx : j_C cc nL own ret rm g x) {κ i : Nat} {j : Int32} {n : Nat} {f : Int32 → Option (α × j_St)} (h0 : jk0 κ = 8) (hty : jty (jk1 κ) = .byte) (hn : jln w κ i = n) (ha : B.2.1 κ i) (d : decode cc pc = .ok (.baload, 1))
    (kk : ∀ v : Int32, J g x nL B Q cells slots (f v) (pc + 1) lv (.int v :: st) w) : J g x nL B Q cells slots (jbd j n fun a => jlt (jgi w κ i a) f) pc lv (.int j :: .ref (B.1 κ i) :: st) w := by
  refine J.bd fun hb => ?_
  obtain ⟨b1, b2, b3⟩ := j_ix hb
  intro r w' ho H locs ls h hR hq
  have kk := kk _ r w' ho H locs ls h hR hq
  obtain ⟨cell, q1, q2, q3, q4, q5, q6⟩ := (hR.1 κ i ha).ro8 h0
  rw [hn] at q5 q6
  have hAr := j_arr8 hx.2.2.2.2.2.1 h0 q2 q3
  rw [hty] at hAr
  exact W.bald (v := .int (jgi w κ i j.toInt.toNat)) hx.1 hx.2.1 q1 hAr q4 (by rw [q5]; exact b1) (by rw [q6 _ b2, b3, jfv_i (j_s8 h0)]) rfl rfl d kk
theorem J.alen8 (hx : j_C cc nL own ret rm g x) {κ i n : Nat} {v : Int32} (h0 : jk0 κ = 8) (hn : jln w κ i = n) (hv : Int32.ofNat n = v) (ha : B.2.1 κ i) (d : decode cc pc = .ok (.arraylength, 1))
    (kk : J g x nL B Q cells slots o (pc + 1) lv (.int v :: st) w) : J g x nL B Q cells slots o pc lv (.ref (B.1 κ i) :: st) w := by
  subst hv
  intro r w' ho H locs ls h hR hq
  have kk := kk r w' ho H locs ls h hR hq
  obtain ⟨cell, q1, q2, q3, q4, q5, q6⟩ := (hR.1 κ i ha).ro8 h0
  rw [hn] at q5
  exact W.alen (n := Int32.ofNat n) hx.1 hx.2.1 q1 (j_arr8 hx.2.2.2.2.2.1 h0 q2 q3) (by rw [q5] <;> rfl) rfl rfl d kk
theorem J.get9 (hx : j_C cc nL own ret rm g x) {κ i k index : Nat} {C : String} {T : u_T} {N : Nat} {v : Value} (h0 : jk0 κ = 9) (hc : jcl[jk1 κ]? = some (C, T, N)) (hin : ∀ w ∈ u_ws C T N, w ∈ lw_all) (hk : k < N) (hl : Cond.fieldLink own index (T k).1 (T k).2.1 (T k).2.2.1 ∈ lw_all) (ha : B.2.1 κ i)
    (d : decode cc pc = .ok (.getfield index, 3)) (hv : jfv B.1 w κ i k = v) (kk : J g x nL B Q cells slots o (pc + 3) lv (v :: st) w) : J g x nL B Q cells slots o pc lv (.ref (B.1 κ i) :: st) w := by
  intro r w' ho H locs ls h hR hq
  have kk := kk r w' ho H locs ls h hR hq
  obtain ⟨cell, q1, q2, q3, q5, q4⟩ := (hR.1 κ i ha).ro9 h0 hc
  obtain ⟨p, e, R, s, m, args, below, meth, c⟩ := x
  obtain ⟨h1, h2, h3, h4, h5, h6, h7⟩ := hx
  obtain ⟨hK, -, hN, -⟩ := h6
  subst hv
  obtain ⟨hS, hfc, kC, hkC, hkind⟩ := hK.1 _ _ hc
  obtain ⟨cf, kf, fi, f, hi, hsl⟩ := hS k hk
  have hst := (u_facts hfc hkC (u_lays h5 hin hk) hi).1
  exact W.getf h1 h2 h4 (h5 _ hl) hi hst q1 q5 (by rw [hsl]; exact q4 k hk) rfl rfl d kk
theorem J.geti9 (hx : j_C cc nL own ret rm g x) {κ i k index : Nat} {C : String} {T : u_T} {N : Nat} {f : Int32 → Option (α × j_St)} (h0 : jk0 κ = 9) (hc : jcl[jk1 κ]? = some (C, T, N)) (hs : jfs κ k = 0) (hin : ∀ w ∈ u_ws C T N, w ∈ lw_all) (hk : k < N) (hl : Cond.fieldLink own index (T k).1 (T k).2.1 (T k).2.2.1 ∈ lw_all) (ha : B.2.1 κ i)
    (d : decode cc pc = .ok (.getfield index, 3)) (kk : ∀ v : Int32, J g x nL B Q cells slots (f v) (pc + 3) lv (.int v :: st) w) : J g x nL B Q cells slots (jlt (jgi w κ i k) f) pc lv (.ref (B.1 κ i) :: st) w := J.get9 hx h0 hc hin hk hl ha d (jfv_i hs) (kk _)
theorem J.getr9 (hx : j_C cc nL own ret rm g x) {κ i k index : Nat} (κ' : Nat) {C : String} {T : u_T} {N : Nat} {f : Option Nat → Option (α × j_St)} (h0 : jk0 κ = 9) (hc : jcl[jk1 κ]? = some (C, T, N)) (hs : jfs κ k = 2) (hκ : jfk κ k = κ') (hin : ∀ w ∈ u_ws C T N, w ∈ lw_all) (hk : k < N) (hl : Cond.fieldLink own index (T k).1 (T k).2.1 (T k).2.2.1 ∈ lw_all) (ha : B.2.1 κ i)
    (d : decode cc pc = .ok (.getfield index, 3)) (kk : ∀ v : Option Nat, (∀ q, v = some q → B.2.1 κ' q ∧ B.2.2 κ' q) → J g x nL B Q cells slots (f v) (pc + 3) lv (va_re (B.1 κ') v :: st) w) : J g x nL B Q cells slots (jlt (jgr w κ i k) f) pc lv (.ref (B.1 κ i) :: st) w := by
  subst hκ
  intro r w' ho H locs ls h hR hq
  exact J.get9 hx h0 hc hin hk hl ha d (jfv_r (by omega)) (kk _ fun q hq' => ⟨hR.2.2.2.2.2.1 κ i k q ha hq', hR.2.2.2.2.2.2.1 κ i k q ha hq' hs⟩) r w' ho H locs ls h hR hq
theorem J.castS9 (hx : j_C cc nL own ret rm g x) {κ i index : Nat} {C : String} {T : u_T} {N : Nat} (h0 : jk0 κ = 9) (hcl : jcl[jk1 κ]? = some (C, T, N)) (ha : B.2.1 κ i) (hl : Cond.classLink own index C ∈ lw_all) (d : decode cc pc = .ok (.checkcast index, 3)) (k : J g x nL B Q cells slots o (pc + 3) lv (.ref (B.1 κ i) :: st) w) : J g x nL B Q cells slots o pc lv (.ref (B.1 κ i) :: st) w := by
  intro r w' ho H locs ls h hR hq
  have k := k r w' ho H locs ls h hR hq
  obtain ⟨cell, g1, g2, g3, -⟩ := (hR.1 κ i ha).ro9 h0 hcl
  obtain ⟨p, e, R, s, m, args, below, meth, c⟩ := x
  obtain ⟨h1, h2, h3, h4, h5, h6, h7⟩ := hx
  exact va_castS h1 h2 h4 (h5 _ hl) (h6.1.1 _ _ hcl).2 ⟨cell, g1, g3, by rw [g2]; exact (h6.1.1 _ _ hcl).2.1⟩ d k
theorem J.instS9 (hx : j_C cc nL own ret rm g x) {κ i index : Nat} {C : String} {T : u_T} {N : Nat} (h0 : jk0 κ = 9) (hcl : jcl[jk1 κ]? = some (C, T, N)) (ha : B.2.1 κ i) (hl : Cond.classLink own index C ∈ lw_all) (d : decode cc pc = .ok (.instanceof index, 3)) (k : J g x nL B Q cells slots o (pc + 3) lv (.int 1 :: st) w) : J g x nL B Q cells slots o pc lv (.ref (B.1 κ i) :: st) w := by
  intro r w' ho H locs ls h hR hq
  have k := k r w' ho H locs ls h hR hq
  obtain ⟨cell, g1, g2, g3, -⟩ := (hR.1 κ i ha).ro9 h0 hcl
  obtain ⟨p, e, R, s, m, args, below, meth, c⟩ := x
  obtain ⟨h1, h2, h3, h4, h5, h6, h7⟩ := hx
  exact va_instS h1 h2 h4 (h5 _ hl) (h6.1.1 _ _ hcl).2 ⟨cell, g1, g3, by rw [g2]; exact (h6.1.1 _ _ hcl).2.1⟩ d k
variable {y : MethodName} {cy : ByteArray} {nY : Nat} {rY : Option FieldType} {rmY : Room} {As : List Value} {v : Option Value} {index n : Nat}
theorem j_runV9 (hx : j_C cc nL own ret rm g x) {κ b : Nat} {C : String} {T : u_T} {N : Nat} (h0 : jk0 κ = 9) (hcl : jcl[jk1 κ]? = some (C, T, N)) (ha : B.2.1 κ b) {Qc : Array Value → State → Outcome → State → Prop} (hM : Met g.1 y (ws_ y cy nY rY) rmY (j_Pc g B (.ref (B.1 κ b) :: As) w) Qc rmY.cells rmY.slots (j_fr g)) (hT : GoodIn lw_all (wsV own index C y (ws_ y cy nY rY)))
    (hd : y.cls = C ∧ y.cls ≠ "java/lang/invoke/MethodHandle" ∧ y.cls ≠ "java/lang/invoke/VarHandle" ∧ (parseMethodDescriptor y.desc).map (fun d => d.parameters.length) = some n) (hn : As.length = n) (hRm : j_rm rm rmY nY) (hW : (rest.map fun v => v.category).sum ≤ 8) (d : decode cc pc = .ok (.invokevirtual index, 3)) :
    ∀ (H : Heap) (locs : List Loc) (ls : Array Slot) (cells slots : Nat), ls.size = nL → j_R g B w H → cells + rmY.cells ≤ (jxR x).cells → slots + rmY.slots ≤ (jxR x).slots → va_Run x.1 g.1 x.2.1 x.2.2.1 x.2.2.2.1 x.2.2.2.2.1 x.2.2.2.2.2.1 x.2.2.2.2.2.2.1 x.2.2.2.2.2.2.2.1 x.2.2.2.2.2.2.2.2 H locs cells slots rmY.cells rmY.slots (F0 x.2.2.2.2.1 pc ls (As.reverse ++ .ref (B.1 κ b) :: rest)) rest (Qc (Value.ref (B.1 κ b) :: As).toArray) (j_fr g) := by
  intro H locs ls cells slots hls hR hc hs
  obtain ⟨p, e, R, s, m, args, below, meth, c⟩ := x
  obtain ⟨h1, h2, h3, h4, h5, h6, -, -, h9⟩ := hx
  cases h9
  obtain ⟨hK, hK2⟩ := h6
  have hrec : ∃ cellB : Cell, H[B.1 κ b]? = some cellB ∧ cellB.vm.isStatics = false ∧ s.vm.findClass C = some cellB.cls := by
    obtain ⟨cell, g1, g2, g3, -⟩ := (hR.1 κ b ha).ro9 h0 hcl
    exact ⟨cell, g1, g3, by rw [g2]; exact (hK.1 _ _ hcl).2.1⟩
  exact va_runV (As := As) (rest := rest) ⟨h1, h2, h3, h4, h5⟩ hM (cwV n h5 hT rfl rfl rfl hd hRm) ⟨j_Pc_blind, hrec, j_Pc_start hR ⟨hK, hK2⟩⟩ rfl hn hls rfl (lv_room hW) d ⟨hc, hs⟩
theorem j_callV9 (hx : j_C cc nL own ret rm g x) {κ b : Nat} {C : String} {T : u_T} {N : Nat} (h0 : jk0 κ = 9) (hcl : jcl[jk1 κ]? = some (C, T, N)) (ha : B.2.1 κ b) (hM : j_M g y cy nY rY rmY B (.ref (B.1 κ b) :: As) w w1 v) (hT : GoodIn lw_all (wsV own index C y (ws_ y cy nY rY)))
    (hd : y.cls = C ∧ y.cls ≠ "java/lang/invoke/MethodHandle" ∧ y.cls ≠ "java/lang/invoke/VarHandle" ∧ (parseMethodDescriptor y.desc).map (fun d => d.parameters.length) = some n) (hn : As.length = n) (hRm : j_rm rm rmY nY) (hW : (rest.map fun v => v.category).sum ≤ 8) (d : decode cc pc = .ok (.invokevirtual index, 3)) :
    j_Call g x nL B (.ref (B.1 κ b) :: As) w w1 pc (pc + 3) (As.reverse ++ .ref (B.1 κ b) :: rest) rest rmY.cells rmY.slots v := j_call_of (a := (Value.ref (B.1 κ b) :: As).toArray) (j_runV9 (κ := κ) hx h0 hcl ha hM hT hd hn hRm hW d)
theorem J.acopyb8 (hx : j_C cc nL own ret rm g x) {κ i κ' i' n0 n1 index : Nat} {sp dp n : Int32} {rest : List Value} {f : j_St → Option (α × j_St)} (h0 : jk0 κ = 8) (hty0 : jty (jk1 κ) = .byte) (h0' : jk0 κ' = 2) (hro : jro κ' = false) (hn0 : jln w κ i = n0) (hn1 : jln w κ' i' = n1) (ha : B.2.1 κ i) (ha' : B.2.1 κ' i')
    (hl : Cond.methodLink own index arraycopyName ∈ lw_all) (hnat : Cond.native arraycopyName ∈ lw_all) (hst : Cond.static arraycopyName ∈ lw_all) (hini : Cond.initialized "java/lang/System" ∈ lw_all) (hfr : 1 ≤ rm.frames) (hlo : 8 + (nativeFrameWords "java/lang/System" "arraycopy" 5 + 11) ≤ rm.locals) (hW : (rest.map fun v => v.category).sum ≤ 8) (d : decode cc pc = .ok (.invokestatic index, 3))
    (kk : ∀ w2 : j_St, J g x nL B Q cells slots (f w2) (pc + 3) lv rest w2) :
    J g x nL B Q cells slots (if 0 ≤ sp.toInt ∧ 0 ≤ dp.toInt ∧ 0 ≤ n.toInt ∧ sp.toInt + n.toInt ≤ (n0 : Int) ∧ dp.toInt + n.toInt ≤ (n1 : Int) ∧ jbyt w κ i sp.toInt.toNat n.toInt.toNat = true then jlt (jcp w κ i sp.toInt.toNat κ' i' dp.toInt.toNat n.toInt.toNat) f else none) pc lv (.int n :: .int dp :: .ref (B.1 κ' i') :: .int sp :: .ref (B.1 κ i) :: rest) w := by
  refine J.ite (fun hc => ?_) (fun _ => J.nne)
  obtain ⟨c1, c2, c3, c4, c5, c6⟩ := hc
  intro r w' ho H locs ls h hR hq
  have kk := fun (H' : Heap) (locs' : List Loc) => kk _ r w' ho H' locs' ls h
  obtain ⟨p, e, R, s, m, args, below, meth, c⟩ := x
  obtain ⟨h1, h2, h3, h4, h5, h6, -, -, h9⟩ := hx
  cases h9
  have h6c := h6
  obtain ⟨hK, hA, -⟩ := h6
  have hs : ∀ k, jfs κ k = 0 := fun k => j_s8 h0
  have hs' : ∀ k, jfs κ' k = 0 := fun k => by unfold jfs jfd; rw [h0']; rfl
  have e0 : jfv B.1 w κ i = fun j => .int (jgi w κ i j) := funext fun j => jfv_i (hs j)
  have e1 : jfv B.1 w κ' i' = fun j => .int (jgi w κ' i' j) := funext fun j => jfv_i (hs' j)
  obtain ⟨cs9, hc0, qc, qv, qu, qz, qs⟩ := (hR.1 κ i ha).ro8 h0
  have hc1 := (hR.1 κ' i' ha').arr (by rw [h0']; decide) (by rw [h0']; decide)
  rw [hn0] at qz qs
  rw [e0] at qs
  rw [hn1, e1] at hc1
  have hty' := j_tyk (t := 2) (ty := .byte) (by decide +kernel) (by decide) h0'
  have hAr := j_arr8 h6c h0 qc qv
  have hAr' := (hA _ hty'.2).1 n1 (fun j => .int (jgi w κ' i' j))
  rw [hty0] at hAr
  rw [hty'.1] at hAr'
  obtain ⟨-, k0, hk0, cm0, hkk0⟩ := hAr
  obtain ⟨-, k1, hk1, cm1, hkk1⟩ := hAr'
  have z1 : ∀ z : Int32, 0 ≤ z.toInt → ¬ z < 0 := fun z hz q => by
    rw [Int32.lt_iff_toInt_lt] at q
    simp at q
    omega
  intro T hT X
  obtain ⟨vm', X', step⟩ := X.arraycopy h1 h4 (h5 _ hl) (h5 _ hnat) (h5 _ hst) (h5 _ hini) (src := B.1 κ i) (dst := B.1 κ' i') (cs := cs9) (cd := arrV (jgA g (jk1 κ')) n1 (fun j => .int (jgi w κ' i' j))) (srcPos := sp) (destPos := dp) (n := n) (by rw [hT]; exact hc0) (by rw [hT]; exact hc1)
    qv (fun _ h => by cases h) qu (fun h => by cases h) hk0 hk1 hkk0 hkk1 (by rfl) (z1 _ c1) (z1 _ c2) (z1 _ c3)
    (by rw [qz]; omega) (by rw [arrV_size]; omega)
    (fun vm₁ _ j hj => by
      have e : cs9.slots.getD (sp.toNatClampNeg + j) .null = .int (jgi w κ i (sp.toNatClampNeg + j)) := by
        have q1 : sp.toNatClampNeg = sp.toInt.toNat := rfl
        have q2 : n.toNatClampNeg = n.toInt.toNat := rfl
        rw [Array.getD_eq_getD_getElem?, qs _ (by omega)]
        rfl
      rw [e]
      exact ⟨jbyt_at c6 (show j < n.toInt.toNat from hj), trivial⟩)
    (g := F0 m pc ls (.int n :: .int dp :: .ref (B.1 κ' i') :: .int sp :: .ref (B.1 κ i) :: rest)) rfl (h.1.trans h3.symm) (rest := rest) rfl (by rw [h2]; exact d) hfr (by
      have hlo' : 8 + (nativeFrameWords "java/lang/System" "arraycopy" 5 + 11) ≤ R.locals := hlo
      show 2 * 0 + _ + _ ≤ R.locals
      omega)
  have ec : copied cs9 (arrV (jgA g (jk1 κ')) n1 (fun j => .int (jgi w κ' i' j))) sp dp n = arrV (jgA g (jk1 κ')) n1 (fun j => .int (va_cpy (jgi w κ i) (jgi w κ' i') sp.toNatClampNeg dp.toNatClampNeg n.toNatClampNeg j)) := va_copiedX (fun z => .int z) _ _ _ _ qs (by
      have q1 : sp.toNatClampNeg = sp.toInt.toNat := rfl
      have q2 : n.toNatClampNeg = n.toInt.toNat := rfl
      omega)
  rw [ec] at X' step
  have hl : B.1 κ' i' < H.size := (Array.getElem?_eq_some_iff.mp hc1).1
  generalize hnewcell : arrV (jgA g (jk1 κ')) n1 (fun j => .int (va_cpy (jgi w κ i) (jgi w κ' i') sp.toNatClampNeg dp.toNatClampNeg n.toNatClampNeg j)) = nc at X' step
  have hheap : ((T.setVm vm').setCell (B.1 κ' i') nc).heap = H.setIfInBounds (B.1 κ' i') nc := by rw [← hT]; rfl
  have o1 : (H.setIfInBounds (B.1 κ' i') nc)[B.1 κ' i']? = some nc := by simp [Array.getElem?_setIfInBounds, hl]
  have oq : ∀ q : Nat, q ≠ B.1 κ' i' → (H.setIfInBounds (B.1 κ' i') nc)[q]? = H[q]? := fun q hq => by simp [Array.getElem?_setIfInBounds, Ne.symm hq]
  have hR2 : j_R g B (jcp w κ i sp.toInt.toNat κ' i' dp.toInt.toNat n.toInt.toNat) (H.setIfInBounds (B.1 κ' i') nc) := by
    refine hR.put ha' hro (by simp) oq (j_ok.mka (by rw [h0']; decide) (by rw [h0']; decide) ?_) (fun a b q => ⟨?_, rfl⟩) (fun _ _ _ _ z => Or.inl z) (fun _ _ _ _ _ => rfl)
    · rw [o1, ← hnewcell]
      show _ = some (arrV _ (jln w κ' i') _)
      rw [hn1]
      congr 2
      funext j
      rw [jfv_i (hs' j)]
      show _ = Value.int (if κ' = κ' ∧ i' = i' then _ else _)
      rw [if_pos ⟨rfl, rfl⟩]
      rfl
    · funext k
      refine jfv_eq ?_ rfl rfl
      show (if a = κ' ∧ b = i' then _ else _) = _
      rw [if_neg q]
      rfl
  obtain ⟨t, a1, b1⟩ := kk _ _ hR2 (fun q hq0 => by
      rcases List.mem_append.mp hq0 with z | z
      · exact hq q z
      · obtain ⟨y, -, hy⟩ := List.mem_map.mp z
        rw [← hy]
        exact hR.2.2.1 κ' i' ha' hro) _ hheap X'
  exact ⟨t, step t a1, b1⟩
end JS9
