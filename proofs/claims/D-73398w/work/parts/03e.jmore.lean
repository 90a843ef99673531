/-! J: more rows -/
def jmin (a b : Int32) : Int32 := if b < a then b else a
def jmax (a b : Int32) : Int32 := if a < b then b else a
def jabs (a : Int32) : Int32 := if 0 ≤ a then a else 0 - a
theorem j_wF {own : String} {idx : Nat} {C : String} {z y : MethodName} {b : ByteArray} {L : Nat} {r : Option FieldType} (h1 : Cond.methodLink own idx z ∈ lw_all) (h2 : Cond.selects C z y ∈ lw_all) (h3 : Cond.instanceMethod y ∈ lw_all) (h4 : Cond.initialized y.cls ∈ lw_all) (h5 : Cond.code y b L r ∈ lw_all) : GoodIn lw_all (va_wsF own idx C z y (ws_ y b L r)) := by
  refine lw_app ?_ (lw_meth h5)
  intro w hw
  simp only [List.mem_cons, List.not_mem_nil, or_false] at hw
  rcases hw with e | e | e | e
  · rw [e]; exact h1
  · rw [e]; exact h2
  · rw [e]; exact h3
  · rw [e]; exact h4
section JM
variable {α β : Type} {g : j_G} {x : j_X} {cc : ByteArray} {nL : Nat} {own : String} {ret : Option FieldType} {rm : Room} {B : j_B} {Q : α → j_St → State → Prop} {cells slots : Nat} {o o1 o2 : Option (α × j_St)} {pc : Nat} {lv lv' : List (Nat × Value)} {st : List Value} {w : j_St}
theorem J.nmx {a : β} {f : β → Option (α × j_St)} (k : ∀ v : β, v = a → J g x nL B Q cells slots (f v) pc lv st w) : J g x nL B Q cells slots (jlt a f) pc lv st w := k a rfl
theorem J.nm2i {a b : Int32} {f : Int32 → Int32 → Option (α × j_St)} (k : ∀ z y : Int32, J g x nL B Q cells slots (f z y) pc lv (.int y :: .int z :: st) w) : J g x nL B Q cells slots (jlt a fun z => jlt b fun y => f z y) pc lv (.int b :: .int a :: st) w := k a b
theorem J.nm2l {a b : Int64} {f : Int64 → Int64 → Option (α × j_St)} (k : ∀ z y : Int64, J g x nL B Q cells slots (f z y) pc lv (.long y :: .long z :: st) w) : J g x nL B Q cells slots (jlt a fun z => jlt b fun y => f z y) pc lv (.long b :: .long a :: st) w := k a b
theorem J.idiv0 (hx : j_C cc nL own ret rm g x) {a b : Int32} (d : decode cc pc = .ok (.idiv, 1)) (hb : ¬ b = 0) (k : J g x nL B Q cells slots o (pc + 1) lv (.int (a / b) :: st) w) : J g x nL B Q cells slots o pc lv (.int b :: .int a :: st) w := fun r w' ho H locs ls h hR hq => lv_idiv hx.1 hx.2.1 d hb (k r w' ho H locs ls h hR hq)
theorem J.irem0 (hx : j_C cc nL own ret rm g x) {a b : Int32} (d : decode cc pc = .ok (.irem, 1)) (hb : ¬ b = 0) (k : J g x nL B Q cells slots o (pc + 1) lv (.int (a - a / b * b) :: st) w) : J g x nL B Q cells slots o pc lv (.int b :: .int a :: st) w := fun r w' ho H locs ls h hR hq => lv_irem hx.1 hx.2.1 d hb (k r w' ho H locs ls h hR hq)
theorem J.ldiv0 (hx : j_C cc nL own ret rm g x) {a b : Int64} (d : decode cc pc = .ok (.ldiv, 1)) (hb : ¬ b = 0) (k : J g x nL B Q cells slots o (pc + 1) lv (.long (a / b) :: st) w) : J g x nL B Q cells slots o pc lv (.long b :: .long a :: st) w := fun r w' ho H locs ls h hR hq => lv_ldiv hx.1 hx.2.1 d hb (k r w' ho H locs ls h hR hq)
theorem J.lrem0 (hx : j_C cc nL own ret rm g x) {a b : Int64} (d : decode cc pc = .ok (.lrem, 1)) (hb : ¬ b = 0) (k : J g x nL B Q cells slots o (pc + 1) lv (.long (a - a / b * b) :: st) w) : J g x nL B Q cells slots o pc lv (.long b :: .long a :: st) w := fun r w' ho H locs ls h hR hq => lv_lrem hx.1 hx.2.1 d hb (k r w' ho H locs ls h hR hq)
theorem J.ifnullR (hx : j_C cc nL own ret rm g x) {a : Nat} {off : Int} (tgt : Nat) (d : decode cc pc = .ok (.ifnull off, 3)) (_ : (pc : Int) + off = (tgt : Int)) (k : J g x nL B Q cells slots o (pc + 3) lv st w) : J g x nL B Q cells slots o pc lv (.ref a :: st) w := fun r w' ho H locs ls h hR hq => lv_ifnull hx.1 hx.2.1 d (k r w' ho H locs ls h hR hq)
theorem J.ifnonnullR (hx : j_C cc nL own ret rm g x) {a : Nat} {off : Int} (tgt : Nat) (d : decode cc pc = .ok (.ifnonnull off, 3)) (ht : (pc : Int) + off = (tgt : Int)) (k : J g x nL B Q cells slots o tgt lv st w) : J g x nL B Q cells slots o pc lv (.ref a :: st) w := fun r w' ho H locs ls h hR hq => lv_ifnonnull hx.1 hx.2.1 d ht (k r w' ho H locs ls h hR hq)
/-- what the store's picture tells -/
theorem J.fact {P : Prop} (hP : ∀ H, j_R g B w H → P) (k : P → J g x nL B Q cells slots o pc lv st w) : J g x nL B Q cells slots o pc lv st w := fun r w' ho H locs ls h hR hq => k (hP H hR) r w' ho H locs ls h hR hq
theorem J.aaldcn (hx : j_C cc nL own ret rm g x) {κ i : Nat} (κ' m9 : Nat) {j : Int32} {n : Nat} {C : String} {f : Nat → Option (α × j_St)} (h0 : jk0 κ = 5) (hκ : jk2 κ = κ') (hm : jk3 κ = n) (hm9 : n = m9) (h9 : jk1 κ < 9) (hC : jty (jk1 κ) = .object C) (hn : jln w κ i = n) (hb : B.2.2 κ i) (d : decode cc pc = .ok (.aaload, 1))
    (kk : ∀ z : Nat, B.2.1 κ' z ∧ B.2.2 κ' z → J g x nL B Q cells slots (f z) (pc + 1) lv (.ref (B.1 κ' z) :: st) w) : J g x nL B Q cells slots (jbd j n fun a => jlt (m9 * i + a) f) pc lv (.int j :: .ref (B.1 κ i) :: st) w :=
  J.aaldc (f := f) hx κ' m9 h0 hκ hm hm9 h9 hC hn hb d (fun a _ h => kk _ h)
/-- a static that nobody writes -/
theorem J.gets (hx : j_C cc nL own ret rm g x) {t index : Nat} {C n d : String} {v : Value} (ht : jsts[t]? = some (C, n, d, v)) (hl : Cond.fieldLink own index C n d ∈ lw_all) (hd : decode cc pc = .ok (.getstatic index, 3)) (k : J g x nL B Q cells slots o (pc + 3) lv (v :: st) w) : J g x nL B Q cells slots o pc lv st w := by
  intro r w' ho H locs ls h hR hq
  have k := k r w' ho H locs ls h hR hq
  obtain ⟨p, e, R, s, m, args, below, meth, c⟩ := x
  obtain ⟨h1, h2, h3, h4, h5, h6, h7⟩ := hx
  obtain ⟨-, -, -, -, -, hS, -⟩ := h6
  obtain ⟨cf, kf, fi, f, a, cell, g1, g2, g3, g4, g5, g6, g7, g8⟩ := hS _ (List.mem_of_getElem? ht)
  exact W.gets h1 h2 h4 (h5 _ hl) g1 g2 g3 g4 (by rw [hR.2.2.2.2.1 a (Nat.not_le.mp g8)]; exact g5) (fun e => by rw [e] at g6; cases g6) g7 rfl hd k
/-- arrays of ints copied -/
theorem J.acopy (hx : j_C cc nL own ret rm g x) {κ i κ' i' n0 n1 index : Nat} {sp dp n : Int32} {rest : List Value} {f : j_St → Option (α × j_St)} (h0 : jk0 κ = 1) (h0' : jk0 κ' = 1) (hro : jro κ' = false) (hn0 : jln w κ i = n0) (hn1 : jln w κ' i' = n1) (ha : B.2.1 κ i) (ha' : B.2.1 κ' i')
    (hl : Cond.methodLink own index arraycopyName ∈ lw_all) (hnat : Cond.native arraycopyName ∈ lw_all) (hst : Cond.static arraycopyName ∈ lw_all) (hini : Cond.initialized "java/lang/System" ∈ lw_all) (hfr : 1 ≤ rm.frames) (hlo : 8 + (nativeFrameWords "java/lang/System" "arraycopy" 5 + 11) ≤ rm.locals) (hW : (rest.map fun v => v.category).sum ≤ 8) (d : decode cc pc = .ok (.invokestatic index, 3))
    (kk : ∀ w2 : j_St, J g x nL B Q cells slots (f w2) (pc + 3) lv rest w2) :
    J g x nL B Q cells slots (if 0 ≤ sp.toInt ∧ 0 ≤ dp.toInt ∧ 0 ≤ n.toInt ∧ sp.toInt + n.toInt ≤ (n0 : Int) ∧ dp.toInt + n.toInt ≤ (n1 : Int) then jlt (jcp w κ i sp.toInt.toNat κ' i' dp.toInt.toNat n.toInt.toNat) f else none) pc lv (.int n :: .int dp :: .ref (B.1 κ' i') :: .int sp :: .ref (B.1 κ i) :: rest) w := by
  refine J.ite (fun hc => ?_) (fun _ => J.nne)
  obtain ⟨c1, c2, c3, c4, c5⟩ := hc
  intro r w' ho H locs ls h hR hq
  have kk := fun (H' : Heap) (locs' : List Loc) => kk _ r w' ho H' locs' ls h
  obtain ⟨p, e, R, s, m, args, below, meth, c⟩ := x
  obtain ⟨h1, h2, h3, h4, h5, h6, -, -, h9⟩ := hx
  cases h9
  obtain ⟨hK, hA, -⟩ := h6
  have hs : ∀ k, jfs κ k = 0 := fun k => by unfold jfs jfd; rw [h0]; rfl
  have hs' : ∀ k, jfs κ' k = 0 := fun k => by unfold jfs jfd; rw [h0']; rfl
  have e0 : jfv B.1 w κ i = fun j => .int (jgi w κ i j) := funext fun j => jfv_i (hs j)
  have e1 : jfv B.1 w κ' i' = fun j => .int (jgi w κ' i' j) := funext fun j => jfv_i (hs' j)
  have hc0 := (hR.1 κ i ha).arr (by rw [h0]; decide) (by rw [h0]; decide)
  have hc1 := (hR.1 κ' i' ha').arr (by rw [h0']; decide) (by rw [h0']; decide)
  rw [hn0, e0] at hc0
  rw [hn1, e1] at hc1
  have hty := j_tyk (t := 1) (ty := .int) (by decide +kernel) (by decide) h0
  have hty' := j_tyk (t := 1) (ty := .int) (by decide +kernel) (by decide) h0'
  have hAr := (hA _ hty.2).1 n0 (fun j => .int (jgi w κ i j))
  have hAr' := (hA _ hty'.2).1 n1 (fun j => .int (jgi w κ' i' j))
  rw [hty.1] at hAr
  rw [hty'.1] at hAr'
  obtain ⟨-, k0, hk0, cm0, hkk0⟩ := hAr
  obtain ⟨-, k1, hk1, cm1, hkk1⟩ := hAr'
  have z1 : ∀ z : Int32, 0 ≤ z.toInt → ¬ z < 0 := fun z hz q => by
    rw [Int32.lt_iff_toInt_lt] at q
    simp at q
    omega
  intro T hT X
  obtain ⟨vm', X', step⟩ := X.arraycopy h1 h4 (h5 _ hl) (h5 _ hnat) (h5 _ hst) (h5 _ hini) (src := B.1 κ i) (dst := B.1 κ' i') (cs := arrV (jgA g (jk1 κ)) n0 (fun j => .int (jgi w κ i j))) (cd := arrV (jgA g (jk1 κ')) n1 (fun j => .int (jgi w κ' i' j))) (srcPos := sp) (destPos := dp) (n := n) (by rw [hT]; exact hc0) (by rw [hT]; exact hc1)
    (fun _ h => by cases h) (fun _ h => by cases h) (fun h => by cases h) (fun h => by cases h) hk0 hk1 hkk0 hkk1 (by rfl) (z1 _ c1) (z1 _ c2) (z1 _ c3)
    (by rw [arrV_size]; omega) (by rw [arrV_size]; omega)
    (fun vm₁ _ j hj => by
      have e : (arrV (jgA g (jk1 κ)) n0 (fun j => .int (jgi w κ i j))).slots.getD (sp.toNatClampNeg + j) .null = .int (jgi w κ i (sp.toNatClampNeg + j)) := by
        have q1 : sp.toNatClampNeg = sp.toInt.toNat := rfl
        have q2 : n.toNatClampNeg = n.toInt.toNat := rfl
        rw [Array.getD_eq_getD_getElem?, arrV_read _ _ (by omega)]
        rfl
      rw [e]
      exact ⟨rfl, trivial⟩)
    (g := F0 m pc ls (.int n :: .int dp :: .ref (B.1 κ' i') :: .int sp :: .ref (B.1 κ i) :: rest)) rfl (h.1.trans h3.symm) (rest := rest) rfl (by rw [h2]; exact d) hfr (by
      have hlo' : 8 + (nativeFrameWords "java/lang/System" "arraycopy" 5 + 11) ≤ R.locals := hlo
      show 2 * 0 + _ + _ ≤ R.locals
      omega)
  have ec : copied (arrV (jgA g (jk1 κ)) n0 (fun j => .int (jgi w κ i j))) (arrV (jgA g (jk1 κ')) n1 (fun j => .int (jgi w κ' i' j))) sp dp n = arrV (jgA g (jk1 κ')) n1 (fun j => .int (va_cpy (jgi w κ i) (jgi w κ' i') sp.toNatClampNeg dp.toNatClampNeg n.toNatClampNeg j)) := va_copied (fun z => .int z) _ _ _ _ (by
      have q1 : sp.toNatClampNeg = sp.toInt.toNat := rfl
      have q2 : n.toNatClampNeg = n.toInt.toNat := rfl
      omega)
  rw [ec] at X' step
  have hl : B.1 κ' i' < H.size := (Array.getElem?_eq_some_iff.mp hc1).1
  generalize hnewcell : arrV (jgA g (jk1 κ')) n1 (fun j => .int (va_cpy (jgi w κ i) (jgi w κ' i') sp.toNatClampNeg dp.toNatClampNeg n.toNatClampNeg j)) = nc at X' step
  have hheap : ((T.setVm vm').setCell (B.1 κ' i') nc).heap = H.setIfInBounds (B.1 κ' i') nc := by rw [← hT]; rfl
  have o1 : (H.setIfInBounds (B.1 κ' i') nc)[B.1 κ' i']? = some nc := by simp [Array.getElem?_setIfInBounds, hl]
  have oq : ∀ q : Nat, q ≠ B.1 κ' i' → (H.setIfInBounds (B.1 κ' i') nc)[q]? = H[q]? := fun q hq => by simp [Array.getElem?_setIfInBounds, Ne.symm hq]
  have hR2 : j_R g B (jcp w κ i sp.toInt.toNat κ' i' dp.toInt.toNat n.toInt.toNat) (H.setIfInBounds (B.1 κ' i') nc) := by
    refine hR.put ha' hro (by simp) oq (j_ok.mka (by rw [h0']; decide) (by rw [h0']; decide) ?_) (fun a b q => ⟨?_, rfl⟩) (fun _ _ _ _ z => Or.inl z) (fun _ _ _ _ _ => rfl)
    · rw [o1, ← hnewcell]
      show _ = some (arrV _ (jln w κ' i') _)
      rw [hn1]
      congr 2
      funext j
      rw [jfv_i (hs' j)]
      show _ = Value.int (if κ' = κ' ∧ i' = i' then _ else _)
      rw [if_pos ⟨rfl, rfl⟩]
      rfl
    · funext k
      refine jfv_eq ?_ rfl rfl
      show (if a = κ' ∧ b = i' then _ else _) = _
      rw [if_neg q]
      rfl
  obtain ⟨t, a1, b1⟩ := kk _ _ hR2 (fun q hq0 => by
      rcases List.mem_append.mp hq0 with z | z
      · exact hq q z
      · obtain ⟨y, -, hy⟩ := List.mem_map.mp z
        rw [← hy]
        exact hR.2.2.1 κ' i' ha' hro) _ hheap X'
  exact ⟨t, step t a1, b1⟩
theorem J.tswD2 (hx : j_C cc nL own ret rm g x) {dflt lo hi : Int} {offs : Array Int} {len : Nat} {v : Int32} (tgt : Nat) (d : decode cc pc = .ok (.tableswitch dflt lo hi offs, len)) (hv : (v.toInt < lo ∨ hi < v.toInt) ∨ offs[(v.toInt - lo).toNat]? = some dflt) (ht : (pc : Int) + dflt = (tgt : Int)) (k : J g x nL B Q cells slots o tgt lv st w) : J g x nL B Q cells slots o pc lv (.int v :: st) w := by
  by_cases h0 : v.toInt < lo ∨ hi < v.toInt
  · exact J.tswD hx tgt d h0 ht k
  · exact J.tsw hx tgt d (by omega) (by omega) (hv.resolve_left h0) ht k
end JM
section JD
variable {α β : Type} {g : j_G} {x : j_X} {cc : ByteArray} {nL : Nat} {own : String} {ret : Option FieldType} {rm : Room} {B : j_B} {Q : α → j_St → State → Prop} {cells slots : Nat} {o o1 o2 : Option (α × j_St)} {pc pc' : Nat} {lv lv' : List (Nat × Value)} {st rest : List Value} {w w1 : j_St}
variable {y : MethodName} {cy : ByteArray} {nY : Nat} {rY : Option FieldType} {rmY : Room} {As : List Value} {v : Option Value} {index n : Nat}
/-- a call that lands in a default method of Numbers -/
theorem j_callD (hx : j_C cc nL own ret rm g x) {κ b : Nat} {C nm ds : String} {T : u_T} {N : Nat} (h0 : jk0 κ = 0) (hcl : jcl[jk1 κ]? = some (C, T, N)) (ha : B.2.1 κ b) (hM : j_M g ⟨"TracePeaks$Numbers", nm, ds⟩ cy nY rY rmY B (.ref (B.1 κ b) :: As) w w1 v) (hT : GoodIn lw_all (ws_ ⟨"TracePeaks$Numbers", nm, ds⟩ cy nY rY))
    (hl : Cond.methodLink own index ⟨C, nm, ds⟩ ∈ defaultWords_1) (hsm : Cond.sameMethod C "TracePeaks$Numbers" nm ds ∈ defaultWords_1) (hdf : (C, nm, ds) ∈ jdf) (hin : Cond.instanceMethod ⟨"TracePeaks$Numbers", nm, ds⟩ ∈ lw_all) (hini : Cond.initialized "TracePeaks$Numbers" ∈ lw_all)
    (hd : (parseMethodDescriptor ds).map (fun d => d.parameters.length) = some n) (hn : As.length = n) (hRm : j_rm rm rmY nY) (hW : (rest.map fun v => v.category).sum ≤ 8) (d : decode cc pc = .ok (.invokevirtual index, 3)) :
    j_Call g x nL B (.ref (B.1 κ b) :: As) w w1 pc (pc + 3) (As.reverse ++ .ref (B.1 κ b) :: rest) rest rmY.cells rmY.slots v := by
  refine j_call_of (a := (Value.ref (B.1 κ b) :: As).toArray) fun H locs ls cells slots hls hR hc hs => ?_
  obtain ⟨p, e, R, s, m, args, below, meth, c⟩ := x
  obtain ⟨h1, h2, h3, h4, h5, h6, -, -, h9⟩ := hx
  cases h9
  obtain ⟨hK, hA, hN, hF, hO, hS, hK2⟩ := h6
  obtain ⟨cell, g1, g2, g3, -⟩ := (hR.1 κ b ha).obj h0 hcl
  have hcw : Cond.code (⟨"TracePeaks$Numbers", nm, ds⟩ : MethodName) cy nY rY ∈ ws_ ⟨"TracePeaks$Numbers", nm, ds⟩ cy nY rY := List.mem_cons_self
  have hBk : Back g.1 R p e below s args ⟨"TracePeaks$Numbers", nm, ds⟩ 3 8 (PreOf R rmY.cells rmY.slots (j_Pc g B (.ref (B.1 κ b) :: As) w)) (PostOf (j_Qr g B v w1) rmY.cells rmY.slots (j_fr g)) :=
    back_of (bytes := cy) (maxL := nY) (ret := rY) hM j_Pc_blind rfl rfl hRm.1 hRm.2 (pay_in h5 hT) hcw (fun a' U hW => word_at hW (Or.inl (by first | rfl | simp [Cond.onTables, Cond.keeps, Cond.steady])) (h5 _ hini))
  intro T hT0 X
  obtain ⟨v', vm₁, ⟨U', l2, c2, s2⟩, hW₁, X', ⟨g', mk, t, L, e1, e2, hq, q1, hL, q2, q3⟩, st⟩ := X.virtualBackUpD h1 (C := C) (owner := "TracePeaks$Numbers") (x := ⟨C, nm, ds⟩) (y := ⟨"TracePeaks$Numbers", nm, ds⟩) h4 (va_Nw.use (j_dw_on _ hl) (hK2.1 _ hl)) (va_Nw.use rfl (hK2.1 _ hsm)) (va_Nw.use rfl (hK2.2.1 _ hdf).2) (by decide) (hK2.2.1 _ hdf).1 (h5 _ hin) hBk (hK.1 _ _ hcl).2.1 ⟨cell, by rw [hT0]; exact g1, g2, by rw [g3]; rfl⟩ (g := F0 m pc ls (As.reverse ++ .ref (B.1 κ b) :: rest)) rfl (hls.trans h3.symm) (s₀ := T.setTop (F0 m pc ls (As.reverse ++ .ref (B.1 κ b) :: rest))) (Steps.refl _) (argsL := As) (rest := rest)
    (fun sig h => by
      have : some sig.parameters.length = some n := by rw [← hd]; show _ = (parseMethodDescriptor ds).map _; rw [show parseMethodDescriptor ds = some sig from h]; rfl
      rw [hn]
      exact (Option.some.inj this).symm) rfl (lv_room hW) (by rw [h2]; exact d)
    (fun vm₁ hW₁ => ⟨hc, hs, j_Pc_start hR ⟨hK, hA, hN, hF, hO, hS, hK2⟩ (T.setVm vm₁) hT0 hW₁⟩)
  dsimp only [Pt.U, Pt.locs, Pt.cells, Pt.slots] at X' e1 e2 q1 q2 q3 st
  subst q1; subst q2; subst q3
  exact ⟨v', (T.setVm vm₁).calling g' mk (Value.ref (B.1 κ b) :: As).toArray, t, U', L, hT0, X', hL, e1, e2, hq, fun target r => Steps.trans st r⟩
end JD
