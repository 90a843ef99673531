/-! raters are made, and one change -/
def jb6 (w : j_St) : j_St := jbump (jbump (jbump (jbump (jbump (jbump w 14) 14) 14) 14) 14) 14
def jm1 (w : j_St) (κ i : Nat) : j_St := jsr (jnw w κ i 0) κ i 0 (some 0)
def jm2 (w : j_St) (i : Nat) (v : Int32) : j_St := jsi (jm1 w 14 i) 14 i 1 v
def jb14 (B : j_B) (i q : Nat) : j_B := jbb (jbn B 14 i q) (fun a b => a = 14 ∧ b = i)
theorem j14_old {B : j_B} {i q a b : Nat} (h : B.2.1 a b ∧ B.2.2 a b) : (jb14 B i q).2.1 a b ∧ (jb14 B i q).2.2 a b := ⟨Or.inr h.1, Or.inl h.2⟩
theorem j14_oldq {B : j_B} {i q κ' : Nat} {v : Option Nat} (h : ∀ a, v = some a → B.2.1 κ' a ∧ B.2.2 κ' a) : ∀ a, v = some a → (jb14 B i q).2.1 κ' a ∧ (jb14 B i q).2.2 κ' a := fun a e => j14_old (h a e)
theorem j14_al {B : j_B} {i q : Nat} : (jb14 B i q).2.1 14 i ∧ (jb14 B i q).2.2 14 i := ⟨(jbn_al B (q := q) : (jbn B 14 i q).2.1 14 i), Or.inr ⟨rfl, rfl⟩⟩
theorem j14_ext {B : j_B} {i q : Nat} (hf : ¬ B.2.1 14 i) : j_ext B (jb14 B i q) := (jbn_ext hf).tr jbb_ext
theorem j_ext.one {B B' : j_B} (h : j_ext B B') {κ i a : Nat} (e : B.2.1 κ i ∧ B.1 κ i = a) : B'.2.1 κ i ∧ B'.1 κ i = a := ⟨(h κ i e.1).1, (h κ i e.1).2.1.trans e.2⟩
theorem jm1_off {w : j_St} {κ i : Nat} : ∀ a b k, ¬ (a = κ ∧ b = i) → jgi (jm1 w κ i) a b k = jgi w a b k ∧ jgl (jm1 w κ i) a b k = jgl w a b k ∧ jgr (jm1 w κ i) a b k = jgr w a b k := fun a b k h => by
  refine ⟨?_, ?_, ?_⟩
  · show (if a = κ ∧ b = i then _ else _) = _
    rw [if_neg h]; rfl
  · show (if a = κ ∧ b = i then _ else _) = _
    rw [if_neg h]; rfl
  · show (if a = κ ∧ b = i ∧ k = 0 then _ else (if a = κ ∧ b = i then _ else _)) = _
    rw [if_neg (fun z => h ⟨z.1, z.2.1⟩), if_neg h]; rfl
theorem jm1_offn {w : j_St} {κ i : Nat} : ∀ a b, ¬ (a = κ ∧ b = i) → jgn (jm1 w κ i) a b = jgn w a b := fun a b h => by
  show (if a = κ ∧ b = i then _ else _) = _
  rw [if_neg h]; rfl
theorem jm1_r {w : j_St} {κ i : Nat} : ∀ k, jgr (jm1 w κ i) κ i k = if k = 0 then some 0 else none := fun k => by
  show (if κ = κ ∧ i = i ∧ k = 0 then _ else (if κ = κ ∧ i = i then _ else _)) = _
  by_cases h : k = 0
  · rw [if_pos ⟨rfl, rfl, h⟩, if_pos h]
  · rw [if_neg (fun z => h z.2.2), if_pos ⟨rfl, rfl⟩, if_neg h]
theorem jm2_i {w : j_St} {i : Nat} {v : Int32} : jgi (jm2 w i v) 14 i 1 = v := by
  show (if 14 = 14 ∧ i = i ∧ 1 = 1 then _ else _) = _
  rw [if_pos ⟨rfl, rfl, rfl⟩]
theorem jm2_off {w : j_St} {i : Nat} {v : Int32} : ∀ a b k, ¬ (a = 14 ∧ b = i) → jgi (jm2 w i v) a b k = jgi w a b k ∧ jgl (jm2 w i v) a b k = jgl w a b k ∧ jgr (jm2 w i v) a b k = jgr w a b k := fun a b k h => by
  refine ⟨?_, (jm1_off a b k h).2.1, (jm1_off a b k h).2.2⟩
  show (if a = 14 ∧ b = i ∧ k = 1 then _ else jgi (jm1 w 14 i) a b k) = _
  rw [if_neg (fun z => h ⟨z.1, z.2.1⟩)]
  exact (jm1_off a b k h).1
theorem jfs14 {k : Nat} (h : jfs 14 k = 3) : k = 0 := by
  match k, h with
  | 0, _ => rfl
  | 1, h => exact absurd h (by decide)
  | k + 2, h => exact absurd h (by show ¬ 0 = 3; decide)
theorem jl_slots1 {c : ClassId} {f : Nat → Value} {v : Value} (h : f 0 = v) : ({ cls := c, slots := [v].toArray, vm := .none } : Cell) = arrV c 1 f := by
  subst h
  rfl
theorem jl_slots2 {c : ClassId} {f : Nat → Value} {v u : Value} (h : f 0 = v) (h2 : f 1 = u) : ({ cls := c, slots := [v, u].toArray, vm := .none } : Cell) = arrV c 2 f := by
  subst h
  subst h2
  rfl
section JI3
variable {α : Type} {g : j_G} {x : j_X} {cc : ByteArray} {nL : Nat} {own : String} {ret : Option FieldType} {rm : Room} {B : j_B} {Q : α → j_St → State → Prop} {cells slots : Nat} {o : Option (α × j_St)} {pc index : Nat} {lv : List (Nat × Value)} {st : List Value} {w w2 : j_St}
theorem J.bump6 {f : j_St → Option (α × j_St)} (k : ∀ w2 : j_St, w2 = jb6 w → J g x nL B Q cells slots (f w2) pc lv st w2) : J g x nL B Q cells slots (jlt (jb6 w) f) pc lv st w := fun r w' ho H locs ls h hR hq => k _ rfl r w' ho H locs ls h hR.bump.bump.bump.bump.bump.bump hq
theorem j14_fr {n s : Nat} (hs : s < 6) (e : n = jgn w 114 0) : ∀ H, j_R g B w H → ¬ B.2.1 14 (6 * n + s) := fun H hR z => by
  have h9 := hR.2.2.2.2.2.2.2.2.2 _ _ z
  simp only [jcnt] at h9
  simp at h9
  omega
theorem j14_cnt {n s : Nat} (hs : s < 6) (e : n = jgn w 114 0) : jcnt (jb6 w) 14 (6 * n + s) := by
  have e2 : jgn (jb6 w) 114 0 = jgn w 114 0 + 6 := by simp [jb6, jbump, jgn]
  simp only [jcnt]
  simp
  rw [e2]
  omega
theorem J.indyR1 (hx : j_C cc nL own ret rm g x) {y : MethodName} (hnm : x.2.2.2.1.methodNamed? y = some x.2.2.2.2.1) (hycls : y.cls = "TracePeaks") {n s : Nat} (hs : s < 6 ∧ s ≠ 1) {W0 : Jvm.Cond} (hmem : (14, s, W0) ∈ jlam) {σ : Lambda.Shape} (hW0 : W0 = .lambdaSite y pc index σ) (hcap : σ.captured = [.object "TracePeaks"])
    (hlay : ((σ.file "TracePeaks").bind (layoutFields · 0)).map (·.2.1) = some #[.object "TracePeaks"]) {f : j_St → Option (α × j_St)} (ha : B.2.1 0 0 ∧ B.2.2 0 0) (hf : ¬ B.2.1 14 (6 * n + s)) (hb : ¬ B.2.2 14 (6 * n + s)) (hcnt : jcnt w 14 (6 * n + s))
    (hRm : 3080 ≤ rm.locals) (hcs : cells + 1 ≤ rm.cells ∧ slots + 1 ≤ rm.slots) (hW : ((Value.ref (B.1 0 0) :: st).map fun v => v.category).sum ≤ 8) (d : decode cc pc = .ok (.invokedynamic index, 5))
    (kk : ∀ q w2, J g x nL (jb14 B (6 * n + s) q) Q (cells + 1) (slots + 1) (f w2) (pc + 5) lv (.ref ((jb14 B (6 * n + s) q).1 14 (6 * n + s)) :: st) w2) : J g x nL B Q cells slots (jlt (jm1 w 14 (6 * n + s)) f) pc lv (.ref (B.1 0 0) :: st) w := by
  have h6 : js6 14 (6 * n + s) = s := by unfold js6; rw [if_pos rfl]; omega
  refine J.indyM hx hnm hycls h6 hmem hW0 (by rw [hcap]; simp) rfl hlay (vals := [.ref (B.1 0 0)]) (by rw [hcap]; rfl) rfl (fun j v hj => ?_) hf hb (by decide) hcnt jm1_off jm1_offn (fun k j hj => ?_) (fun q => ?_) hRm hcs hW d fun q => ?_
  · match j, hj with
    | 0, hj => exact ⟨_, rfl, by cases hj; rfl⟩
  · rw [jm1_r] at hj
    split at hj
    · next z => subst z; cases hj; exact ⟨ha.1, fun _ => ha.2⟩
    · cases hj
  · have e1 : jl6 14 s = 1 := by unfold jl6; rw [if_neg (by omega), if_pos rfl, if_neg hs.2]
    rw [e1]
    refine jl_slots1 ?_
    rw [jfv_r (by decide), jm1_r]
    rfl
  · refine J.built (fun a b => a = 14 ∧ b = 6 * n + s) (fun κ i z => ?_) (kk q _)
    obtain ⟨rfl, rfl⟩ := z
    refine ⟨jbn_al B, fun k hk => ?_⟩
    rcases jfs14 hk with rfl
    exact ⟨by rw [jm1_r]; rfl, Or.inl ha.2⟩
theorem J.indyR2 (hx : j_C cc nL own ret rm g x) {y : MethodName} (hnm : x.2.2.2.1.methodNamed? y = some x.2.2.2.2.1) (hycls : y.cls = "TracePeaks") {n s : Nat} {v : Int32} (hs : s = 1) {W0 : Jvm.Cond} (hmem : (14, s, W0) ∈ jlam) {σ : Lambda.Shape} (hW0 : W0 = .lambdaSite y pc index σ) (hcap : σ.captured = [.object "TracePeaks", .int])
    (hlay : ((σ.file "TracePeaks").bind (layoutFields · 0)).map (·.2.1) = some #[.object "TracePeaks", .int]) {f : j_St → Option (α × j_St)} (ha : B.2.1 0 0 ∧ B.2.2 0 0) (hf : ¬ B.2.1 14 (6 * n + s)) (hb : ¬ B.2.2 14 (6 * n + s)) (hcnt : jcnt w 14 (6 * n + s))
    (hRm : 3080 ≤ rm.locals) (hcs : cells + 1 ≤ rm.cells ∧ slots + 2 ≤ rm.slots) (hW : ((Value.int v :: Value.ref (B.1 0 0) :: st).map fun v => v.category).sum ≤ 8) (d : decode cc pc = .ok (.invokedynamic index, 5))
    (kk : ∀ q w2, J g x nL (jb14 B (6 * n + s) q) Q (cells + 1) (slots + 2) (f w2) (pc + 5) lv (.ref ((jb14 B (6 * n + s) q).1 14 (6 * n + s)) :: st) w2) : J g x nL B Q cells slots (jlt (jm2 w (6 * n + s) v) f) pc lv (.int v :: .ref (B.1 0 0) :: st) w := by
  subst hs
  have h6 : js6 14 (6 * n + 1) = 1 := by unfold js6; rw [if_pos rfl]; omega
  refine J.indyM (w2 := jm2 w (6 * n + 1) v) hx hnm hycls h6 hmem hW0 (by rw [hcap]; simp) rfl hlay (vals := [.ref (B.1 0 0), .int v]) (by rw [hcap]; rfl) rfl (fun j u hj => ?_) hf hb (by decide) hcnt jm2_off jm1_offn (fun k j hj => ?_) (fun q => ?_) hRm hcs hW d fun q => ?_
  · match j, hj with
    | 0, hj => exact ⟨_, rfl, by cases hj; rfl⟩
    | 1, hj => exact ⟨_, rfl, by cases hj; rfl⟩
  · have hj2 : jgr (jm1 w 14 (6 * n + 1)) 14 (6 * n + 1) k = some j := hj
    rw [jm1_r] at hj2
    by_cases z : k = 0
    · subst z
      rw [if_pos rfl] at hj2
      cases hj2
      exact ⟨ha.1, fun _ => ha.2⟩
    · rw [if_neg z] at hj2
      cases hj2
  · refine jl_slots2 (c := jgM g 14 1) ?_ ?_
    · rw [jfv_r (by decide)]
      show va_rf ((jgr (jm1 w 14 (6 * n + 1)) 14 (6 * n + 1) 0).map _) = _
      rw [jm1_r]
      rfl
    · rw [jfv_i (by decide), jm2_i]
  · refine J.built (fun a b => a = 14 ∧ b = 6 * n + 1) (fun κ i z => ?_) (kk q _)
    obtain ⟨rfl, rfl⟩ := z
    refine ⟨jbn_al B, fun k hk => ?_⟩
    rcases jfs14 hk with rfl
    refine ⟨?_, Or.inl ha.2⟩
    show jgr (jm1 w 14 (6 * n + 1)) 14 (6 * n + 1) 0 = _
    rw [jm1_r]
    rfl
theorem J.indyL (hx : j_C cc nL own ret rm g x) {y : MethodName} (hnm : x.2.2.2.1.methodNamed? y = some x.2.2.2.2.1) (hycls : y.cls = "TracePeaks") {W0 : Jvm.Cond} (hmem : (13, 1, W0) ∈ jlam) {σ : Lambda.Shape} (hW0 : W0 = .lambdaSite y pc index σ) (hcap : σ.captured = [.object "TracePeaks"])
    (hlay : ((σ.file "TracePeaks").bind (layoutFields · 0)).map (·.2.1) = some #[.object "TracePeaks"]) {f : j_St → Option (α × j_St)} (ha : B.2.1 0 0) (hf : ¬ B.2.1 13 1) (hb : ¬ B.2.2 13 1)
    (hRm : 3080 ≤ rm.locals) (hcs : cells + 1 ≤ rm.cells ∧ slots + 1 ≤ rm.slots) (hW : ((Value.ref (B.1 0 0) :: st).map fun v => v.category).sum ≤ 8) (d : decode cc pc = .ok (.invokedynamic index, 5))
    (kk : ∀ q w2, J g x nL (jbn B 13 1 q) Q (cells + 1) (slots + 1) (f w2) (pc + 5) lv (.ref ((jbn B 13 1 q).1 13 1) :: st) w2) : J g x nL B Q cells slots (jlt (jm1 w 13 1) f) pc lv (.ref (B.1 0 0) :: st) w := by
  refine J.indyM (κ := 13) (i := 1) (i9 := 1) hx hnm hycls rfl hmem hW0 (by rw [hcap]; simp) rfl hlay (vals := [.ref (B.1 0 0)]) (by rw [hcap]; rfl) rfl (fun j v hj => ?_) hf hb (by decide) (by simp [jcnt]) jm1_off jm1_offn (fun k j hj => ?_) (fun q => ?_) hRm hcs hW d fun q => kk q _
  · match j, hj with
    | 0, hj => exact ⟨_, rfl, by cases hj; rfl⟩
  · rw [jm1_r] at hj
    split at hj
    · next z => subst z; cases hj; exact ⟨ha, fun z => absurd z (by decide)⟩
    · cases hj
  · refine jl_slots1 (c := jgM g 13 1) ?_
    rw [jfv_r (by decide), jm1_r]
    rfl
end JI3
