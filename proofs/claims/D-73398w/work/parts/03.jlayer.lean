/-! J: a store of typed cells (kind, index, slot), and the walk over it: 'o' is what is left to compute -/
abbrev j_St : Type := (Nat → Nat → Nat → Int32) × (Nat → Nat → Nat → Int64) × (Nat → Nat → Nat → Option Nat) × (Nat → Nat → Nat)
def jgi (w : j_St) (κ i k : Nat) : Int32 := w.1 κ i k
def jgl (w : j_St) (κ i k : Nat) : Int64 := w.2.1 κ i k
def jgr (w : j_St) (κ i k : Nat) : Option Nat := w.2.2.1 κ i k
def jgn (w : j_St) (κ i : Nat) : Nat := w.2.2.2 κ i
def ju3 {α : Type} (f : Nat → Nat → Nat → α) (κ i k : Nat) (v : α) : Nat → Nat → Nat → α := fun a b c => if a = κ ∧ b = i ∧ c = k then v else f a b c
def jsi (w : j_St) (κ i k : Nat) (v : Int32) : j_St := (ju3 w.1 κ i k v, w.2)
def jsl (w : j_St) (κ i k : Nat) (v : Int64) : j_St := (w.1, ju3 w.2.1 κ i k v, w.2.2)
def jsr (w : j_St) (κ i k : Nat) (v : Option Nat) : j_St := (w.1, w.2.1, ju3 w.2.2.1 κ i k v, w.2.2.2)
/-- a new cell: all is zero, its length is n -/
def jnw (w : j_St) (κ i n : Nat) : j_St := (fun a b c => if a = κ ∧ b = i then 0 else w.1 a b c, fun a b c => if a = κ ∧ b = i then 0 else w.2.1 a b c, fun a b c => if a = κ ∧ b = i then none else w.2.2.1 a b c, fun a b => if a = κ ∧ b = i then n else w.2.2.2 a b)
/-- arrays copied: n of (κ, i) from place a, to (κ', i') at place b -/
def jcp (w : j_St) (κ i a κ' i' b n : Nat) : j_St := (fun x y z => if x = κ' ∧ y = i' then va_cpy (w.1 κ i) (w.1 κ' i') a b n z else w.1 x y z, w.2)
def jlt {α β : Type} (x : α) (k : α → β) : β := k x
def jbd {β : Type} (j : Int32) (n : Nat) (k : Nat → Option β) : Option β := if 0 ≤ j.toInt ∧ j.toInt < (n : Int) then k j.toInt.toNat else none
def job {β : Type} (r : Option Nat) (k : Nat → Option β) : Option β := match r with
  | none => none
  | some q => k q
def jcs {β : Type} (r : Option Nat) (e : β) (k : Nat → β) : β := match r with
  | none => e
  | some q => k q
def jcb {α β : Type} (o : Option (α × j_St)) (k : α → j_St → Option β) : Option β := match o with
  | none => none
  | some p => k p.1 p.2
/-! the kinds: (tag, number of its class or array class, kind of its elements, its length or 0). Tags: 0 object, 1 int array, 2 byte array, 3 long array, 4 references, 5 references that stay, 6 an object of a class made for a lambda -/
def jkt : List (Nat × Nat × Nat × Nat) := [(0,0,0,0), (0,1,0,0), (0,2,0,0), (0,3,0,0), (0,4,0,0), (0,5,0,0), (0,6,0,0), (0,7,0,0), (0,8,0,0), (0,9,0,0),
  (0,10,0,0), (0,11,0,0), (6,0,0,0), (6,0,0,0), (6,0,0,0), (0,12,0,0), (0,13,0,0), (9,12,0,0), (7,0,0,0), (7,0,0,0),
  (2,1,0,400), (1,0,0,2), (4,5,7,4), (4,4,5,40), (5,7,10,2), (5,8,11,3), (5,3,3,48), (4,3,3,48), (4,3,3,48), (1,0,0,48),
  (1,0,0,8), (1,0,0,48), (1,0,0,48), (1,0,0,180), (4,6,15,8), (1,0,0,8), (1,0,0,12), (1,0,0,24), (3,2,0,1), (8,0,0,0),
  (1,0,0,400), (1,0,0,48), (1,0,0,8), (1,0,0,8), (3,2,0,8), (1,0,0,180), (1,0,0,5), (1,0,0,231), (1,0,0,2), (1,0,0,8),
  (1,0,0,8), (3,2,0,8), (1,0,0,48), (1,0,0,48), (1,0,0,48), (1,0,0,48), (1,0,0,48), (1,0,0,48), (1,0,0,48), (1,0,0,48),
  (1,0,0,8), (1,0,0,48), (1,0,0,9240), (1,0,0,231), (1,0,0,50), (1,0,0,48), (1,0,0,40), (7,0,0,0), (7,0,0,0), (7,0,0,0),
  (2,1,0,0), (8,1,0,0), (8,1,0,0)]
def jk0 (κ : Nat) : Nat := (jkt.getD κ (7,0,0,0)).1
def jk1 (κ : Nat) : Nat := (jkt.getD κ (7,0,0,0)).2.1
def jk2 (κ : Nat) : Nat := (jkt.getD κ (7,0,0,0)).2.2.1
def jk3 (κ : Nat) : Nat := (jkt.getD κ (7,0,0,0)).2.2.2
/-- which kinds are only read -/
def jro (κ : Nat) : Bool := κ == 39 || κ == 17 || κ == 71 || κ == 72 || κ == 12 || κ == 13
def jz2 : Nat → Nat → Nat := fun _ _ => 0
abbrev jF : Type := Nat × Nat × (Nat → Nat → Nat)
def jfi : jF := (0, 0, jz2)
def jfl : jF := (1, 0, jz2)
def jfr (κ : Nat) : jF := (2, κ, jz2)
def jfc (κ n : Nat) : jF := (3, κ, fun _ _ => n)
def jfw (κ : Nat) : jF := (3, κ, fun i _ => i)
/-- the fields of the kinds of objects: (sort, kind, index): 0 int, 1 long, 2 reference, 3 reference that stays -/
def jft : List (List jF) := [
  [jfc 24 0, jfc 25 0, jfc 20 0, jfi, jfc 22 0, jfc 21 0, jfi, jfr 6, jfr 6, jfr 7, jfc 2 0, jfc 2 1, jfc 4 0, jfc 5 0, jfc 5 1, jfc 5 2, jfc 5 3, jfc 23 0, jfi, jfi, jfl, jfi],
  [jfi, jfc 40 0, jfi, jfi, jfi, jfi, jfi, jfi, jfi, jfl, jfi, jfc 41 0, jfc 42 0, jfc 43 0, jfc 44 0, jfi, jfi, jfi, jfi, jfc 45 0, jfc 46 0, jfi, jfc 47 0, jfc 48 0, jfc 49 0, jfc 50 0, jfc 51 0, jfi, jfi, jfi, jfc 52 0, jfc 53 0, jfc 54 0, jfc 55 0, jfc 56 0, jfi, jfc 57 0, jfc 58 0, jfi, jfc 59 0, jfc 60 0, jfi, jfc 61 0, jfc 62 0, jfi, jfl, jfc 63 0, jfi, jfc 64 0, jfc 65 0, jfc 66 0, jfi],
  [jfw 26, jfw 27, jfw 28, jfw 29, jfr 4, jfi, jfi, jfw 30, jfw 31],
  [jfi, jfi, jfi, jfi, jfi, jfr 3, jfi],
  [jfw 32, jfi],
  [(3, 4, fun i _ => 2 * i + 1), jfw 33, jfi, jfi, jfi, jfc 0 0],
  [(3, 4, fun i _ => 2 * i + 2), jfw 34, jfw 35, jfi, jfi, jfi],
  [jfw 36, jfw 37, jfi],
  [jfi, jfc 0 0],
  [jfr 18, jfr 18, jfr 18, jfr 18, jfr 18, jfi, jfi],
  [jfw 12], [jfw 13], [], [jfc 0 0], [jfc 0 0, jfi],
  [jfr 70, jfi, jfi, jfi], [jfr 70, jfi, jfi, jfi], [jfr 71, jfi, jfi, jfi]]
def jfd (κ k : Nat) : jF := if jk0 κ = 1 ∨ jk0 κ = 2 ∨ jk0 κ = 8 then jfi else if jk0 κ = 3 then jfl else if jk0 κ = 4 then jfr (jk2 κ) else if jk0 κ = 5 then (if k < jk3 κ then (3, jk2 κ, fun i k => jk3 κ * i + k) else jfr (jk2 κ)) else (jft.getD κ []).getD k jfi
def jfs (κ k : Nat) : Nat := (jfd κ k).1
def jfk (κ k : Nat) : Nat := (jfd κ k).2.1
def jci (κ i k : Nat) : Nat := (jfd κ k).2.2 i k
/-- how long an array is -/
def jln (w : j_St) (κ i : Nat) : Nat := if jk3 κ = 0 then jgn w κ i else jk3 κ
/-- what a slot holds -/
def jfv (ad : Nat → Nat → Nat) (w : j_St) (κ i k : Nat) : Value := match jfs κ k with
  | 0 => .int (jgi w κ i k)
  | 1 => .long (jgl w κ i k)
  | _ => va_rf ((jgr w κ i k).map (ad (jfk κ k)))
def jcl : List vw_C := [(RX1, TX1, 22), (RX9, TX9, 52), (RX5, TX5, 9), (RX6, TX6, 7), (RX7, TX7, 2), (RX8, TX8, 6), (RX11, TX11, 6), (RX13, TX13, 3), (RX10, TX10, 2), (RX12, TX12, 7), (RX2, TX2, 1), (RX4, TX4, 1), (RJ3, TJ3, 4), (RJ2, TJ2, 4)]
def jat : List FieldType := [.int, .byte, .long, .object RX6, .object RX8, .object RX13, .object "java/lang/String", .object RX2, .object RX4]
def jty (t : Nat) : FieldType := jat.getD t .int
/-- the launch, classes and slots, array classes, made classes, the heap at the law's start, its size -/
abbrev j_G : Type := Launch × va_G × (Nat → ClassId) × (Nat → Nat → ClassId) × Heap × Nat
def jgL (g : j_G) : Launch := g.1
def jgD (g : j_G) : va_G := g.2.1
def jgA (g : j_G) : Nat → ClassId := g.2.2.1
def jgM (g : j_G) : Nat → Nat → ClassId := g.2.2.2.1
def jgH (g : j_G) : Heap := g.2.2.2.2.1
def jgb (g : j_G) : Nat := g.2.2.2.2.2
/-- addresses, which cells are there, which are built -/
abbrev j_B : Type := (Nat → Nat → Nat) × (Nat → Nat → Prop) × (Nat → Nat → Prop)
/-- what the lambdas' objects hold; raters are numbered 6 * n + site -/
def js6 (κ i : Nat) : Nat := if κ = 14 then i % 6 else i
def jl6 (κ i : Nat) : Nat := if κ = 13 ∧ i = 1 then 1 else if κ = 14 then (if i = 1 then 2 else 1) else 0
def j_ok (g : j_G) (B : j_B) (w : j_St) (H : Heap) (κ i : Nat) : Prop := match jk0 κ with
  | 0 => ∃ r : vw_C, jcl[jk1 κ]? = some r ∧ t_OB (B.1 κ i) ((jgD g).1 (jk1 κ)) r.2.2 ((jgD g).2 (jk1 κ)) H (jfv B.1 w κ i)
  | 6 => ∃ cell : Cell, H[B.1 κ i]? = some cell ∧ cell.cls = jgM g κ (js6 κ i) ∧ cell.vm = .none ∧ cell.slots = (arrV (jgM g κ (js6 κ i)) (jl6 κ (js6 κ i)) (jfv B.1 w κ i)).slots
  | 8 => ∃ cell : Cell, H[B.1 κ i]? = some cell ∧ cell.cls = jgM g (200 + κ) i ∧ (∀ k, cell.vm ≠ .statics k) ∧ cell.vm ≠ .unknown ∧ cell.slots.size = jln w κ i ∧ ∀ j, j < jln w κ i → cell.slots[j]? = some (jfv B.1 w κ i j)
  | 9 => ∃ r : vw_C, jcl[jk1 κ]? = some r ∧ ∃ cell : Cell, H[B.1 κ i]? = some cell ∧ cell.cls = (jgD g).1 (jk1 κ) ∧ cell.vm.isStatics = false ∧ cell.vm ≠ .unknown ∧ ∀ k, k < r.2.2 → cell.slots[(jgD g).2 (jk1 κ) k]? = some (jfv B.1 w κ i k)
  | _ => H[B.1 κ i]? = some (arrV (jgA g (jk1 κ)) (jln w κ i) (jfv B.1 w κ i))
/-- how many of a kind were made: the counters stand in the store -/
def jcnt (w : j_St) (κ i : Nat) : Prop :=
  if κ = 5 ∨ κ = 33 then i < jgn w 105 0
  else if κ = 4 ∨ κ = 32 then i = 0 ∨ (∃ j, i = 2 * j + 1 ∧ j < jgn w 105 0) ∨ (∃ j, i = 2 * j + 2 ∧ j < jgn w 106 0)
  else if κ = 6 ∨ κ = 34 ∨ κ = 35 then i < jgn w 106 0
  else if κ = 7 ∨ κ = 36 ∨ κ = 37 then i < jgn w 107 0
  else if κ = 14 then i < 6 * jgn w 114 0
  else if κ = 3 ∨ κ = 8 ∨ κ = 9 ∨ κ = 15 ∨ κ = 16 ∨ κ = 70 then i < jgn w (100 + κ) 0
  else κ < 100
def j_R (g : j_G) (B : j_B) (w : j_St) (H : Heap) : Prop :=
  (∀ κ i, B.2.1 κ i → j_ok g B w H κ i) ∧
  (∀ κ i κ' i', B.2.1 κ i → B.2.1 κ' i' → B.1 κ i = B.1 κ' i' → κ = κ' ∧ i = i') ∧
  (∀ κ i, B.2.1 κ i → jro κ = false → jgb g ≤ B.1 κ i) ∧
  jgb g ≤ H.size ∧ (∀ q : Nat, q < jgb g → H[q]? = (jgH g)[q]?) ∧
  (∀ κ i k j, B.2.1 κ i → jgr w κ i k = some j → B.2.1 (jfk κ k) j) ∧
  (∀ κ i k j, B.2.1 κ i → jgr w κ i k = some j → jfs κ k = 2 → B.2.2 (jfk κ k) j) ∧
  (∀ κ i k, B.2.2 κ i → jfs κ k = 3 → jgr w κ i k = some (jci κ i k) ∧ B.2.2 (jfk κ k) (jci κ i k)) ∧
  (∀ κ i, B.2.2 κ i → B.2.1 κ i) ∧
  (∀ κ i, B.2.1 κ i → jcnt w κ i)
/-! what the tables say, all through the run -/
def jng (w : Cond) : Bool := match w with
  | .fieldLinkNest .. => true
  | .methodLinkNest .. => true
  | .castable .. => true
  | .publicMethod .. => true
  | .privateMethod .. => true
  | .unhidden .. => true
  | .declares .. => true
  | _ => false
def jnl : List Cond := lw_tbl.filter jng
theorem j_nl {w : Cond} (h : w ∈ lw_tbl) (g : jng w = true) : w ∈ jnl := List.mem_filter.mpr ⟨h, g⟩
theorem j_nl_moved {w : Cond} (hg : jng w = true) {s U : State} (hW : s.WarmedH U.vm) (h : va_Nw w s) : va_Nw w U := by
  have hvm := hW.alike
  cases w <;> first | (simp [jng] at hg; done) | skip
  all_goals first
    | exact va_Nw.warmF hW h
    | exact va_Nw.warmM hW h
    | exact va_tabs rfl (rfl : (s.setVm U.vm).vm = U.vm) (by rw [Cond.castable_setVm hvm]; exact h)
    | exact va_tabs rfl (rfl : (s.setVm U.vm).vm = U.vm) (by rw [Cond.publicMethod_setVm hvm]; exact h)
    | exact va_tabs rfl (rfl : (s.setVm U.vm).vm = U.vm) (by rw [Cond.privateMethod_setVm hvm]; exact h)
    | exact va_tabs rfl (rfl : (s.setVm U.vm).vm = U.vm) (by rw [Cond.unhidden_setVm hvm]; exact h)
    | exact va_tabs rfl (rfl : (s.setVm U.vm).vm = U.vm) (by rw [Cond.declares_setVm hvm]; exact h)
/-- calls through an interface: class, method named, method that runs -/
def jfs_ : List (String × MethodName × MethodName) := [(RX7, ⟨"TracePeaks$Numbers", "at", "(I)I"⟩, ⟨RX7, "at", "(I)I"⟩), (RX7, ⟨"TracePeaks$Numbers", "many", "()I"⟩, ⟨RX7, "many", "()I"⟩),
  (RX5, ⟨"TracePeaks$Numbers", "at", "(I)I"⟩, ⟨RX5, "at", "(I)I"⟩), (RX5, ⟨"TracePeaks$Numbers", "many", "()I"⟩, ⟨RX5, "many", "()I"⟩),
  (RJ2, ⟨"java/lang/CharSequence", "toString", "()Ljava/lang/String;"⟩, ⟨RJ2, "toString", "()Ljava/lang/String;"⟩), (RJ2, ⟨"java/lang/CharSequence", "length", "()I"⟩, ⟨RJ2, "length", "()I"⟩),
  (RJ3, ⟨"java/lang/CharSequence", "length", "()I"⟩, ⟨RJ3, "length", "()I"⟩), (RJ3, ⟨"java/lang/CharSequence", "charAt", "(I)C"⟩, ⟨RJ3, "charAt", "(I)C"⟩)]
/-- statics that nobody writes -/
def jsts : List (String × String × String × Value) := [(RX9, "W_CLIP", "J", .long 68056), (RX9, "W_CUT", "J", .long 2774), (RX9, "W_FLAT", "J", .long 126893), (RX9, "W_LIFT", "J", .long 242939), (RX9, "W_LINE", "J", .long 243140), (RX9, "W_MEDIAN", "J", .long 189278330), (RX9, "W_NOISE", "J", .long 7742498), (RX9, "W_REACH", "J", .long 9665171), (RX9, "W_SCALE", "J", .long 10157486), (RX9, "W_SET", "J", .long 14006), (RX9, "W_SMOOTH", "J", .long 279844694), (RX9, "W_TRACE", "J", .long 10983929), (RX9, "W_TURN", "J", .long 409469), ("java/lang/String", "COMPACT_STRINGS", "Z", .int 1)]
/-- calls that land in a default method of Numbers -/
def jdf : List (String × String × String) := [(RX7, "least", "()I"), (RX7, "greatest", "()I"), (RX7, "sum", "()I"), (RX7, "run", "(II)I"), (RX5, "sum", "()I")]
/-! the lambdas: kind, index, site. A constant's object is at jgM g (100 + κ) i, its class jgM g κ i -/
def jlam : List (Nat × Nat × Cond) := [(12, 0, siteWord_1_1), (12, 1, siteWord_1_2), (13, 0, siteWord_1_3), (13, 1, siteWord_1_4), (13, 2, siteWord_1_5), (14, 0, siteWord_1_6), (14, 1, siteWord_1_7), (14, 2, siteWord_1_8), (14, 3, siteWord_1_9), (14, 4, siteWord_1_10), (14, 5, siteWord_1_11)]
def jl_at (d : ClassId) (cK : ClassId) (a : Addr) (U : State) (x : MethodName) (pc index : Nat) (σ : Lambda.Shape) : Prop :=
  ∃ (m : MethodId) (k : Class) (cf : ClassFile) (i0 p0 : Nat) (l : Linked), U.methodNamed? x = some m ∧ m.cls = d ∧ U.vm.classes[d]? = some k ∧ k.cf = some cf ∧ Lambda.shapeOf? cf index = some σ ∧
    (k.callSites.find? fun y => y.1 == m.idx && y.2.1 == pc) = some (i0, p0, l) ∧ Lambda.isMade { classPath := fun _ => none } U.vm d σ cK = true ∧ U.lambdaCallable σ cK = true ∧ (σ.captured = [] → l = .constant a) ∧ (σ.captured ≠ [] → l = .makes cK)
def jl_ok (d cK : ClassId) (a : Addr) (U : State) (w : Cond) : Prop := match w with
  | .lambdaSite x pc index σ => jl_at d cK a U x pc index σ
  | _ => True
theorem jl_at.moved {d cK : ClassId} {a : Addr} {s U : State} (hW : s.WarmedH U.vm) {x : MethodName} {pc index : Nat} {σ : Lambda.Shape} (h : jl_at d cK a s x pc index σ) : jl_at d cK a U x pc index σ := by
  obtain ⟨m, k, cf, i0, p0, l, h1, h2, h3, h4, h5, h6, h7, h8, h9, h10⟩ := h
  obtain ⟨k', hk', he⟩ := hW.alike.2.2 _ _ h3
  have hA := hW.alike
  refine ⟨m, k', cf, i0, p0, l, ?_, h2, hk', by rw [he]; exact h4, h5, by rw [he]; exact h6, Lambda.isMade_warmer hW h7, ?_, h9, h10⟩
  · have := State.methodNamed?_setVm (s := s) hA x
    rw [h1] at this
    exact this
  · simp only [State.lambdaCallable, hA.findClass, hA.assignable, hA.superclasses, hA.declaredIn] at h8 ⊢
    exact h8
theorem jl_ok.moved {d cK : ClassId} {a : Addr} {s U : State} (hW : s.WarmedH U.vm) {w : Cond} (h : jl_ok d cK a s w) : jl_ok d cK a U w := by
  cases w <;> first | trivial | exact jl_at.moved hW h
theorem jl_ok.vm {d cK : ClassId} {a : Addr} {s U : State} (hvm : s.vm = U.vm) {w : Cond} (h : jl_ok d cK a s w) : jl_ok d cK a U w := by
  cases w <;> first | trivial | skip
  obtain ⟨m, k, cf, i0, p0, l, h1, h2, h3, h4, h5, h6, h7, h8, h9, h10⟩ := h
  refine ⟨m, k, cf, i0, p0, l, ?_, h2, by rw [← hvm]; exact h3, h4, h5, h6, by rw [← hvm]; exact h7, ?_, h9, h10⟩
  · have := State.methodNamed?_setVm (s := s) (by rw [hvm]; exact Vm.Alike.refl _ : s.vm.Alike U.vm) (by assumption)
    rw [h1] at this
    exact this
  · simp only [State.lambdaCallable, hvm] at h8 ⊢
    exact h8
/-- the interfaces of the lambdas -/
def jlif : List MethodName := [⟨"TracePeaks$Filter", "of", "(III)I"⟩, ⟨"TracePeaks$Change", "of", "(III)I"⟩, ⟨"TracePeaks$Rater", "of", "(I)I"⟩]
def j_Fi (x : MethodName) (U : State) : Prop := (Cond.declares x).before #[] U = true ∧ (Cond.interfaceMethod x.cls x.cls x.name x.desc).before #[] U = true
theorem jlif_mh : ∀ x ∈ jlif, x.cls ≠ "java/lang/invoke/MethodHandle" ∧ x.cls ≠ "java/lang/invoke/VarHandle" := by decide +kernel
theorem j_Fi.moved {x : MethodName} (hx : x.cls ≠ "java/lang/invoke/MethodHandle" ∧ x.cls ≠ "java/lang/invoke/VarHandle") {u U : State} (hvm : u.vm.Alike U.vm) (h : j_Fi x u) : j_Fi x U := by
  obtain ⟨h1, h2⟩ := h
  obtain ⟨r, meth, hn, -⟩ := Cond.declares_spec h1
  have tr : ∀ {c : Cond}, c.onTables = true → c.before #[] (u.setVm U.vm) = true → c.before #[] U = true := by
    intro c hc h
    have e := Cond.onTables_vm (A := #[]) (A' := #[]) (U := u) (U' := U) U.vm c hc
    have hU : U.setVm U.vm = U := rfl
    rw [hU] at e
    rw [← e]
    exact h
  exact ⟨tr rfl (by rw [Cond.declares_setVm hvm]; exact h1), tr rfl (by rw [Cond.interfaceMethod_setVm hvm (r := r) hn hx]; exact h2)⟩
/-- the String constants: where they are named, their texts, their numbers; a constant's object is at jgM g 117 i, its bytes at jgM g 171 i -/
def jlits : List (String × Nat × String × Nat) := [("TracePeaks$Reader", 103, "trace", 0), ("TracePeaks$Reader", 109, "noise", 1), ("TracePeaks$Reader", 111, "reach", 2), ("TracePeaks$Reader", 113, "line", 3), ("TracePeaks", 34, "smooth", 4), ("TracePeaks", 40, "median", 5), ("TracePeaks", 42, "flat", 6), ("TracePeaks", 44, "turn", 7), ("TracePeaks", 46, "clip", 8), ("TracePeaks", 48, "lift", 9), ("TracePeaks", 50, "scale", 10), ("TracePeaks", 52, "set", 11), ("TracePeaks", 54, "noise", 1), ("TracePeaks", 56, "cut", 12), ("TracePeaks", 422, "@", 13), ("TracePeaks", 427, ":", 14)]
/-- arrays of bytes that the JDK's statics hold: (72, 0), (72, 1) -/
def jdig : List (String × Nat) := [("DigitOnes", 0), ("DigitTens", 1)]
def j_K3 (g : j_G) (U : State) : Prop := (∀ t ∈ jlits, vk_R t.1 t.2.1 t.2.2.1 (jgM g 117 t.2.2.2) U) ∧ (∀ t ∈ jdig, va_Z "java/lang/Integer" t.1 "[B" (.ref (jgM g 172 t.2)) (fun q => jgb g ≤ q) U (jgH g)) ∧
  vx_Zq Bundle.tN "UNASSIGNED_STACK" Bundle.steD (fun q => jgb g ≤ q) U (jgH g) ∧ vx_Zq Bundle.tN "SUPPRESSED_SENTINEL" Bundle.listD (fun q => jgb g ≤ q) U (jgH g) ∧
  va_Zq "jdk/internal/util/Preconditions" "SIOOBE_FORMATTER" "Ljava/util/function/BiFunction;" (fun q => jgb g ≤ q) U (jgH g) ∧ ((jgL g).stackTraces = false ∧ ∀ κ i, jk0 κ = 8 → ArrOfT U (jgM g (200 + κ) i) (jty (jk1 κ)))
theorem j_K3_moved {g : j_G} {s U : State} (hvm : s.vm.Alike U.vm) (hk : ∀ own k tx a, vk_R own k tx a s → vk_R own k tx a U) (h : j_K3 g s) : j_K3 g U := by
  obtain ⟨h1, h2, h3, h4, h5, h6⟩ := h
  exact ⟨fun t ht => hk _ _ _ _ (h1 t ht), fun t ht => va_Z.moved hvm (h2 t ht), vx_Zq.moved hvm h3, vx_Zq.moved hvm h4, va_Zq.moved hvm h5, h6.1, fun κ i h => arrOfT_moved hvm (h6.2 κ i h)⟩
def j_K2 (g : j_G) (U : State) : Prop := (∀ w ∈ defaultWords_1, va_Nw w U) ∧ (∀ t ∈ jdf, (Cond.landsInDefault t.1 ⟨t.1, t.2.1, t.2.2⟩ ⟨"TracePeaks$Numbers", t.2.1, t.2.2⟩).before #[] U = true ∧ va_Nw (Cond.declares ⟨"TracePeaks$Numbers", t.2.1, t.2.2⟩) U) ∧ (∀ t ∈ jlam, jl_ok ((jgD g).1 0) (jgM g t.1 t.2.1) (jgM g (100 + t.1) t.2.1) U t.2.2) ∧ (∀ x ∈ jlif, j_Fi x U) ∧ j_K3 g U
theorem j_dw_good : ∀ w ∈ defaultWords_1, goodWord w = true := by decide +kernel
theorem j_dw_on : ∀ w ∈ defaultWords_1, w.onTables = true := by decide +kernel
theorem j_K2_moved {g : j_G} {s U : State} (hvm : s.vm.Alike U.vm) (hw : ∀ w ∈ defaultWords_1, va_Nw w s → va_Nw w U) (hl : ∀ d cK a w, jl_ok d cK a s w → jl_ok d cK a U w) (hk : ∀ own k tx a, vk_R own k tx a s → vk_R own k tx a U) (h : j_K2 g s) : j_K2 g U := by
  obtain ⟨h1, h2, h3, h4, h5⟩ := h
  refine ⟨fun w hm => hw w hm (h1 w hm), fun t ht => ⟨?_, ?_⟩, fun t ht => hl _ _ _ _ (h3 t ht), fun x hx => (h4 x hx).moved (jlif_mh x hx) hvm, j_K3_moved hvm hk h5⟩
  · have e : (Cond.landsInDefault t.1 ⟨t.1, t.2.1, t.2.2⟩ ⟨"TracePeaks$Numbers", t.2.1, t.2.2⟩).before #[] (s.setVm U.vm) = true := (Cond.landsInDefault_setVm hvm (State.methodFound?_setVm hvm _ _ _)).trans (h2 t ht).1
    exact e
  · exact va_tabs rfl (rfl : (s.setVm U.vm).vm = U.vm) (by rw [Cond.declares_setVm hvm]; exact (h2 t ht).2)
def j_K (g : j_G) (U : State) : Prop := va_K (jgD g) jcl [] U ∧ (∀ t, t < 9 → ArrOfT U (jgA g t) (jty t) ∧ va_RA U (jgA g t) (jty t)) ∧ (∀ w ∈ jnl, va_Nw w U) ∧ (∀ t ∈ jfs_, va_Fw t.1 t.2.1 t.2.2 U) ∧ (∀ C, C ∈ [RX6, RX8, RX13, RX2, RX4, "java/lang/String"] → va_AO C U) ∧ (∀ t ∈ jsts, va_Z t.1 t.2.1 t.2.2.1 t.2.2.2 (fun q => jgb g ≤ q) U (jgH g)) ∧ j_K2 g U
theorem j_K_moved {g : j_G} {s U : State} (hW : s.WarmedH U.vm) (h : j_K g s) : j_K g U := by
  obtain ⟨h1, h2, h3, h4, h5, h6, h7⟩ := h
  refine ⟨va_K.moved hW.alike h1, fun t ht => ⟨arrOfT_moved hW.alike (h2 t ht).1, (h2 t ht).2.moved hW.alike⟩, fun w hw => j_nl_moved (List.mem_filter.mp hw).2 hW (h3 w hw), fun t ht => ?_, fun C hC => va_AO.moved hW.alike (h5 C hC), fun t ht => va_Z.moved hW.alike (h6 t ht), j_K2_moved hW.alike (fun w hw h => word_at hW (good_of_word (j_dw_good w hw)) h) (fun _ _ _ _ h => jl_ok.moved hW h) (fun _ _ _ _ h => vk_R.warm hW h) h7⟩
  refine va_Fw.moved ?_ hW.alike (h4 t ht)
  have : ∀ t ∈ jfs_, t.2.1.cls ≠ "java/lang/invoke/MethodHandle" ∧ t.2.1.cls ≠ "java/lang/invoke/VarHandle" := by decide +kernel
  exact this t ht
theorem j_K_vm {g : j_G} {s U : State} (hvm : s.vm = U.vm) (h : j_K g s) : j_K g U := by
  obtain ⟨h1, h2, h3, h4, h5, h6, h7⟩ := h
  have ha : s.vm.Alike U.vm := by rw [hvm]; exact Vm.Alike.refl _
  refine ⟨va_K.moved ha h1, fun t ht => ⟨arrOfT_moved ha (h2 t ht).1, (h2 t ht).2.moved ha⟩, fun w hw => va_Nw.same ?_ hvm (h3 w hw), fun t ht => ?_, fun C hC => va_AO.moved ha (h5 C hC), fun t ht => va_Z.moved ha (h6 t ht), j_K2_moved ha (fun w hw h => va_Nw.same (j_dw_on w hw) hvm h) (fun _ _ _ _ h => jl_ok.vm hvm h) (fun _ _ _ _ h => vk_R.same hvm.symm h) h7⟩
  · have := (List.mem_filter.mp hw).2
    cases w <;> first | rfl | (simp [jng] at this; done)
  · refine va_Fw.moved ?_ ha (h4 t ht)
    have : ∀ t ∈ jfs_, t.2.1.cls ≠ "java/lang/invoke/MethodHandle" ∧ t.2.1.cls ≠ "java/lang/invoke/VarHandle" := by decide +kernel
    exact this t ht
/-! an activation -/
abbrev j_X : Type := Program × Env × Room × State × MethodId × Array Value × List Frame × Method × Code
def jxR (x : j_X) : Room := x.2.2.1
def jxM (x : j_X) : Method := x.2.2.2.2.2.2.2.1
def j_W (g : j_G) (x : j_X) (H : Heap) (locs : List Loc) (cells slots : Nat) (Q : State → Prop) (pc : Nat) (ls : Array Slot) (st : List Value) : Prop :=
  W x.1 g.1 x.2.1 x.2.2.1 x.2.2.2.1 x.2.2.2.2.1 x.2.2.2.2.2.1 x.2.2.2.2.2.2.1 x.2.2.2.2.2.2.2.1 x.2.2.2.2.2.2.2.2 H locs cells slots Q (F0 x.2.2.2.2.1 pc ls st)
def j_C (cc : ByteArray) (nL : Nat) (own : String) (ret : Option FieldType) (rm : Room) (g : j_G) (x : j_X) : Prop :=
  x.1.tables.exec = Jvm.exec ∧ x.2.2.2.2.2.2.2.2.code = cc ∧ x.2.2.2.2.2.2.2.2.maxLocals = nL ∧ x.2.2.2.1.vm.findClass own = some x.2.2.2.2.1.cls ∧ (∀ w ∈ lw_all, w.before x.2.2.2.2.2.1 x.2.2.2.1 = true) ∧ j_K g x.2.2.2.1 ∧ x.2.2.2.2.2.2.2.1.locks = false ∧ x.2.2.2.2.2.2.2.1.sig.returnType = ret ∧ x.2.2.1 = rm
def J {α : Type} (g : j_G) (x : j_X) (nL : Nat) (B : j_B) (Q : α → j_St → State → Prop) (cells slots : Nat) (o : Option (α × j_St)) (pc : Nat) (lv : List (Nat × Value)) (st : List Value) (w : j_St) : Prop :=
  ∀ (r : α) (w' : j_St), o = some (r, w') → ∀ (H : Heap) (locs : List Loc) (ls : Array Slot), lv_has ls nL lv → j_R g B w H → (∀ q ∈ locs, jgb g ≤ q.base) → j_W g x H locs cells slots (Q r w') pc ls st
/-- a method's contract: from the store w it returns rv, the store is w' -/
def j_Pc (g : j_G) (B : j_B) (As : List Value) (w : j_St) : Array Value → State → Prop := fun a U => a = As.toArray ∧ j_R g B w U.heap ∧ j_K g U
def j_Qr (g : j_G) (B : j_B) (rv : Option Value) (w' : j_St) : Array Value → State → Outcome → State → Prop := fun _ _ o t => o = .returned rv ∧ j_R g B w' t.heap
def j_fr (g : j_G) : Addr → Prop := fun q => jgb g ≤ q
def j_M (g : j_G) (y : MethodName) (cc : ByteArray) (nL : Nat) (ret : Option FieldType) (rm : Room) (B : j_B) (As : List Value) (w w' : j_St) (rv : Option Value) : Prop :=
  Met g.1 y (ws_ y cc nL ret) rm (j_Pc g B As w) (j_Qr g B rv w') rm.cells rm.slots (j_fr g)
def j_Q {α : Type} (g : j_G) (x : j_X) (B : j_B) (rm : Room) (rv : α → Option Value) : α → j_St → State → Prop := fun r w' => MQ x.2.2.2.2.2.2.1 (j_Qr g B (rv r) w') x.2.2.2.2.2.1 x.2.2.2.1 rm.cells rm.slots (j_fr g)
def jri (v : Int32) : Option Value := some (.int v)
def jrl (v : Int64) : Option Value := some (.long v)
def jrv (_ : Unit) : Option Value := none
def jrr (B : j_B) (κ : Nat) (q : Nat) : Option Value := some (.ref (B.1 κ q))
def jro_ (B : j_B) (κ : Nat) (q : Option Nat) : Option Value := some (va_re (B.1 κ) q)
theorem j_met {α : Type} {g : j_G} {y : MethodName} {cc : ByteArray} {nL : Nat} {ret : Option FieldType} {rm : Room} {B : j_B} {As : List Value} {w : j_St} {rv : α → Option Value} {o : Option (α × j_St)}
    (hy : plainName y.cls = true) (hn : (lg_sl As).length ≤ nL)
    (body : ∀ x : j_X, j_C cc nL y.cls ret rm g x → J g x nL B (j_Q g x B rm rv) 0 0 o 0 (lv_args 0 As) [] w) {r : α} {w' : j_St} (ho : o = some (r, w')) : j_M g y cc nL ret rm B As w w' (rv r) := by
  refine Met.ofW (cc := cc) (maxL := nL) (ret := ret) hy rfl ?_
  intro p e s m args below meth c s₁ BL hml hv
  obtain ⟨rfl, hR, hK⟩ := hv
  have hts := atoms_spec (ws := ws_ y cc nL ret) BL.pre
  have hts : ∀ w ∈ lw_all, w.before _ s = true := fun w h => hts w (List.mem_cons_of_mem _ h)
  have hown : s.vm.findClass y.cls = some m.cls := findClass_of_methodNamed BL.named
  have k := body (p, e, rm, s, m, As.toArray, below, meth, c) ⟨BL.exec, BL.bytes, hml, hown, hts, hK, BL.notSynchronized, BL.returns, rfl⟩ r w' ho s.heap [] _ (lv_entry As hn) hR (fun q h => by cases h)
  rw [lg_entry_eq]
  exact k
section JR
variable {α β : Type} {g : j_G} {x : j_X} {cc : ByteArray} {nL : Nat} {own : String} {ret : Option FieldType} {rm : Room} {B : j_B} {Q : α → j_St → State → Prop} {cells slots : Nat} {o o1 o2 : Option (α × j_St)} {pc : Nat} {lv lv' : List (Nat × Value)} {st : List Value} {w : j_St}
theorem J.nne : J g x nL B Q cells slots none pc lv st w := fun r w' h => by cases h
theorem J.sub (ks : List Nat) (hl : lv_pick lv ks = lv') (k : J g x nL B Q cells slots o pc lv' st w) : J g x nL B Q cells slots o pc lv st w := fun r w' ho H locs ls h hR hq => k r w' ho H locs ls (lv_sub h ks hl) hR hq
theorem J.lt {a : β} {f : β → Option (α × j_St)} (k : J g x nL B Q cells slots (f a) pc lv st w) : J g x nL B Q cells slots (jlt a f) pc lv st w := k
theorem J.widen {k n : Nat} (h1 : cells ≤ k) (h2 : slots ≤ n) (kk : J g x nL B Q k n o pc lv st w) : J g x nL B Q cells slots o pc lv st w := fun r w' ho H locs ls h hR hq => W.widen h1 h2 (kk r w' ho H locs ls h hR hq)
/-- a value on top gets a name -/
theorem J.nmi {a : Int32} {f : Int32 → Option (α × j_St)} (k : ∀ v : Int32, J g x nL B Q cells slots (f v) pc lv (.int v :: st) w) : J g x nL B Q cells slots (jlt a f) pc lv (.int a :: st) w := k a
theorem J.nml {a : Int64} {f : Int64 → Option (α × j_St)} (k : ∀ v : Int64, J g x nL B Q cells slots (f v) pc lv (.long v :: st) w) : J g x nL B Q cells slots (jlt a f) pc lv (.long a :: st) w := k a
theorem J.nmw {w1 : j_St} {f : j_St → Option (α × j_St)} (k : ∀ w2 : j_St, J g x nL B Q cells slots (f w2) pc lv st w2) : J g x nL B Q cells slots (jlt w1 f) pc lv st w1 := k w1
/-- a reference on top is used -/
theorem J.ob {κ : Nat} {a : Option Nat} {f : Nat → Option (α × j_St)} (k : ∀ q : Nat, a = some q → J g x nL B Q cells slots (f q) pc lv (.ref (B.1 κ q) :: st) w) : J g x nL B Q cells slots (job a f) pc lv (va_re (B.1 κ) a :: st) w := by
  cases a with
  | none => exact J.nne
  | some q => exact k q rfl
theorem J.obU {a : Option Nat} {f : Nat → Option (α × j_St)} (k : ∀ q : Nat, a = some q → J g x nL B Q cells slots (f q) pc lv st w) : J g x nL B Q cells slots (job a f) pc lv st w := by
  cases a with
  | none => exact J.nne
  | some q => exact k q rfl
theorem J.iconst (hx : j_C cc nL own ret rm g x) {n : Int} {v : Int32} (d : decode cc pc = .ok (.iconst n, 1)) (hv : Int32.ofInt n = v) (k : J g x nL B Q cells slots o (pc + 1) lv (.int v :: st) w) : J g x nL B Q cells slots o pc lv st w := fun r w' ho H locs ls h hR hq => lv_iconst hx.1 hx.2.1 d hv (k r w' ho H locs ls h hR hq)
theorem J.bipush (hx : j_C cc nL own ret rm g x) {n : Int} {v : Int32} (d : decode cc pc = .ok (.bipush n, 2)) (hv : (Int8.ofInt n).toInt32 = v) (k : J g x nL B Q cells slots o (pc + 2) lv (.int v :: st) w) : J g x nL B Q cells slots o pc lv st w := fun r w' ho H locs ls h hR hq => lv_bipush hx.1 hx.2.1 d hv (k r w' ho H locs ls h hR hq)
theorem J.sipush (hx : j_C cc nL own ret rm g x) {n : Int} {v : Int32} (d : decode cc pc = .ok (.sipush n, 3)) (hv : (Int16.ofInt n).toInt32 = v) (k : J g x nL B Q cells slots o (pc + 3) lv (.int v :: st) w) : J g x nL B Q cells slots o pc lv st w := fun r w' ho H locs ls h hR hq => lv_sipush hx.1 hx.2.1 d hv (k r w' ho H locs ls h hR hq)
theorem J.lconst (hx : j_C cc nL own ret rm g x) {n : Fin 2} {v : Int64} (d : decode cc pc = .ok (.lconst n, 1)) (hv : Int64.ofNat (n : Nat) = v) (k : J g x nL B Q cells slots o (pc + 1) lv (.long v :: st) w) : J g x nL B Q cells slots o pc lv st w := fun r w' ho H locs ls h hR hq => lv_lconst hx.1 hx.2.1 d hv (k r w' ho H locs ls h hR hq)
theorem J.ldc (hx : j_C cc nL own ret rm g x) {index : Nat} {v : Int32} (q : Cond.constant own index v ∈ lw_all) (d : decode cc pc = .ok (.ldc index, 2)) (k : J g x nL B Q cells slots o (pc + 2) lv (.int v :: st) w) : J g x nL B Q cells slots o pc lv st w := fun r w' ho H locs ls h hR hq => lv_ldc hx.1 hx.2.1 hx.2.2.2.1 (hx.2.2.2.2.1 _ q) d (k r w' ho H locs ls h hR hq)
theorem J.ldc2 (hx : j_C cc nL own ret rm g x) {index : Nat} {v : Int64} (q : Cond.constantLong own index v ∈ lw_all) (d : decode cc pc = .ok (.ldc2_w index, 3)) (k : J g x nL B Q cells slots o (pc + 3) lv (.long v :: st) w) : J g x nL B Q cells slots o pc lv st w := fun r w' ho H locs ls h hR hq => lv_ldc2 hx.1 hx.2.1 hx.2.2.2.1 (hx.2.2.2.2.1 _ q) d (k r w' ho H locs ls h hR hq)
theorem J.iload_n (hx : j_C cc nL own ret rm g x) {k : Fin 4} {i : Nat} {v : Int32} (d : decode cc pc = .ok (.iload_n k, 1)) (hi : (k : Nat) = i) (p : Nat) (hp : lv[p]? = some (i, .int v)) (kk : J g x nL B Q cells slots o (pc + 1) lv (.int v :: st) w) : J g x nL B Q cells slots o pc lv st w := fun r w' ho H locs ls h hR hq => lv_iload_n hx.1 hx.2.1 d hi (lv_at h p hp) (kk r w' ho H locs ls h hR hq)
theorem J.iload (hx : j_C cc nL own ret rm g x) {i : Nat} {v : Int32} (d : decode cc pc = .ok (.iload i, 2)) (p : Nat) (hp : lv[p]? = some (i, .int v)) (kk : J g x nL B Q cells slots o (pc + 2) lv (.int v :: st) w) : J g x nL B Q cells slots o pc lv st w := fun r w' ho H locs ls h hR hq => lv_iload hx.1 hx.2.1 d (lv_at h p hp) (kk r w' ho H locs ls h hR hq)
theorem J.lload_n (hx : j_C cc nL own ret rm g x) {k : Fin 4} {i : Nat} {v : Int64} (d : decode cc pc = .ok (.lload_n k, 1)) (hi : (k : Nat) = i) (p : Nat) (hp : lv[p]? = some (i, .long v)) (kk : J g x nL B Q cells slots o (pc + 1) lv (.long v :: st) w) : J g x nL B Q cells slots o pc lv st w := fun r w' ho H locs ls h hR hq => lv_lload_n hx.1 hx.2.1 d hi (lv_at h p hp) (kk r w' ho H locs ls h hR hq)
theorem J.lload (hx : j_C cc nL own ret rm g x) {i : Nat} {v : Int64} (d : decode cc pc = .ok (.lload i, 2)) (p : Nat) (hp : lv[p]? = some (i, .long v)) (kk : J g x nL B Q cells slots o (pc + 2) lv (.long v :: st) w) : J g x nL B Q cells slots o pc lv st w := fun r w' ho H locs ls h hR hq => lv_lload hx.1 hx.2.1 d (lv_at h p hp) (kk r w' ho H locs ls h hR hq)
theorem J.aload_n (hx : j_C cc nL own ret rm g x) {k : Fin 4} {i : Nat} {v : Nat} (d : decode cc pc = .ok (.aload_n k, 1)) (hi : (k : Nat) = i) (p : Nat) (hp : lv[p]? = some (i, .ref v)) (kk : J g x nL B Q cells slots o (pc + 1) lv (.ref v :: st) w) : J g x nL B Q cells slots o pc lv st w := fun r w' ho H locs ls h hR hq => lv_aload_n hx.1 hx.2.1 d hi (lv_at h p hp) (kk r w' ho H locs ls h hR hq)
theorem J.aload (hx : j_C cc nL own ret rm g x) {i : Nat} {v : Nat} (d : decode cc pc = .ok (.aload i, 2)) (p : Nat) (hp : lv[p]? = some (i, .ref v)) (kk : J g x nL B Q cells slots o (pc + 2) lv (.ref v :: st) w) : J g x nL B Q cells slots o pc lv st w := fun r w' ho H locs ls h hR hq => lv_aload hx.1 hx.2.1 d (lv_at h p hp) (kk r w' ho H locs ls h hR hq)
theorem J.aload_nq (hx : j_C cc nL own ret rm g x) {k : Fin 4} {i : Nat} {ad : Nat → Nat} {v : Option Nat} (d : decode cc pc = .ok (.aload_n k, 1)) (hi : (k : Nat) = i) (p : Nat) (hp : lv[p]? = some (i, va_re ad v)) (kk : J g x nL B Q cells slots o (pc + 1) lv (va_re ad v :: st) w) : J g x nL B Q cells slots o pc lv st w := fun r w' ho H locs ls h hR hq => by
  cases v with
  | none => exact lv_aload_nN hx.1 hx.2.1 d hi (lv_at h p hp) (kk r w' ho H locs ls h hR hq)
  | some v => exact lv_aload_n hx.1 hx.2.1 d hi (lv_at h p hp) (kk r w' ho H locs ls h hR hq)
theorem J.aloadq (hx : j_C cc nL own ret rm g x) {i : Nat} {ad : Nat → Nat} {v : Option Nat} (d : decode cc pc = .ok (.aload i, 2)) (p : Nat) (hp : lv[p]? = some (i, va_re ad v)) (kk : J g x nL B Q cells slots o (pc + 2) lv (va_re ad v :: st) w) : J g x nL B Q cells slots o pc lv st w := fun r w' ho H locs ls h hR hq => by
  cases v with
  | none => exact lv_aloadN hx.1 hx.2.1 d (lv_at h p hp) (kk r w' ho H locs ls h hR hq)
  | some v => exact lv_aload hx.1 hx.2.1 d (lv_at h p hp) (kk r w' ho H locs ls h hR hq)
theorem J.istore_n (hx : j_C cc nL own ret rm g x) {k : Fin 4} {i : Nat} {v : Int32} (d : decode cc pc = .ok (.istore_n k, 1)) (hi : (k : Nat) = i) (hn : i < nL) (hl : (i, Value.int v) :: lv.filter (fun q => !(q.1 == i) && !(q.1 + 1 == i && q.2.category == 2)) = lv') (kk : J g x nL B Q cells slots o (pc + 1) lv' st w) : J g x nL B Q cells slots o pc lv (.int v :: st) w := fun r w' ho H locs ls h hR hq => lv_istore_n hx.1 hx.2.1 d hi h hn hl fun ls' h' => kk r w' ho H locs ls' h' hR hq
theorem J.istore (hx : j_C cc nL own ret rm g x) {i : Nat} {v : Int32} (d : decode cc pc = .ok (.istore i, 2)) (hn : i < nL) (hl : (i, Value.int v) :: lv.filter (fun q => !(q.1 == i) && !(q.1 + 1 == i && q.2.category == 2)) = lv') (kk : J g x nL B Q cells slots o (pc + 2) lv' st w) : J g x nL B Q cells slots o pc lv (.int v :: st) w := fun r w' ho H locs ls h hR hq => lv_istore hx.1 hx.2.1 d h hn hl fun ls' h' => kk r w' ho H locs ls' h' hR hq
theorem J.lstore_n (hx : j_C cc nL own ret rm g x) {k : Fin 4} {i : Nat} {v : Int64} (d : decode cc pc = .ok (.lstore_n k, 1)) (hi : (k : Nat) = i) (hn : i + 1 < nL) (hl : (i, Value.long v) :: lv.filter (fun q => !(q.1 == i) && (!(q.1 == i + 1) && !(q.1 + 1 == i && q.2.category == 2))) = lv') (kk : J g x nL B Q cells slots o (pc + 1) lv' st w) : J g x nL B Q cells slots o pc lv (.long v :: st) w := fun r w' ho H locs ls h hR hq => lv_lstore_n hx.1 hx.2.1 d hi h hn hl fun ls' h' => kk r w' ho H locs ls' h' hR hq
theorem J.lstore (hx : j_C cc nL own ret rm g x) {i : Nat} {v : Int64} (d : decode cc pc = .ok (.lstore i, 2)) (hn : i + 1 < nL) (hl : (i, Value.long v) :: lv.filter (fun q => !(q.1 == i) && (!(q.1 == i + 1) && !(q.1 + 1 == i && q.2.category == 2))) = lv') (kk : J g x nL B Q cells slots o (pc + 2) lv' st w) : J g x nL B Q cells slots o pc lv (.long v :: st) w := fun r w' ho H locs ls h hR hq => lv_lstore hx.1 hx.2.1 d h hn hl fun ls' h' => kk r w' ho H locs ls' h' hR hq
theorem J.astore_n (hx : j_C cc nL own ret rm g x) {k : Fin 4} {i : Nat} {v : Nat} (d : decode cc pc = .ok (.astore_n k, 1)) (hi : (k : Nat) = i) (hn : i < nL) (hl : (i, Value.ref v) :: lv.filter (fun q => !(q.1 == i) && !(q.1 + 1 == i && q.2.category == 2)) = lv') (kk : J g x nL B Q cells slots o (pc + 1) lv' st w) : J g x nL B Q cells slots o pc lv (.ref v :: st) w := fun r w' ho H locs ls h hR hq => lv_astore_n hx.1 hx.2.1 d hi h hn hl fun ls' h' => kk r w' ho H locs ls' h' hR hq
theorem J.astore (hx : j_C cc nL own ret rm g x) {i : Nat} {v : Nat} (d : decode cc pc = .ok (.astore i, 2)) (hn : i < nL) (hl : (i, Value.ref v) :: lv.filter (fun q => !(q.1 == i) && !(q.1 + 1 == i && q.2.category == 2)) = lv') (kk : J g x nL B Q cells slots o (pc + 2) lv' st w) : J g x nL B Q cells slots o pc lv (.ref v :: st) w := fun r w' ho H locs ls h hR hq => lv_astore hx.1 hx.2.1 d h hn hl fun ls' h' => kk r w' ho H locs ls' h' hR hq
theorem J.astore_nq (hx : j_C cc nL own ret rm g x) {k : Fin 4} {i : Nat} {ad : Nat → Nat} {v : Option Nat} (d : decode cc pc = .ok (.astore_n k, 1)) (hi : (k : Nat) = i) (hn : i < nL) (hl : (i, va_re ad v) :: lv.filter (fun q => !(q.1 == i) && !(q.1 + 1 == i && q.2.category == 2)) = lv') (kk : J g x nL B Q cells slots o (pc + 1) lv' st w) : J g x nL B Q cells slots o pc lv (va_re ad v :: st) w := fun r w' ho H locs ls h hR hq => by
  cases v with
  | none => exact lv_astore_nN hx.1 hx.2.1 d hi h hn hl fun ls' h' => kk r w' ho H locs ls' h' hR hq
  | some v => exact lv_astore_n hx.1 hx.2.1 d hi h hn hl fun ls' h' => kk r w' ho H locs ls' h' hR hq
theorem J.astoreq (hx : j_C cc nL own ret rm g x) {i : Nat} {ad : Nat → Nat} {v : Option Nat} (d : decode cc pc = .ok (.astore i, 2)) (hn : i < nL) (hl : (i, va_re ad v) :: lv.filter (fun q => !(q.1 == i) && !(q.1 + 1 == i && q.2.category == 2)) = lv') (kk : J g x nL B Q cells slots o (pc + 2) lv' st w) : J g x nL B Q cells slots o pc lv (va_re ad v :: st) w := fun r w' ho H locs ls h hR hq => by
  cases v with
  | none => exact lv_astoreN hx.1 hx.2.1 d h hn hl fun ls' h' => kk r w' ho H locs ls' h' hR hq
  | some v => exact lv_astore hx.1 hx.2.1 d h hn hl fun ls' h' => kk r w' ho H locs ls' h' hR hq
theorem J.iinc (hx : j_C cc nL own ret rm g x) {i p : Nat} {n : Int} {y v : Int32} (d : decode cc pc = .ok (.iinc i n, 3)) (hp : lv[p]? = some (i, .int y)) (hv : y + Int32.ofInt n = v) (hn : i < nL) (hl : (i, Value.int v) :: lv.filter (fun q => !(q.1 == i) && !(q.1 + 1 == i && q.2.category == 2)) = lv') (kk : J g x nL B Q cells slots o (pc + 3) lv' st w) : J g x nL B Q cells slots o pc lv st w := fun r w' ho H locs ls h hR hq => lv_iinc hx.1 hx.2.1 d h hp hv hn hl fun ls' h' => kk r w' ho H locs ls' h' hR hq
theorem J.null (hx : j_C cc nL own ret rm g x) {ad : Nat → Nat} (d : decode cc pc = .ok (.aconst_null, 1)) (k : J g x nL B Q cells slots o (pc + 1) lv (va_re ad none :: st) w) : J g x nL B Q cells slots o pc lv st w := fun r w' ho H locs ls h hR hq => lv_null hx.1 hx.2.1 d (k r w' ho H locs ls h hR hq)
theorem J.goto (hx : j_C cc nL own ret rm g x) {off : Int} {tgt : Nat} (d : decode cc pc = .ok (.goto off, 3)) (ht : (pc : Int) + off = (tgt : Int)) (k : J g x nL B Q cells slots o tgt lv st w) : J g x nL B Q cells slots o pc lv st w := fun r w' ho H locs ls h hR hq => lv_goto hx.1 hx.2.1 d ht (k r w' ho H locs ls h hR hq)
theorem J.iadd (hx : j_C cc nL own ret rm g x) {a b : Int32} (d : decode cc pc = .ok (.iadd, 1)) (k : J g x nL B Q cells slots o (pc + 1) lv (.int (a + b) :: st) w) : J g x nL B Q cells slots o pc lv (.int b :: .int a :: st) w := fun r w' ho H locs ls h hR hq => lv_iadd hx.1 hx.2.1 d (k r w' ho H locs ls h hR hq)
theorem J.isub (hx : j_C cc nL own ret rm g x) {a b : Int32} (d : decode cc pc = .ok (.isub, 1)) (k : J g x nL B Q cells slots o (pc + 1) lv (.int (a - b) :: st) w) : J g x nL B Q cells slots o pc lv (.int b :: .int a :: st) w := fun r w' ho H locs ls h hR hq => lv_isub hx.1 hx.2.1 d (k r w' ho H locs ls h hR hq)
theorem J.imul (hx : j_C cc nL own ret rm g x) {a b : Int32} (d : decode cc pc = .ok (.imul, 1)) (k : J g x nL B Q cells slots o (pc + 1) lv (.int (a * b) :: st) w) : J g x nL B Q cells slots o pc lv (.int b :: .int a :: st) w := fun r w' ho H locs ls h hR hq => lv_imul hx.1 hx.2.1 d (k r w' ho H locs ls h hR hq)
theorem J.iand (hx : j_C cc nL own ret rm g x) {a b : Int32} (d : decode cc pc = .ok (.iand, 1)) (k : J g x nL B Q cells slots o (pc + 1) lv (.int (a &&& b) :: st) w) : J g x nL B Q cells slots o pc lv (.int b :: .int a :: st) w := fun r w' ho H locs ls h hR hq => lv_iand hx.1 hx.2.1 d (k r w' ho H locs ls h hR hq)
theorem J.ior (hx : j_C cc nL own ret rm g x) {a b : Int32} (d : decode cc pc = .ok (.ior, 1)) (k : J g x nL B Q cells slots o (pc + 1) lv (.int (a ||| b) :: st) w) : J g x nL B Q cells slots o pc lv (.int b :: .int a :: st) w := fun r w' ho H locs ls h hR hq => lv_ior hx.1 hx.2.1 d (k r w' ho H locs ls h hR hq)
theorem J.ixor (hx : j_C cc nL own ret rm g x) {a b : Int32} (d : decode cc pc = .ok (.ixor, 1)) (k : J g x nL B Q cells slots o (pc + 1) lv (.int (a ^^^ b) :: st) w) : J g x nL B Q cells slots o pc lv (.int b :: .int a :: st) w := fun r w' ho H locs ls h hR hq => lv_ixor hx.1 hx.2.1 d (k r w' ho H locs ls h hR hq)
theorem J.ladd (hx : j_C cc nL own ret rm g x) {a b : Int64} (d : decode cc pc = .ok (.ladd, 1)) (k : J g x nL B Q cells slots o (pc + 1) lv (.long (a + b) :: st) w) : J g x nL B Q cells slots o pc lv (.long b :: .long a :: st) w := fun r w' ho H locs ls h hR hq => lv_ladd hx.1 hx.2.1 d (k r w' ho H locs ls h hR hq)
theorem J.lsub (hx : j_C cc nL own ret rm g x) {a b : Int64} (d : decode cc pc = .ok (.lsub, 1)) (k : J g x nL B Q cells slots o (pc + 1) lv (.long (a - b) :: st) w) : J g x nL B Q cells slots o pc lv (.long b :: .long a :: st) w := fun r w' ho H locs ls h hR hq => lv_lsub hx.1 hx.2.1 d (k r w' ho H locs ls h hR hq)
theorem J.lmul (hx : j_C cc nL own ret rm g x) {a b : Int64} (d : decode cc pc = .ok (.lmul, 1)) (k : J g x nL B Q cells slots o (pc + 1) lv (.long (a * b) :: st) w) : J g x nL B Q cells slots o pc lv (.long b :: .long a :: st) w := fun r w' ho H locs ls h hR hq => lv_lmul hx.1 hx.2.1 d (k r w' ho H locs ls h hR hq)
theorem J.land (hx : j_C cc nL own ret rm g x) {a b : Int64} (d : decode cc pc = .ok (.land, 1)) (k : J g x nL B Q cells slots o (pc + 1) lv (.long (a &&& b) :: st) w) : J g x nL B Q cells slots o pc lv (.long b :: .long a :: st) w := fun r w' ho H locs ls h hR hq => lv_land hx.1 hx.2.1 d (k r w' ho H locs ls h hR hq)
theorem J.lor (hx : j_C cc nL own ret rm g x) {a b : Int64} (d : decode cc pc = .ok (.lor, 1)) (k : J g x nL B Q cells slots o (pc + 1) lv (.long (a ||| b) :: st) w) : J g x nL B Q cells slots o pc lv (.long b :: .long a :: st) w := fun r w' ho H locs ls h hR hq => lv_lor hx.1 hx.2.1 d (k r w' ho H locs ls h hR hq)
theorem J.lxor (hx : j_C cc nL own ret rm g x) {a b : Int64} (d : decode cc pc = .ok (.lxor, 1)) (k : J g x nL B Q cells slots o (pc + 1) lv (.long (a ^^^ b) :: st) w) : J g x nL B Q cells slots o pc lv (.long b :: .long a :: st) w := fun r w' ho H locs ls h hR hq => lv_lxor hx.1 hx.2.1 d (k r w' ho H locs ls h hR hq)
theorem J.idiv (hx : j_C cc nL own ret rm g x) {a b : Int32} (d : decode cc pc = .ok (.idiv, 1)) (k : J g x nL B Q cells slots o (pc + 1) lv (.int (a / b) :: st) w) : J g x nL B Q cells slots (if b = 0 then none else o) pc lv (.int b :: .int a :: st) w := by
  by_cases hb0 : b = 0
  · rw [if_pos hb0]; exact J.nne
  · rw [if_neg hb0]; exact fun r w' ho H locs ls h hR hq => lv_idiv hx.1 hx.2.1 d hb0 (k r w' ho H locs ls h hR hq)
theorem J.irem (hx : j_C cc nL own ret rm g x) {a b : Int32} (d : decode cc pc = .ok (.irem, 1)) (k : J g x nL B Q cells slots o (pc + 1) lv (.int (a - a / b * b) :: st) w) : J g x nL B Q cells slots (if b = 0 then none else o) pc lv (.int b :: .int a :: st) w := by
  by_cases hb0 : b = 0
  · rw [if_pos hb0]; exact J.nne
  · rw [if_neg hb0]; exact fun r w' ho H locs ls h hR hq => lv_irem hx.1 hx.2.1 d hb0 (k r w' ho H locs ls h hR hq)
theorem J.ldiv (hx : j_C cc nL own ret rm g x) {a b : Int64} (d : decode cc pc = .ok (.ldiv, 1)) (k : J g x nL B Q cells slots o (pc + 1) lv (.long (a / b) :: st) w) : J g x nL B Q cells slots (if b = 0 then none else o) pc lv (.long b :: .long a :: st) w := by
  by_cases hb0 : b = 0
  · rw [if_pos hb0]; exact J.nne
  · rw [if_neg hb0]; exact fun r w' ho H locs ls h hR hq => lv_ldiv hx.1 hx.2.1 d hb0 (k r w' ho H locs ls h hR hq)
theorem J.lrem (hx : j_C cc nL own ret rm g x) {a b : Int64} (d : decode cc pc = .ok (.lrem, 1)) (k : J g x nL B Q cells slots o (pc + 1) lv (.long (a - a / b * b) :: st) w) : J g x nL B Q cells slots (if b = 0 then none else o) pc lv (.long b :: .long a :: st) w := by
  by_cases hb0 : b = 0
  · rw [if_pos hb0]; exact J.nne
  · rw [if_neg hb0]; exact fun r w' ho H locs ls h hR hq => lv_lrem hx.1 hx.2.1 d hb0 (k r w' ho H locs ls h hR hq)
theorem J.ineg (hx : j_C cc nL own ret rm g x) {a : Int32} (d : decode cc pc = .ok (.ineg, 1)) (k : J g x nL B Q cells slots o (pc + 1) lv (.int (-a) :: st) w) : J g x nL B Q cells slots o pc lv (.int a :: st) w := fun r w' ho H locs ls h hR hq => lv_ineg hx.1 hx.2.1 d (k r w' ho H locs ls h hR hq)
theorem J.lneg (hx : j_C cc nL own ret rm g x) {a : Int64} (d : decode cc pc = .ok (.lneg, 1)) (k : J g x nL B Q cells slots o (pc + 1) lv (.long (-a) :: st) w) : J g x nL B Q cells slots o pc lv (.long a :: st) w := fun r w' ho H locs ls h hR hq => lv_lneg hx.1 hx.2.1 d (k r w' ho H locs ls h hR hq)
theorem J.i2l (hx : j_C cc nL own ret rm g x) {a : Int32} (d : decode cc pc = .ok (.i2l, 1)) (k : J g x nL B Q cells slots o (pc + 1) lv (.long (a.toInt64) :: st) w) : J g x nL B Q cells slots o pc lv (.int a :: st) w := fun r w' ho H locs ls h hR hq => lv_i2l hx.1 hx.2.1 d rfl (k r w' ho H locs ls h hR hq)
theorem J.l2i (hx : j_C cc nL own ret rm g x) {a : Int64} (d : decode cc pc = .ok (.l2i, 1)) (k : J g x nL B Q cells slots o (pc + 1) lv (.int (a.toInt32) :: st) w) : J g x nL B Q cells slots o pc lv (.long a :: st) w := fun r w' ho H locs ls h hR hq => lv_l2i hx.1 hx.2.1 d rfl (k r w' ho H locs ls h hR hq)
theorem J.i2b (hx : j_C cc nL own ret rm g x) {a : Int32} (d : decode cc pc = .ok (.i2b, 1)) (k : J g x nL B Q cells slots o (pc + 1) lv (.int (a.toInt8.toInt32) :: st) w) : J g x nL B Q cells slots o pc lv (.int a :: st) w := fun r w' ho H locs ls h hR hq => lv_i2b hx.1 hx.2.1 d rfl (k r w' ho H locs ls h hR hq)
theorem J.i2s (hx : j_C cc nL own ret rm g x) {a : Int32} (d : decode cc pc = .ok (.i2s, 1)) (k : J g x nL B Q cells slots o (pc + 1) lv (.int (a.toInt16.toInt32) :: st) w) : J g x nL B Q cells slots o pc lv (.int a :: st) w := fun r w' ho H locs ls h hR hq => lv_i2s hx.1 hx.2.1 d rfl (k r w' ho H locs ls h hR hq)
theorem J.i2c (hx : j_C cc nL own ret rm g x) {a : Int32} (d : decode cc pc = .ok (.i2c, 1)) (k : J g x nL B Q cells slots o (pc + 1) lv (.int ((a.toUInt32 % 65536).toInt32) :: st) w) : J g x nL B Q cells slots o pc lv (.int a :: st) w := fun r w' ho H locs ls h hR hq => lv_i2c hx.1 hx.2.1 d rfl (k r w' ho H locs ls h hR hq)
theorem J.ishl (hx : j_C cc nL own ret rm g x) {a : Int32} {b : Int32} (d : decode cc pc = .ok (.ishl, 1)) (k : J g x nL B Q cells slots o (pc + 1) lv (.int (a <<< (b &&& 31)) :: st) w) : J g x nL B Q cells slots o pc lv (.int b :: .int a :: st) w := fun r w' ho H locs ls h hR hq => lv_ishl hx.1 hx.2.1 d (k r w' ho H locs ls h hR hq)
theorem J.ishr (hx : j_C cc nL own ret rm g x) {a : Int32} {b : Int32} (d : decode cc pc = .ok (.ishr, 1)) (k : J g x nL B Q cells slots o (pc + 1) lv (.int (a >>> (b &&& 31)) :: st) w) : J g x nL B Q cells slots o pc lv (.int b :: .int a :: st) w := fun r w' ho H locs ls h hR hq => lv_ishr hx.1 hx.2.1 d (k r w' ho H locs ls h hR hq)
theorem J.iushr (hx : j_C cc nL own ret rm g x) {a : Int32} {b : Int32} (d : decode cc pc = .ok (.iushr, 1)) (k : J g x nL B Q cells slots o (pc + 1) lv (.int ((a.toUInt32 >>> (b.toUInt32 &&& Int32.toUInt32 31)).toInt32) :: st) w) : J g x nL B Q cells slots o pc lv (.int b :: .int a :: st) w := fun r w' ho H locs ls h hR hq => lv_iushr hx.1 hx.2.1 d rfl (k r w' ho H locs ls h hR hq)
theorem J.lshl (hx : j_C cc nL own ret rm g x) {a : Int64} {b : Int32} (d : decode cc pc = .ok (.lshl, 1)) (k : J g x nL B Q cells slots o (pc + 1) lv (.long (a <<< (b.toInt64 &&& 63)) :: st) w) : J g x nL B Q cells slots o pc lv (.int b :: .long a :: st) w := fun r w' ho H locs ls h hR hq => lv_lshl hx.1 hx.2.1 d rfl (k r w' ho H locs ls h hR hq)
theorem J.lshr (hx : j_C cc nL own ret rm g x) {a : Int64} {b : Int32} (d : decode cc pc = .ok (.lshr, 1)) (k : J g x nL B Q cells slots o (pc + 1) lv (.long (a >>> (b.toInt64 &&& 63)) :: st) w) : J g x nL B Q cells slots o pc lv (.int b :: .long a :: st) w := fun r w' ho H locs ls h hR hq => lv_lshr hx.1 hx.2.1 d rfl (k r w' ho H locs ls h hR hq)
theorem J.lushr (hx : j_C cc nL own ret rm g x) {a : Int64} {b : Int32} (d : decode cc pc = .ok (.lushr, 1)) (k : J g x nL B Q cells slots o (pc + 1) lv (.long ((a.toUInt64 >>> (b.toInt64.toUInt64 &&& Int64.toUInt64 63)).toInt64) :: st) w) : J g x nL B Q cells slots o pc lv (.int b :: .long a :: st) w := fun r w' ho H locs ls h hR hq => lv_lushr hx.1 hx.2.1 d rfl (k r w' ho H locs ls h hR hq)
theorem J.dup (hx : j_C cc nL own ret rm g x) {va : Value} (d : decode cc pc = .ok (.dup, 1)) (hva : va.category = 1) (k : J g x nL B Q cells slots o (pc + 1) lv (va :: va :: st) w) : J g x nL B Q cells slots o pc lv (va :: st) w := fun r w' ho H locs ls h hR hq => lv_dup hx.1 hx.2.1 d hva (k r w' ho H locs ls h hR hq)
theorem J.pop (hx : j_C cc nL own ret rm g x) {va : Value} (d : decode cc pc = .ok (.pop, 1)) (hva : va.category = 1) (k : J g x nL B Q cells slots o (pc + 1) lv st w) : J g x nL B Q cells slots o pc lv (va :: st) w := fun r w' ho H locs ls h hR hq => lv_pop hx.1 hx.2.1 d hva (k r w' ho H locs ls h hR hq)
theorem J.dup_x1 (hx : j_C cc nL own ret rm g x) {va vb : Value} (d : decode cc pc = .ok (.dup_x1, 1)) (hva : va.category = 1) (hvb : vb.category = 1) (k : J g x nL B Q cells slots o (pc + 1) lv (va :: vb :: va :: st) w) : J g x nL B Q cells slots o pc lv (va :: vb :: st) w := fun r w' ho H locs ls h hR hq => lv_dup_x1 hx.1 hx.2.1 d hva hvb (k r w' ho H locs ls h hR hq)
theorem J.dup_x2 (hx : j_C cc nL own ret rm g x) {va vb vd : Value} (d : decode cc pc = .ok (.dup_x2, 1)) (hva : va.category = 1) (hvb : vb.category = 1) (hvd : vd.category = 1) (k : J g x nL B Q cells slots o (pc + 1) lv (va :: vb :: vd :: va :: st) w) : J g x nL B Q cells slots o pc lv (va :: vb :: vd :: st) w := fun r w' ho H locs ls h hR hq => lv_dup_x2 hx.1 hx.2.1 d hva hvb hvd (k r w' ho H locs ls h hR hq)
theorem J.dup2_11 (hx : j_C cc nL own ret rm g x) {va vb : Value} (d : decode cc pc = .ok (.dup2, 1)) (hva : va.category = 1) (hvb : vb.category = 1) (k : J g x nL B Q cells slots o (pc + 1) lv (va :: vb :: va :: vb :: st) w) : J g x nL B Q cells slots o pc lv (va :: vb :: st) w := fun r w' ho H locs ls h hR hq => lv_dup2_11 hx.1 hx.2.1 d hva hvb (k r w' ho H locs ls h hR hq)
theorem J.dup2_2 (hx : j_C cc nL own ret rm g x) {va : Value} (d : decode cc pc = .ok (.dup2, 1)) (hva : va.category = 2) (k : J g x nL B Q cells slots o (pc + 1) lv (va :: va :: st) w) : J g x nL B Q cells slots o pc lv (va :: st) w := fun r w' ho H locs ls h hR hq => lv_dup2_2 hx.1 hx.2.1 d hva (k r w' ho H locs ls h hR hq)
theorem J.pop2_2 (hx : j_C cc nL own ret rm g x) {va : Value} (d : decode cc pc = .ok (.pop2, 1)) (hva : va.category = 2) (k : J g x nL B Q cells slots o (pc + 1) lv st w) : J g x nL B Q cells slots o pc lv (va :: st) w := fun r w' ho H locs ls h hR hq => lv_pop2_2 hx.1 hx.2.1 d hva (k r w' ho H locs ls h hR hq)
theorem J.dup2_x1_2 (hx : j_C cc nL own ret rm g x) {va vb : Value} (d : decode cc pc = .ok (.dup2_x1, 1)) (hva : va.category = 2) (hvb : vb.category = 1) (k : J g x nL B Q cells slots o (pc + 1) lv (va :: vb :: va :: st) w) : J g x nL B Q cells slots o pc lv (va :: vb :: st) w := fun r w' ho H locs ls h hR hq => lv_dup2_x1_2 hx.1 hx.2.1 d hva hvb (k r w' ho H locs ls h hR hq)
theorem J.dup2_x2_2 (hx : j_C cc nL own ret rm g x) {va vb vd : Value} (d : decode cc pc = .ok (.dup2_x2, 1)) (hva : va.category = 2) (hvb : vb.category = 1) (hvd : vd.category = 1) (k : J g x nL B Q cells slots o (pc + 1) lv (va :: vb :: vd :: va :: st) w) : J g x nL B Q cells slots o pc lv (va :: vb :: vd :: st) w := fun r w' ho H locs ls h hR hq => lv_dup2_x2_2 hx.1 hx.2.1 d hva hvb hvd (k r w' ho H locs ls h hR hq)
theorem J.icmp_eq (hx : j_C cc nL own ret rm g x) {a b : Int32} {off : Int} (tgt : Nat) (d : decode cc pc = .ok (.if_icmp .eq off, 3)) (ht : (pc : Int) + off = (tgt : Int)) (k1 : J g x nL B Q cells slots o1 tgt lv st w) (k2 : J g x nL B Q cells slots o2 (pc + 3) lv st w) : J g x nL B Q cells slots (if a = b then o1 else o2) pc lv (.int b :: .int a :: st) w := by
  intro r w' ho H locs ls h hR hq
  refine lv_icmp_eq hx.1 hx.2.1 d ht (fun hc => k1 r w' ?_ H locs ls h hR hq) (fun hc => k2 r w' ?_ H locs ls h hR hq)
  · rw [← ho]; first | rw [if_pos hc] | (rw [if_pos]; exact hc)
  · rw [← ho]; first | rw [if_neg hc] | (rw [if_neg]; exact hc)
theorem J.if_eq (hx : j_C cc nL own ret rm g x) {a : Int32} {off : Int} (tgt : Nat) (d : decode cc pc = .ok (.ifCond .eq off, 3)) (ht : (pc : Int) + off = (tgt : Int)) (k1 : J g x nL B Q cells slots o1 tgt lv st w) (k2 : J g x nL B Q cells slots o2 (pc + 3) lv st w) : J g x nL B Q cells slots (if a = 0 then o1 else o2) pc lv (.int a :: st) w := by
  intro r w' ho H locs ls h hR hq
  refine lv_if_eq hx.1 hx.2.1 d ht (fun hc => k1 r w' ?_ H locs ls h hR hq) (fun hc => k2 r w' ?_ H locs ls h hR hq)
  · rw [← ho]; first | rw [if_pos hc] | (rw [if_pos]; exact hc)
  · rw [← ho]; first | rw [if_neg hc] | (rw [if_neg]; exact hc)
theorem J.icmp_ne (hx : j_C cc nL own ret rm g x) {a b : Int32} {off : Int} (tgt : Nat) (d : decode cc pc = .ok (.if_icmp .ne off, 3)) (ht : (pc : Int) + off = (tgt : Int)) (k1 : J g x nL B Q cells slots o1 (pc + 3) lv st w) (k2 : J g x nL B Q cells slots o2 tgt lv st w) : J g x nL B Q cells slots (if a = b then o1 else o2) pc lv (.int b :: .int a :: st) w := by
  intro r w' ho H locs ls h hR hq
  refine lv_icmp_ne hx.1 hx.2.1 d ht (fun hc => k2 r w' ?_ H locs ls h hR hq) (fun hc => k1 r w' ?_ H locs ls h hR hq)
  · rw [← ho, if_neg hc]
  · rw [← ho, if_pos hc]
theorem J.if_ne (hx : j_C cc nL own ret rm g x) {a : Int32} {off : Int} (tgt : Nat) (d : decode cc pc = .ok (.ifCond .ne off, 3)) (ht : (pc : Int) + off = (tgt : Int)) (k1 : J g x nL B Q cells slots o1 (pc + 3) lv st w) (k2 : J g x nL B Q cells slots o2 tgt lv st w) : J g x nL B Q cells slots (if a = 0 then o1 else o2) pc lv (.int a :: st) w := by
  intro r w' ho H locs ls h hR hq
  refine lv_if_ne hx.1 hx.2.1 d ht (fun hc => k2 r w' ?_ H locs ls h hR hq) (fun hc => k1 r w' ?_ H locs ls h hR hq)
  · rw [← ho, if_neg hc]
  · rw [← ho, if_pos hc]
theorem J.icmp_lt (hx : j_C cc nL own ret rm g x) {a b : Int32} {off : Int} (tgt : Nat) (d : decode cc pc = .ok (.if_icmp .lt off, 3)) (ht : (pc : Int) + off = (tgt : Int)) (k1 : J g x nL B Q cells slots o1 tgt lv st w) (k2 : J g x nL B Q cells slots o2 (pc + 3) lv st w) : J g x nL B Q cells slots (if a < b then o1 else o2) pc lv (.int b :: .int a :: st) w := by
  intro r w' ho H locs ls h hR hq
  refine lv_icmp_lt hx.1 hx.2.1 d ht (fun hc => k1 r w' ?_ H locs ls h hR hq) (fun hc => k2 r w' ?_ H locs ls h hR hq)
  · rw [← ho]; first | rw [if_pos hc] | (rw [if_pos]; exact hc)
  · rw [← ho]; first | rw [if_neg hc] | (rw [if_neg]; exact hc)
theorem J.if_lt (hx : j_C cc nL own ret rm g x) {a : Int32} {off : Int} (tgt : Nat) (d : decode cc pc = .ok (.ifCond .lt off, 3)) (ht : (pc : Int) + off = (tgt : Int)) (k1 : J g x nL B Q cells slots o1 tgt lv st w) (k2 : J g x nL B Q cells slots o2 (pc + 3) lv st w) : J g x nL B Q cells slots (if a < 0 then o1 else o2) pc lv (.int a :: st) w := by
  intro r w' ho H locs ls h hR hq
  refine lv_if_lt hx.1 hx.2.1 d ht (fun hc => k1 r w' ?_ H locs ls h hR hq) (fun hc => k2 r w' ?_ H locs ls h hR hq)
  · rw [← ho]; first | rw [if_pos hc] | (rw [if_pos]; exact hc)
  · rw [← ho]; first | rw [if_neg hc] | (rw [if_neg]; exact hc)
theorem J.icmp_ge (hx : j_C cc nL own ret rm g x) {a b : Int32} {off : Int} (tgt : Nat) (d : decode cc pc = .ok (.if_icmp .ge off, 3)) (ht : (pc : Int) + off = (tgt : Int)) (k1 : J g x nL B Q cells slots o1 tgt lv st w) (k2 : J g x nL B Q cells slots o2 (pc + 3) lv st w) : J g x nL B Q cells slots (if b ≤ a then o1 else o2) pc lv (.int b :: .int a :: st) w := by
  intro r w' ho H locs ls h hR hq
  refine lv_icmp_ge hx.1 hx.2.1 d ht (fun hc => k1 r w' ?_ H locs ls h hR hq) (fun hc => k2 r w' ?_ H locs ls h hR hq)
  · rw [← ho]; first | rw [if_pos hc] | (rw [if_pos]; exact hc)
  · rw [← ho]; first | rw [if_neg hc] | (rw [if_neg]; exact hc)
theorem J.if_ge (hx : j_C cc nL own ret rm g x) {a : Int32} {off : Int} (tgt : Nat) (d : decode cc pc = .ok (.ifCond .ge off, 3)) (ht : (pc : Int) + off = (tgt : Int)) (k1 : J g x nL B Q cells slots o1 tgt lv st w) (k2 : J g x nL B Q cells slots o2 (pc + 3) lv st w) : J g x nL B Q cells slots (if 0 ≤ a then o1 else o2) pc lv (.int a :: st) w := by
  intro r w' ho H locs ls h hR hq
  refine lv_if_ge hx.1 hx.2.1 d ht (fun hc => k1 r w' ?_ H locs ls h hR hq) (fun hc => k2 r w' ?_ H locs ls h hR hq)
  · rw [← ho]; first | rw [if_pos hc] | (rw [if_pos]; exact hc)
  · rw [← ho]; first | rw [if_neg hc] | (rw [if_neg]; exact hc)
theorem J.icmp_gt (hx : j_C cc nL own ret rm g x) {a b : Int32} {off : Int} (tgt : Nat) (d : decode cc pc = .ok (.if_icmp .gt off, 3)) (ht : (pc : Int) + off = (tgt : Int)) (k1 : J g x nL B Q cells slots o1 tgt lv st w) (k2 : J g x nL B Q cells slots o2 (pc + 3) lv st w) : J g x nL B Q cells slots (if b < a then o1 else o2) pc lv (.int b :: .int a :: st) w := by
  intro r w' ho H locs ls h hR hq
  refine lv_icmp_gt hx.1 hx.2.1 d ht (fun hc => k1 r w' ?_ H locs ls h hR hq) (fun hc => k2 r w' ?_ H locs ls h hR hq)
  · rw [← ho]; first | rw [if_pos hc] | (rw [if_pos]; exact hc)
  · rw [← ho]; first | rw [if_neg hc] | (rw [if_neg]; exact hc)
theorem J.if_gt (hx : j_C cc nL own ret rm g x) {a : Int32} {off : Int} (tgt : Nat) (d : decode cc pc = .ok (.ifCond .gt off, 3)) (ht : (pc : Int) + off = (tgt : Int)) (k1 : J g x nL B Q cells slots o1 tgt lv st w) (k2 : J g x nL B Q cells slots o2 (pc + 3) lv st w) : J g x nL B Q cells slots (if 0 < a then o1 else o2) pc lv (.int a :: st) w := by
  intro r w' ho H locs ls h hR hq
  refine lv_if_gt hx.1 hx.2.1 d ht (fun hc => k1 r w' ?_ H locs ls h hR hq) (fun hc => k2 r w' ?_ H locs ls h hR hq)
  · rw [← ho]; first | rw [if_pos hc] | (rw [if_pos]; exact hc)
  · rw [← ho]; first | rw [if_neg hc] | (rw [if_neg]; exact hc)
theorem J.icmp_le (hx : j_C cc nL own ret rm g x) {a b : Int32} {off : Int} (tgt : Nat) (d : decode cc pc = .ok (.if_icmp .le off, 3)) (ht : (pc : Int) + off = (tgt : Int)) (k1 : J g x nL B Q cells slots o1 tgt lv st w) (k2 : J g x nL B Q cells slots o2 (pc + 3) lv st w) : J g x nL B Q cells slots (if a ≤ b then o1 else o2) pc lv (.int b :: .int a :: st) w := by
  intro r w' ho H locs ls h hR hq
  refine lv_icmp_le hx.1 hx.2.1 d ht (fun hc => k1 r w' ?_ H locs ls h hR hq) (fun hc => k2 r w' ?_ H locs ls h hR hq)
  · rw [← ho]; first | rw [if_pos hc] | (rw [if_pos]; exact hc)
  · rw [← ho]; first | rw [if_neg hc] | (rw [if_neg]; exact hc)
theorem J.if_le (hx : j_C cc nL own ret rm g x) {a : Int32} {off : Int} (tgt : Nat) (d : decode cc pc = .ok (.ifCond .le off, 3)) (ht : (pc : Int) + off = (tgt : Int)) (k1 : J g x nL B Q cells slots o1 tgt lv st w) (k2 : J g x nL B Q cells slots o2 (pc + 3) lv st w) : J g x nL B Q cells slots (if a ≤ 0 then o1 else o2) pc lv (.int a :: st) w := by
  intro r w' ho H locs ls h hR hq
  refine lv_if_le hx.1 hx.2.1 d ht (fun hc => k1 r w' ?_ H locs ls h hR hq) (fun hc => k2 r w' ?_ H locs ls h hR hq)
  · rw [← ho]; first | rw [if_pos hc] | (rw [if_pos]; exact hc)
  · rw [← ho]; first | rw [if_neg hc] | (rw [if_neg]; exact hc)
end JR
