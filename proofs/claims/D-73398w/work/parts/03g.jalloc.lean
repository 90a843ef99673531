/-! J: new cells; methods that make cells -/
def j_ext (B B' : j_B) : Prop := ∀ κ i, B.2.1 κ i → B'.2.1 κ i ∧ B'.1 κ i = B.1 κ i ∧ (B.2.2 κ i → B'.2.2 κ i)
theorem j_ext.rf {B : j_B} : j_ext B B := fun _ _ h => ⟨h, rfl, id⟩
theorem j_ext.tr {B B' B'' : j_B} (h1 : j_ext B B') (h2 : j_ext B' B'') : j_ext B B'' := fun κ i h => by
  obtain ⟨a, b, c⟩ := h1 κ i h
  obtain ⟨a', b', c'⟩ := h2 κ i a
  exact ⟨a', b'.trans b, fun z => c' (c z)⟩
theorem j_ext.ad {B B' : j_B} (h : j_ext B B') {κ i : Nat} (a : B.2.1 κ i ∧ B.2.2 κ i) : B'.1 κ i = B.1 κ i := (h κ i a.1).2.1
theorem j_ext.mv {B B' : j_B} (h : j_ext B B') {κ i : Nat} (a : B.2.1 κ i ∧ B.2.2 κ i) : B'.2.1 κ i ∧ B'.2.2 κ i := ⟨(h κ i a.1).1, (h κ i a.1).2.2 a.2⟩
theorem j_ext.mvq {B B' : j_B} (h : j_ext B B') {κ : Nat} {v : Option Nat} (a : ∀ q, v = some q → B.2.1 κ q ∧ B.2.2 κ q) : ∀ q, v = some q → B'.2.1 κ q ∧ B'.2.2 κ q := fun q e => h.mv (a q e)
theorem j_ext.re {B B' : j_B} (h : j_ext B B') {κ : Nat} {v : Option Nat} (a : ∀ q, v = some q → B.2.1 κ q ∧ B.2.2 κ q) : va_re (B'.1 κ) v = va_re (B.1 κ) v := by
  cases v with
  | none => rfl
  | some q =>
    show Value.ref _ = Value.ref _
    rw [h.ad (a q rfl)]
/-- a new cell's address -/
def jbn (B : j_B) (κ i q : Nat) : j_B := (fun a b => bif Nat.beq a κ && Nat.beq b i then q else B.1 a b, fun a b => (Nat.beq a κ && Nat.beq b i) = true ∨ B.2.1 a b, B.2.2)
/-- cells that are built from now on -/
def jbb (B : j_B) (S : Nat → Nat → Prop) : j_B := (B.1, B.2.1, fun a b => B.2.2 a b ∨ S a b)
theorem jbn_at (B : j_B) (κ i q : Nat) : (jbn B κ i q).1 κ i = q := by simp [jbn]
theorem jbn_ne (B : j_B) {κ i q a b : Nat} (h : ¬ (a = κ ∧ b = i)) : (jbn B κ i q).1 a b = B.1 a b := by
  have : (Nat.beq a κ && Nat.beq b i) = false := by
    rw [Bool.eq_false_iff]
    intro z
    rw [Bool.and_eq_true, Nat.beq_eq, Nat.beq_eq] at z
    exact h z
  show (bif Nat.beq a κ && Nat.beq b i then q else B.1 a b) = _
  rw [this]
  rfl
theorem jbn_al (B : j_B) {κ i q : Nat} : (jbn B κ i q).2.1 κ i := Or.inl (by simp)
theorem jbn_old {B : j_B} {κ i q a b : Nat} (h : B.2.1 a b ∧ B.2.2 a b) : (jbn B κ i q).2.1 a b ∧ (jbn B κ i q).2.2 a b := ⟨Or.inr h.1, h.2⟩
theorem jbn_oldq {B : j_B} {κ i q κ' : Nat} {v : Option Nat} (h : ∀ a, v = some a → B.2.1 κ' a ∧ B.2.2 κ' a) : ∀ a, v = some a → (jbn B κ i q).2.1 κ' a ∧ (jbn B κ i q).2.2 κ' a := fun a e => jbn_old (h a e)
theorem jbn_ext {B : j_B} {κ i q : Nat} (hf : ¬ B.2.1 κ i) : j_ext B (jbn B κ i q) := fun a b h => ⟨Or.inr h, jbn_ne B (fun z => hf (by rw [← z.1, ← z.2]; exact h)), id⟩
theorem jbb_ext {B : j_B} {S : Nat → Nat → Prop} : j_ext B (jbb B S) := fun _ _ h => ⟨h, rfl, Or.inl⟩
/-- one more of a kind -/
def jbump (w : j_St) (κ : Nat) : j_St := (w.1, w.2.1, w.2.2.1, fun a b => if a = 100 + κ ∧ b = 0 then w.2.2.2 a b + 1 else w.2.2.2 a b)
theorem jcnt_mono {w w' : j_St} (h : ∀ a, 100 ≤ a → jgn w a 0 ≤ jgn w' a 0) {κ i : Nat} (hc : jcnt w κ i) : jcnt w' κ i := by
  have h5 := h 105 (by decide)
  have h6 := h 106 (by decide)
  have h7 := h 107 (by decide)
  have hk := h (100 + κ) (by omega)
  have h14 := h 114 (by decide)
  unfold jcnt at hc ⊢
  split
  · next c => rw [if_pos c] at hc; omega
  · next c1 =>
    rw [if_neg c1] at hc
    split
    · next c =>
      rw [if_pos c] at hc
      rcases hc with q | ⟨j, q1, q2⟩ | ⟨j, q1, q2⟩
      · exact Or.inl q
      · exact Or.inr (Or.inl ⟨j, q1, by omega⟩)
      · exact Or.inr (Or.inr ⟨j, q1, by omega⟩)
    · next c2 =>
      rw [if_neg c2] at hc
      split
      · next c => rw [if_pos c] at hc; omega
      · next c3 =>
        rw [if_neg c3] at hc
        split
        · next c => rw [if_pos c] at hc; omega
        · next c4 =>
          rw [if_neg c4] at hc
          split
          · next c => rw [if_pos c] at hc; omega
          · next c6 =>
            rw [if_neg c6] at hc
            split
            · next c => rw [if_pos c] at hc; omega
            · next c5 =>
              rw [if_neg c5] at hc
              exact hc
theorem jcnt_lt {w : j_St} {κ i : Nat} (hc : jcnt w κ i) : κ < 100 := by
  unfold jcnt at hc
  split at hc
  · omega
  · split at hc
    · omega
    · split at hc
      · omega
      · split at hc
        · omega
        · split at hc
          · omega
          · split at hc
            · omega
            · exact hc
theorem j_R.bump {g : j_G} {B : j_B} {w : j_St} {H : Heap} {κ : Nat} (hR : j_R g B w H) : j_R g B (jbump w κ) H := by
  obtain ⟨r1, r2, r3, r4, r5, r6, r7, r8, r9, r10⟩ := hR
  have hn : ∀ a b, a < 100 → jgn (jbump w κ) a b = jgn w a b := fun a b ha => by
    show (if a = 100 + κ ∧ b = 0 then _ else _) = _
    rw [if_neg (by omega)]
    rfl
  refine ⟨fun κ' i' h => ?_, r2, r3, r4, r5, r6, r7, r8, r9, fun κ' i' h => jcnt_mono (fun a _ => ?_) (r10 κ' i' h)⟩
  · exact (r1 κ' i' h).kept rfl rfl (hn κ' i' (jcnt_lt (r10 κ' i' h)))
  · show _ ≤ (if a = 100 + κ ∧ 0 = 0 then _ else _)
    split <;> simp [jgn]
/-- a cell more -/
theorem j_R.new {g : j_G} {B : j_B} {w : j_St} {H H' : Heap} {κ i n : Nat} (hR : j_R g B w H) (hf : ¬ B.2.1 κ i) (hb : ¬ B.2.2 κ i) (hk : κ < 100) (hcnt : jcnt w κ i) (e2 : H'.size = H.size + 1) (e3 : ∀ q : Nat, q < H.size → H'[q]? = H[q]?) (hok : j_ok g (jbn B κ i H.size) (jnw w κ i n) H' κ i) :
    j_R g (jbn B κ i H.size) (jnw w κ i n) H' := by
  obtain ⟨r1, r2, r3, r4, r5, r6, r7, r8, r9, r10⟩ := hR
  have ne : ∀ a b, B.2.1 a b → ¬ (a = κ ∧ b = i) := fun a b h z => hf (by rw [← z.1, ← z.2]; exact h)
  have nr : ∀ a b k, ¬ (a = κ ∧ b = i) → jgr (jnw w κ i n) a b k = jgr w a b k := fun a b k h => by
    show (if a = κ ∧ b = i then _ else _) = _
    rw [if_neg h]; rfl
  have nr0 : ∀ k, jgr (jnw w κ i n) κ i k = none := fun k => by
    show (if κ = κ ∧ i = i then _ else _) = _
    rw [if_pos ⟨rfl, rfl⟩]
  have nn : ∀ a b, ¬ (a = κ ∧ b = i) → jgn (jnw w κ i n) a b = jgn w a b := fun a b h => by
    show (if a = κ ∧ b = i then _ else _) = _
    rw [if_neg h]; rfl
  have al : ∀ a b, (jbn B κ i H.size).2.1 a b → (a = κ ∧ b = i) ∨ B.2.1 a b := fun a b h => by
    rcases h with h | h
    · rw [Bool.and_eq_true, Nat.beq_eq, Nat.beq_eq] at h
      exact Or.inl h
    · exact Or.inr h
  have nv : ∀ a b, B.2.1 a b → jfv (jbn B κ i H.size).1 (jnw w κ i n) a b = jfv B.1 w a b := fun a b h => by
    funext k
    have e1 : jgi (jnw w κ i n) a b k = jgi w a b k := by
      show (if a = κ ∧ b = i then _ else _) = _
      rw [if_neg (ne a b h)]; rfl
    have e2 : jgl (jnw w κ i n) a b k = jgl w a b k := by
      show (if a = κ ∧ b = i then _ else _) = _
      rw [if_neg (ne a b h)]; rfl
    unfold jfv
    rw [e1, e2, nr a b k (ne a b h)]
    cases hr : jgr w a b k with
    | none => rfl
    | some j =>
      have := ne _ _ (r6 a b k j h hr)
      simp only [Option.map_some]
      rw [jbn_ne B this]
  refine ⟨fun a b h => ?_, fun a b a' b' h h' e => ?_, fun a b h hro => ?_, by omega, fun q hq => ?_, fun a b k j h hj => ?_, fun a b k j h hj h2 => ?_, fun a b k h h3 => ?_, fun a b h => Or.inr (r9 a b h), fun a b h => ?_⟩
  · rcases al a b h with z | z
    · rw [z.1, z.2]; exact hok
    · have h1 := r1 a b z
      have hlt := h1.lt
      unfold j_ok at h1 ⊢
      unfold jln at h1 ⊢
      rw [nv a b z, nn a b (ne a b z), jbn_ne B (ne a b z)]
      split at h1
      · obtain ⟨r, g1, g2⟩ := h1
        exact ⟨r, g1, g2.kept (e3 _ hlt)⟩
      · rw [e3 _ hlt]; exact h1
      · rw [e3 _ hlt]; exact h1
      · rw [e3 _ hlt]; exact h1
      · rw [e3 _ hlt]; exact h1
  · rcases al a b h with z | z <;> rcases al a' b' h' with z' | z'
    · exact ⟨z.1.trans z'.1.symm, z.2.trans z'.2.symm⟩
    · rw [z.1, z.2, jbn_at, jbn_ne B (ne a' b' z')] at e
      have := (r1 a' b' z').lt
      omega
    · rw [z'.1, z'.2, jbn_at, jbn_ne B (ne a b z)] at e
      have := (r1 a b z).lt
      omega
    · rw [jbn_ne B (ne a b z), jbn_ne B (ne a' b' z')] at e
      exact r2 a b a' b' z z' e
  · rcases al a b h with z | z
    · rw [z.1, z.2, jbn_at]; exact r4
    · rw [jbn_ne B (ne a b z)]; exact r3 a b z hro
  · rw [e3 q (by omega)]; exact r5 q hq
  · rcases al a b h with z | z
    · rw [z.1, z.2, nr0] at hj; cases hj
    · rw [nr a b k (ne a b z)] at hj
      exact Or.inr (r6 a b k j z hj)
  · rcases al a b h with z | z
    · rw [z.1, z.2, nr0] at hj; cases hj
    · rw [nr a b k (ne a b z)] at hj
      exact r7 a b k j z hj h2
  · have z := r9 a b h
    rw [nr a b k (ne a b z)]
    exact r8 a b k h h3
  · refine jcnt_mono (w := w) (fun c hc => ?_) ?_
    · rw [nn c 0 (by omega)]; exact Nat.le_refl _
    · rcases al a b h with z | z
      · rw [z.1, z.2]; exact hcnt
      · exact r10 a b z
/-- cells are built now -/
theorem j_R.built {g : j_G} {B : j_B} {w : j_St} {H : Heap} {S : Nat → Nat → Prop} (hR : j_R g B w H) (hS : ∀ κ i, S κ i → B.2.1 κ i ∧ ∀ k, jfs κ k = 3 → jgr w κ i k = some (jci κ i k) ∧ (B.2.2 (jfk κ k) (jci κ i k) ∨ S (jfk κ k) (jci κ i k))) : j_R g (jbb B S) w H := by
  obtain ⟨r1, r2, r3, r4, r5, r6, r7, r8, r9, r10⟩ := hR
  refine ⟨fun κ i h => (r1 κ i h), r2, r3, r4, r5, r6, fun κ i k j h hj h2 => Or.inl (r7 κ i k j h hj h2), fun κ i k h h3 => ?_, fun κ i h => ?_, r10⟩
  · rcases h with h | h
    · exact ⟨(r8 κ i k h h3).1, Or.inl (r8 κ i k h h3).2⟩
    · exact (hS κ i h).2 k h3
  · rcases h with h | h
    · exact r9 κ i h
    · exact (hS κ i h).1
