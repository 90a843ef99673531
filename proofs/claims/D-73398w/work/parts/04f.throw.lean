/-! Throwable.<init>(String, Throwable, boolean, boolean) over a Wrong, nothing kept: all its fields are null before and behind -/
def j_T (g : j_G) (B : j_B) (w : j_St) (i : Nat) (V : Nat → Value) (H : Heap) : Prop := ∃ H0, j_R g B w H0 ∧ H.size = H0.size ∧ (∀ q : Nat, q ≠ B.1 9 i → H[q]? = H0[q]?) ∧ t_OB (B.1 9 i) ((jgD g).1 9) 7 ((jgD g).2 9) H V
section JTH
variable {g : j_G} {x : j_X} {cc : ByteArray} {nL : Nat} {own : String} {ret : Option FieldType} {rm : Room} {B : j_B} {cells slots : Nat} {pc : Nat} {st : List Value} {w : j_St} {Q : State → Prop} {i : Nat} {ls : Array Slot} {H : Heap} {locs : List Loc} {V : Nat → Value}
theorem j_T.put (hx : j_C cc nL own ret rm g x) (ha : B.2.1 9 i) (k : Nat) {index : Nat} {v : Value} (hk : k < 7) (hl : Cond.fieldLink own index (TX12 k).1 (TX12 k).2.1 (TX12 k).2.2.1 ∈ lw_all) (hfin : (TX12 k).2.2.2 = false) (hn : narrow (tyX12 k) v = v) (hf : fits (tyX12 k) v = true) (d : decode cc pc = .ok (.putfield index, 3))
    (hT : j_T g B w i V H) (hq : ∀ q ∈ locs, jgb g ≤ q.base)
    (kk : ∀ (H' : Heap) (locs' : List Loc), j_T g B w i (updV V k v) H' → (∀ q ∈ locs', jgb g ≤ q.base) → j_W g x H' locs' cells slots Q (pc + 3) ls st) : j_W g x H locs cells slots Q pc ls (v :: .ref (B.1 9 i) :: st) := by
  obtain ⟨H0, hR, z1, z2, cell, q1, q2, q3, q4⟩ := hT
  obtain ⟨p, e, R, s, m, args, below, meth, c⟩ := x
  obtain ⟨h1, h2, h3, h4, h5, h6, h7⟩ := hx
  obtain ⟨hK, -, hN, -⟩ := h6
  have hc : jcl[9]? = some (RX12, TX12, 7) := rfl
  have hap := va_apart (own := own) h5 in_X12 tyX12 tyX12_ok nmX12 hK hc
  obtain ⟨hS, hfc, kC, hkC, hkind⟩ := hK.1 _ _ hc
  obtain ⟨cf, kf, fi, f, hi, hsl⟩ := hS k hk
  have hlay := h5 _ (in_X12 _ (u_in_lay hk))
  unfold u_lay at hlay
  rw [if_neg (by rw [hfin]; decide)] at hlay
  have hst := (u_facts hfc hkC (u_lays h5 in_X12 hk) hi).1
  have h6 := u_store hfc hkC hkind hlay hi (tyX12_ok k hk) hn hf
  have hb0 : jgb g ≤ B.1 9 i := hR.2.2.1 9 i ha rfl
  have hlocs : ∀ q ∈ locs ++ [(⟨B.1 9 i, f.slot⟩ : Loc)], jgb g ≤ q.base := by
    intro q hq0
    rcases List.mem_append.mp hq0 with z | z
    · exact hq q z
    · cases List.mem_singleton.mp z
      exact hb0
  exact W.putK h1 h2 (f := f) ⟨h4, h5 _ hl, ⟨_, _, _, hi⟩, hst⟩ (by rw [q2]; exact h6) q1 q3 (by rw [hsl]; exact k2_hasslot (q4 k hk)) rfl rfl d fun H' e1 e2 e3 => kk H' _ ⟨H0, hR, e2.trans z1, fun q hq' => (e3 q hq').trans (z2 q hq'), _, e1, q2, q3, by rw [hsl]; exact t_set q4 hap hk v⟩ hlocs
theorem j_T.gets1 (hx : j_C cc nL own ret rm g x) (ha : B.2.1 9 i) {C n d : String} {v : Value} {index : Nat} (hZ : va_Z C n d v (fun q => jgb g ≤ q) x.2.2.2.1 (jgH g)) (hl : Cond.fieldLink own index C n d ∈ lw_all) (hd : decode cc pc = .ok (.getstatic index, 3)) (hT : j_T g B w i V H) (kk : j_W g x H locs cells slots Q (pc + 3) ls (v :: st)) : j_W g x H locs cells slots Q pc ls st := by
  obtain ⟨H0, hR, z1, z2, -⟩ := hT
  have hb0 : jgb g ≤ B.1 9 i := hR.2.2.1 9 i ha rfl
  obtain ⟨p, e, R, s, m, args, below, meth, c⟩ := x
  obtain ⟨h1, h2, h3, h4, h5, h6, h7⟩ := hx
  obtain ⟨cf, kf, fi, f, a, cell, g1, g2, g3, g4, g5, g6, g7, g8⟩ := hZ
  have hlt : a < jgb g := Nat.not_le.mp g8
  exact W.gets h1 h2 h4 (h5 _ hl) g1 g2 g3 g4 (by rw [z2 a (by omega), hR.2.2.2.2.1 a hlt]; exact g5) (fun e => by rw [e] at g6; cases g6) g7 rfl hd kk
/-- null or some reference -/
def j_nr (v : Value) : Prop := v = .null ∨ ∃ t : Nat, v = .ref t
theorem j_T.gets (hx : j_C cc nL own ret rm g x) (ha : B.2.1 9 i) {C n d : String} {index : Nat} (hZ : va_Zq C n d (fun q => jgb g ≤ q) x.2.2.2.1 (jgH g)) (hl : Cond.fieldLink own index C n d ∈ lw_all) (hd : decode cc pc = .ok (.getstatic index, 3)) (hT : j_T g B w i V H) (kk : ∀ v : Value, j_nr v → j_W g x H locs cells slots Q (pc + 3) ls (v :: st)) : j_W g x H locs cells slots Q pc ls st := by
  rcases hZ with z | ⟨t, z⟩
  · exact j_T.gets1 hx ha z hl hd hT (kk _ (Or.inl rfl))
  · exact j_T.gets1 hx ha z hl hd hT (kk _ (Or.inr ⟨t, rfl⟩))
theorem j_nr.ok {v : Value} (h : j_nr v) : (narrow (tyX12 1) v = v ∧ fits (tyX12 1) v = true) ∧ narrow (tyX12 2) v = v ∧ fits (tyX12 2) v = true := by
  rcases h with rfl | ⟨t, rfl⟩ <;> exact ⟨⟨rfl, rfl⟩, rfl, rfl⟩
end JTH
theorem hd_J9_init_2 : yJ9_init_2.cls = RJ9 ∧ yJ9_init_2.cls ≠ "java/lang/invoke/MethodHandle" ∧ yJ9_init_2.cls ≠ "java/lang/invoke/VarHandle" ∧ (parseMethodDescriptor yJ9_init_2.desc).map (fun d => d.parameters.length) = some 4 := by decide +kernel
abbrev rm_J9_init_2 : Room := { frames := 1, cells := 0, slots := 0, locals := 20 }
set_option maxRecDepth 100000 in
set_option maxHeartbeats 4000000 in
theorem mt0_J9_init_2 {g : j_G} {B : j_B} {i : Nat} {w : j_St} (a0 : B.2.1 9 i) (n0 : jgr w 9 i 0 = none) (n1 : jgr w 9 i 1 = none) (n2 : jgr w 9 i 2 = none) (n3 : jgr w 9 i 3 = none) : j_M g yJ9_init_2 cJ9_init_2 5 none rm_J9_init_2 B [.ref (B.1 9 i), .null, .null, .int 0, .int 0] w w none := by
  refine j_met (rv := jrv) (r := ()) (o := some ((), w)) (by decide) (Nat.le_of_ble_eq_true rfl) (fun x hx => ?_) rfl
  refine J.sub (lv' := [(0, .ref (B.1 9 i)), (1, .null), (2, .null), (3, .int 0), (4, .int 0)]) [0, 1, 2, 3, 4] rfl ?_
  refine J.aload_n hx dJ9_init_2_0 rfl 0 rfl ?_
  refine J.objInit hx q805 q170 q171 ⟨Nat.le_of_ble_eq_true rfl, Nat.le_of_ble_eq_true rfl⟩ (Nat.le_of_ble_eq_true rfl) dJ9_init_2_1 ?_
  intro r w' ho H locs ls h hR hq
  cases ho
  have hsz : ∀ {b : Nat} {v : Value}, [(0, Value.ref (B.1 9 i)), (1, .null), (2, .null), (3, .int 0), (4, .int 0)][b]? = some (b, v) → True := fun _ => trivial
  have hT0 : j_T g B w i (jfv B.1 w 9 i) H := ⟨H, hR, rfl, fun _ _ => rfl, (hR.1 9 i a0).obj rfl rfl⟩
  have hZ1 : va_Zq "java/lang/Throwable" "UNASSIGNED_STACK" "[Ljava/lang/StackTraceElement;" (fun q => jgb g ≤ q) x.2.2.2.1 (jgH g) := ((hx.2.2.2.2.2.1.2.2.2.2.2.2).2.2.2.2.2.2.1).1
  have hZ2 : va_Zq "java/lang/Throwable" "SUPPRESSED_SENTINEL" "Ljava/util/List;" (fun q => jgb g ≤ q) x.2.2.2.1 (jgH g) := ((hx.2.2.2.2.2.1.2.2.2.2.2.2).2.2.2.2.2.2.2.1).1
  refine lv_aload_n hx.1 hx.2.1 dJ9_init_2_4 rfl (lv_at h 0 rfl) ?_
  refine lv_aload_n hx.1 hx.2.1 dJ9_init_2_5 rfl (lv_at h 0 rfl) ?_
  refine j_T.put hx a0 0 (by decide) q833 rfl rfl rfl dJ9_init_2_6 hT0 hq fun H1 l1 hT1 hq1 => ?_
  refine lv_aload_n hx.1 hx.2.1 dJ9_init_2_9 rfl (lv_at h 0 rfl) ?_
  refine j_T.gets hx a0 hZ1 q806 dJ9_init_2_10 hT1 fun v1 hv1 => ?_
  refine j_T.put hx a0 1 (by decide) q834 rfl hv1.ok.1.1 hv1.ok.1.2 dJ9_init_2_13 hT1 hq1 fun H2 l2 hT2 hq2 => ?_
  refine lv_aload_n hx.1 hx.2.1 dJ9_init_2_16 rfl (lv_at h 0 rfl) ?_
  refine j_T.gets hx a0 hZ2 q808 dJ9_init_2_17 hT2 fun v2 hv2 => ?_
  refine j_T.put hx a0 2 (by decide) q835 rfl hv2.ok.2.1 hv2.ok.2.2 dJ9_init_2_20 hT2 hq2 fun H3 l3 hT3 hq3 => ?_
  refine lv_iload hx.1 hx.2.1 dJ9_init_2_23 (lv_at h 4 rfl) ?_
  refine lv_if_eq hx.1 hx.2.1 dJ9_init_2_25 (show ((25 : Nat) : Int) + 11 = ((36 : Nat) : Int) by decide) (fun _ => ?_) (fun hc => absurd rfl hc)
  refine lv_aload_n hx.1 hx.2.1 dJ9_init_2_36 rfl (lv_at h 0 rfl) ?_
  refine lv_null hx.1 hx.2.1 dJ9_init_2_37 ?_
  refine j_T.put hx a0 1 (by decide) q834 rfl rfl rfl dJ9_init_2_38 hT3 hq3 fun H4 l4 hT4 hq4 => ?_
  refine lv_aload_n hx.1 hx.2.1 dJ9_init_2_41 rfl (lv_at h 0 rfl) ?_
  refine lv_aload_nN hx.1 hx.2.1 dJ9_init_2_42 rfl (lv_at h 1 rfl) ?_
  refine j_T.put hx a0 3 (by decide) q832 rfl rfl rfl dJ9_init_2_43 hT4 hq4 fun H5 l5 hT5 hq5 => ?_
  refine lv_aload_n hx.1 hx.2.1 dJ9_init_2_46 rfl (lv_at h 0 rfl) ?_
  refine lv_aload_nN hx.1 hx.2.1 dJ9_init_2_47 rfl (lv_at h 2 rfl) ?_
  refine j_T.put hx a0 0 (by decide) q833 rfl rfl rfl dJ9_init_2_48 hT5 hq5 fun H6 l6 hT6 hq6 => ?_
  refine lv_iload_n hx.1 hx.2.1 dJ9_init_2_51 rfl (lv_at h 3 rfl) ?_
  refine lv_if_ne hx.1 hx.2.1 dJ9_init_2_52 (show ((52 : Nat) : Int) + 8 = ((60 : Nat) : Int) by decide) (fun hc => absurd rfl hc) (fun _ => ?_)
  refine lv_aload_n hx.1 hx.2.1 dJ9_init_2_55 rfl (lv_at h 0 rfl) ?_
  refine lv_null hx.1 hx.2.1 dJ9_init_2_56 ?_
  refine j_T.put hx a0 2 (by decide) q835 rfl rfl rfl dJ9_init_2_57 hT6 hq6 fun H7 l7 hT7 hq7 => ?_
  obtain ⟨H0, hR0, z1, z2, hO⟩ := hT7
  have hVV : ∀ k, updV (updV (updV (updV (updV (updV (updV (jfv B.1 w 9 i) 0 (.ref (B.1 9 i))) 1 v1) 2 v2) 1 .null) 3 .null) 0 .null) 2 .null k = jfv B.1 w 9 i k := by
    intro k
    have hnull : ∀ k, 2 ≤ jfs 9 k → jgr w 9 i k = none → jfv B.1 w 9 i k = .null := fun k h2 hn => by rw [jfv_r h2, hn]; rfl
    unfold updV
    by_cases e2 : k = 2
    · subst e2; rw [if_pos rfl, hnull 2 (by decide) n2]
    · rw [if_neg e2]
      by_cases e0 : k = 0
      · subst e0; rw [if_pos rfl, hnull 0 (by decide) n0]
      · rw [if_neg e0]
        by_cases e3 : k = 3
        · subst e3; rw [if_pos rfl, hnull 3 (by decide) n3]
        · rw [if_neg e3]
          by_cases e1 : k = 1
          · subst e1; rw [if_pos rfl, hnull 1 (by decide) n1]
          · rw [if_neg e1, if_neg e2, if_neg e1, if_neg e0]
  have hO2 : t_OB (B.1 9 i) ((jgD g).1 9) 7 ((jgD g).2 9) H7 (jfv B.1 w 9 i) := hO.to fun k _ => hVV k
  have hR7 : j_R g B w H7 := hR0.put a0 rfl z1 z2 (j_ok.mko rfl (r := (RX12, TX12, 7)) rfl hO2) (fun _ _ _ => ⟨rfl, rfl⟩) (fun _ _ _ _ z => Or.inl z) (fun _ _ _ _ _ => rfl)
  exact W.widen (Nat.le_refl _) (Nat.le_refl _) (W.vret hx.1 hx.2.1 (hx.2.2.2.2.2.2.2.1.trans rfl) (fun t ht _ => ⟨rfl, by rw [ht]; exact hR7⟩) hq7 dJ9_init_2_60 hx.2.2.2.2.2.2.1)
