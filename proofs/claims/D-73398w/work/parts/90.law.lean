/-! the law, whole: from its entry -/
/-- THE PURE LAW -/
theorem pl_law (xs : Nat → Int32) {L : Nat} (hL : L ≤ 144) : ∃ w, f_L_law 0 (st_w xs L) = some (1, w) := by
  sorry
theorem st_no {κ i : Nat} (h : ¬ ((κ = 39 ∧ i = 0) ∨ (κ = 17 ∧ i < 15) ∨ (κ = 71 ∧ i < 15) ∨ (κ = 72 ∧ i < 2) ∨ (κ = 12 ∧ i < 2) ∨ (κ = 13 ∧ (i = 0 ∨ i = 2)))) : ¬ st_al κ i := h
set_option maxHeartbeats 4000000 in
theorem whole_start {p : Program} {e : Env} {s : State} {m : MethodId} {below : List Frame} {meth : Method} {c : Code} (l : Launch) (hflags : l.flags = flags0) {b L : Nat} {xs : Nat → Int32} (hL : L ≤ 144) (C0 : lw_At p s m meth c b L xs) : W p l e room_1 s m #[Value.ref b] below meth c s.heap [] 0 0 (lw_Z below #[Value.ref b] s) (entryFrame m ([Value.ref b] : List Value).toArray 7) := by
  obtain ⟨hx, hb, hr, hml, hown, hts, hX, hbl, hlocks, hgv⟩ := id C0
  have hs : ∀ c ∈ flatC (Jvm.Cond.and given_1 narrow_1), c.before #[Value.ref b] s = true := flat_of_before _ hgv
  have hs' : ∀ c, stA c → c.before #[Value.ref b] s = true := fun c h => hs c h
  have hts' : ∀ w ∈ lw_all, w.before #[Value.ref b] s = true := fun w h => hts w (lw_all_tbl h)
  obtain ⟨dC, dI, hC⟩ := st_cls hts'
  obtain ⟨dA, hAr⟩ := st_arr hts
  obtain ⟨K, V, hlit⟩ := st_lits hs'
  obtain ⟨D0, d0⟩ := st_dig hs' st_d0
  obtain ⟨D1, d1⟩ := st_dig hs' st_d1
  have hd : s.vm.findClass "TracePeaks" = some (dC 0) := ((hC 0 _ rfl).2).1
  obtain ⟨mC, mA, hlam⟩ := st_lam hd hs
  have hIn : st_In s #[Value.ref b] dC dI dA b L xs K V (fun i => if i = 0 then D0 else D1) mC mA := ⟨hC, hAr, hlit, fun t ht => by
    simp only [jdig, List.mem_cons, List.not_mem_nil, or_false] at ht
    rcases ht with rfl | rfl
    · exact d0
    · exact d1, hlam, hX⟩
  have hK := st_K (l := l) hflags hts hs hIn
  have hR := st_R (l := l) hs' hIn
  obtain ⟨w', hw⟩ := pl_law xs hL
  have hl := lv_entry ([.ref b]) (n := 7) (Nat.le_of_ble_eq_true rfl)
  rw [lg_entry_eq]
  have hJ := mt_L_law (g := st_g l dC dI dA s b K V (fun i => if i = 0 then D0 else D1) mC mA) (B := st_Bk b K V (fun i => if i = 0 then D0 else D1) mA) (i0 := 0) (w := st_w xs L) ⟨Or.inl ⟨rfl, rfl⟩, Or.inl ⟨rfl, rfl⟩⟩ st_lit rfl
    (st_no (by decide)) (st_no (by decide)) (st_no (by decide)) (st_no (by decide)) (st_no (by decide)) (st_no (by decide)) (st_no (by decide)) (st_no (by decide)) (st_no (by decide)) (st_no (by decide)) (st_no (by decide)) (st_no (by decide)) (st_no (by decide)) (st_no (by decide)) (st_no (by decide)) (st_no (by decide)) (st_no (by decide)) (st_no (by decide)) (st_no (by decide)) (st_no (by decide)) (st_no (by decide)) (st_no (by decide)) (st_no (by decide)) (st_no (by decide)) (st_no (by decide)) (st_no (by decide)) (st_no (by decide)) (st_no (by decide)) (st_no (by decide)) (st_no (by decide)) (st_no (by decide)) (st_no (by decide)) (st_no (by decide)) (st_no (by decide)) (st_no (by decide)) (st_no (by decide)) (st_no (by decide)) (st_no (by decide)) (st_no (by decide)) (st_no (by decide)) (st_no (by decide)) (st_no (by decide)) (st_no (by decide)) (st_no (by decide)) (st_no (by decide)) (st_no (by decide)) (st_no (by decide)) (st_no (by decide)) (st_no (by decide)) (st_no (by decide)) (st_no (by decide)) (st_no (by decide)) (st_no (by decide)) (st_no (by decide)) (st_no (by decide)) (st_no (by decide)) (st_no (by decide)) (st_no (by decide)) (st_no (by decide)) (st_no (by decide)) (st_no (by decide)) (st_no (by decide)) (st_no (by decide)) (st_no (by decide)) (st_no (by decide)) (st_no (by decide)) (st_no (by decide)) (st_no (by decide)) (st_no (by decide)) (st_no (by decide)) (st_no (by decide)) (st_no (by decide)) (st_no (by decide)) (st_no (by decide))
    (fun i h => by
      have h : st_bu 26 i := h
      unfold st_bu at h
      omega)
    ⟨Or.inr (Or.inr (Or.inr (Or.inr (Or.inl ⟨rfl, by decide⟩)))), rfl⟩ ⟨Or.inr (Or.inr (Or.inr (Or.inr (Or.inl ⟨rfl, by decide⟩)))), rfl⟩ ⟨Or.inr (Or.inr (Or.inr (Or.inr (Or.inr ⟨rfl, Or.inl rfl⟩)))), rfl⟩ ⟨Or.inr (Or.inr (Or.inr (Or.inr (Or.inr ⟨rfl, Or.inr rfl⟩)))), rfl⟩
    (p, e, room_1, s, m, #[Value.ref b], below, meth, c) ⟨hx, hb, hml, hown, hts', hK, hlocks, hr, rfl⟩ ⟨b, rfl⟩ rfl
  intro T hT X
  obtain ⟨t, a1, b1⟩ := hJ 1 w' hw s.heap [] _ hl hR (fun q h => by cases h) T hT X
  exact ⟨t, a1, b1 rfl⟩
