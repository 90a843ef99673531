/-! DECODE ROWS BY BYTES: one lemma an opcode; a method's code is cut into short pieces once, and a row reads its own piece alone. -/
set_option maxRecDepth 100000
/-- the code has just these bytes from pc on -/
def DkAt (code : ByteArray) (pc : Nat) (bs : List UInt8) : Prop := ∀ (j : Nat) (b : UInt8), bs[j]? = some b → code.data.toList[pc + j]? = some b
/-- the piece W has the bytes bs from its place j on -/
def dkIn (W : List UInt8) (j : Nat) (bs : List UInt8) : Bool := decide ((W.drop j).take bs.length = bs)
theorem dk_seg {l W T : List UInt8} {o o2 : Nat} (h : l.drop o = W ++ T) (n : Nat) (hn : W.length = n) (ho : o + n = o2) : l.drop o2 = T := by
  subst ho
  rw [← List.drop_drop, h, List.drop_left' hn]
theorem dk_at {code : ByteArray} {W T bs : List UInt8} {o pc : Nat} (h : code.data.toList.drop o = W ++ T) (j : Nat) (hp : o + j = pc) (hw : dkIn W j bs = true) : DkAt code pc bs := by
  subst hp
  intro i b e
  have h1 := of_decide_eq_true hw
  have h2 : i < bs.length := (List.getElem?_eq_some_iff.mp e).1
  have h3 : W[j + i]? = some b := by
    rw [← h1, List.getElem?_take, if_pos h2, List.getElem?_drop] at e
    exact e
  have h4 : j + i < W.length := (List.getElem?_eq_some_iff.mp h3).1
  have h5 : (code.data.toList.drop o)[j + i]? = some b := by
    rw [h, List.getElem?_append_left h4]
    exact h3
  rw [List.getElem?_drop, ← Nat.add_assoc] at h5
  exact h5
theorem dk_u1 {A : ByteArray} {p : Nat} {b : UInt8} (h : A.data.toList[p]? = some b) : (Reader.u1 : Reader DecodeError Nat) A p = .ok (b.toNat, p + 1) := by
  obtain ⟨h1, h2⟩ := List.getElem?_eq_some_iff.mp h
  have h3 : p < A.size := by simpa using h1
  have h4 : A[p]'h3 = b := h2
  have e : (Reader.u1 : Reader DecodeError Nat) A p = (if h : p < A.size then .ok (A[p].toNat, p + 1) else .error (HasTruncated.truncated p)) := by
    show (do if h : p < A.size then do set (p + 1); Pure.pure A[p].toNat else MonadExcept.throw (HasTruncated.truncated p) : Reader DecodeError Nat) A p = _
    by_cases hi : p < A.size
    · rw [dif_pos hi, dif_pos hi]; rfl
    · rw [dif_neg hi, dif_neg hi]; rfl
  rw [e, dif_pos h3, h4]
theorem dk_bind {α β : Type} {r : Reader DecodeError α} {f : α → Reader DecodeError β} {A : ByteArray} {p s : Nat} {a : α} (h : r A p = .ok (a, s)) : (r >>= f) A p = f a A s := by
  show (do let (a, s) ← r A p; f a A s : Except DecodeError (β × Nat)) = _
  rw [h]
  rfl
theorem dk_map {α β : Type} {r : Reader DecodeError α} {g : α → β} {A : ByteArray} {p s : Nat} {a : α} (h : r A p = .ok (a, s)) : (g <$> r) A p = .ok (g a, s) := by
  show (do let (a, s) ← r A p; .ok (g a, s) : Except DecodeError (β × Nat)) = _
  rw [h]
  rfl
theorem dk_u2 {A : ByteArray} {p : Nat} {a b : UInt8} (h : A.data.toList[p]? = some a) (h2 : A.data.toList[p + 1]? = some b) : (Reader.u2 : Reader DecodeError Nat) A p = .ok (a.toNat * 256 + b.toNat, p + 2) := by
  show (Reader.u1 >>= fun hi => Reader.u1 >>= fun lo => Pure.pure (hi * 256 + lo) : Reader DecodeError Nat) A p = _
  rw [dk_bind (dk_u1 h), dk_bind (dk_u1 h2)]
  rfl
theorem dk_of {code : ByteArray} {pc n : Nat} {i : Instr} (h : Decoder.instr pc code pc = .ok (i, pc + n)) : decode code pc = .ok (i, n) := by
  have e : decode code pc = (match Decoder.instr pc code pc with | .error x => .error x | .ok (j, s) => .ok (j, s - pc)) := by
    show (do let (j, s) ← Decoder.instr pc code pc; Pure.pure (j, s - pc) : Except DecodeError (Instr × Nat)) = _
    cases Decoder.instr pc code pc <;> rfl
  rw [e, h]
  show Except.ok (i, pc + n - pc) = _
  rw [Nat.add_sub_cancel_left]
theorem dk_1 {code : ByteArray} {pc : Nat} (h : DkAt code pc [1]) : decode code pc = .ok (.aconst_null, 1) := dk_of ((dk_bind (dk_u1 (h 0 _ rfl))).trans rfl)
theorem dk_2 {code : ByteArray} {pc : Nat} (h : DkAt code pc [2]) : decode code pc = .ok (.iconst (-1), 1) := dk_of ((dk_bind (dk_u1 (h 0 _ rfl))).trans rfl)
theorem dk_3 {code : ByteArray} {pc : Nat} (h : DkAt code pc [3]) : decode code pc = .ok (.iconst 0, 1) := dk_of ((dk_bind (dk_u1 (h 0 _ rfl))).trans rfl)
theorem dk_4 {code : ByteArray} {pc : Nat} (h : DkAt code pc [4]) : decode code pc = .ok (.iconst 1, 1) := dk_of ((dk_bind (dk_u1 (h 0 _ rfl))).trans rfl)
theorem dk_5 {code : ByteArray} {pc : Nat} (h : DkAt code pc [5]) : decode code pc = .ok (.iconst 2, 1) := dk_of ((dk_bind (dk_u1 (h 0 _ rfl))).trans rfl)
theorem dk_6 {code : ByteArray} {pc : Nat} (h : DkAt code pc [6]) : decode code pc = .ok (.iconst 3, 1) := dk_of ((dk_bind (dk_u1 (h 0 _ rfl))).trans rfl)
theorem dk_7 {code : ByteArray} {pc : Nat} (h : DkAt code pc [7]) : decode code pc = .ok (.iconst 4, 1) := dk_of ((dk_bind (dk_u1 (h 0 _ rfl))).trans rfl)
theorem dk_8 {code : ByteArray} {pc : Nat} (h : DkAt code pc [8]) : decode code pc = .ok (.iconst 5, 1) := dk_of ((dk_bind (dk_u1 (h 0 _ rfl))).trans rfl)
theorem dk_9 {code : ByteArray} {pc : Nat} (h : DkAt code pc [9]) : decode code pc = .ok (.lconst 0, 1) := dk_of ((dk_bind (dk_u1 (h 0 _ rfl))).trans rfl)
theorem dk_10 {code : ByteArray} {pc : Nat} (h : DkAt code pc [10]) : decode code pc = .ok (.lconst 1, 1) := dk_of ((dk_bind (dk_u1 (h 0 _ rfl))).trans rfl)
theorem dk_16 {code : ByteArray} {pc : Nat} (a : UInt8) (h : DkAt code pc [16, a]) : decode code pc = .ok (.bipush (Reader.signed 8 a.toNat), 2) := dk_of ((dk_bind (dk_u1 (h 0 _ rfl))).trans ((dk_bind (dk_map (dk_u1 (h 1 _ rfl)))).trans rfl))
theorem dk_17 {code : ByteArray} {pc : Nat} (a b : UInt8) (h : DkAt code pc [17, a, b]) : decode code pc = .ok (.sipush (Reader.signed 16 (a.toNat * 256 + b.toNat)), 3) := dk_of ((dk_bind (dk_u1 (h 0 _ rfl))).trans ((dk_bind (dk_map (dk_u2 (h 1 _ rfl) (h 2 _ rfl)))).trans rfl))
theorem dk_18 {code : ByteArray} {pc : Nat} (a : UInt8) (h : DkAt code pc [18, a]) : decode code pc = .ok (.ldc a.toNat, 2) := dk_of ((dk_bind (dk_u1 (h 0 _ rfl))).trans ((dk_bind (dk_u1 (h 1 _ rfl))).trans rfl))
theorem dk_19 {code : ByteArray} {pc : Nat} (a b : UInt8) (h : DkAt code pc [19, a, b]) : decode code pc = .ok (.ldc_w (a.toNat * 256 + b.toNat), 3) := dk_of ((dk_bind (dk_u1 (h 0 _ rfl))).trans ((dk_bind (dk_u2 (h 1 _ rfl) (h 2 _ rfl))).trans rfl))
theorem dk_20 {code : ByteArray} {pc : Nat} (a b : UInt8) (h : DkAt code pc [20, a, b]) : decode code pc = .ok (.ldc2_w (a.toNat * 256 + b.toNat), 3) := dk_of ((dk_bind (dk_u1 (h 0 _ rfl))).trans ((dk_bind (dk_u2 (h 1 _ rfl) (h 2 _ rfl))).trans rfl))
theorem dk_21 {code : ByteArray} {pc : Nat} (a : UInt8) (h : DkAt code pc [21, a]) : decode code pc = .ok (.iload a.toNat, 2) := dk_of ((dk_bind (dk_u1 (h 0 _ rfl))).trans ((dk_bind (dk_u1 (h 1 _ rfl))).trans rfl))
theorem dk_22 {code : ByteArray} {pc : Nat} (a : UInt8) (h : DkAt code pc [22, a]) : decode code pc = .ok (.lload a.toNat, 2) := dk_of ((dk_bind (dk_u1 (h 0 _ rfl))).trans ((dk_bind (dk_u1 (h 1 _ rfl))).trans rfl))
theorem dk_25 {code : ByteArray} {pc : Nat} (a : UInt8) (h : DkAt code pc [25, a]) : decode code pc = .ok (.aload a.toNat, 2) := dk_of ((dk_bind (dk_u1 (h 0 _ rfl))).trans ((dk_bind (dk_u1 (h 1 _ rfl))).trans rfl))
theorem dk_26 {code : ByteArray} {pc : Nat} (h : DkAt code pc [26]) : decode code pc = .ok (.iload_n 0, 1) := dk_of ((dk_bind (dk_u1 (h 0 _ rfl))).trans rfl)
theorem dk_27 {code : ByteArray} {pc : Nat} (h : DkAt code pc [27]) : decode code pc = .ok (.iload_n 1, 1) := dk_of ((dk_bind (dk_u1 (h 0 _ rfl))).trans rfl)
theorem dk_28 {code : ByteArray} {pc : Nat} (h : DkAt code pc [28]) : decode code pc = .ok (.iload_n 2, 1) := dk_of ((dk_bind (dk_u1 (h 0 _ rfl))).trans rfl)
theorem dk_29 {code : ByteArray} {pc : Nat} (h : DkAt code pc [29]) : decode code pc = .ok (.iload_n 3, 1) := dk_of ((dk_bind (dk_u1 (h 0 _ rfl))).trans rfl)
theorem dk_30 {code : ByteArray} {pc : Nat} (h : DkAt code pc [30]) : decode code pc = .ok (.lload_n 0, 1) := dk_of ((dk_bind (dk_u1 (h 0 _ rfl))).trans rfl)
theorem dk_31 {code : ByteArray} {pc : Nat} (h : DkAt code pc [31]) : decode code pc = .ok (.lload_n 1, 1) := dk_of ((dk_bind (dk_u1 (h 0 _ rfl))).trans rfl)
theorem dk_32 {code : ByteArray} {pc : Nat} (h : DkAt code pc [32]) : decode code pc = .ok (.lload_n 2, 1) := dk_of ((dk_bind (dk_u1 (h 0 _ rfl))).trans rfl)
theorem dk_33 {code : ByteArray} {pc : Nat} (h : DkAt code pc [33]) : decode code pc = .ok (.lload_n 3, 1) := dk_of ((dk_bind (dk_u1 (h 0 _ rfl))).trans rfl)
theorem dk_42 {code : ByteArray} {pc : Nat} (h : DkAt code pc [42]) : decode code pc = .ok (.aload_n 0, 1) := dk_of ((dk_bind (dk_u1 (h 0 _ rfl))).trans rfl)
theorem dk_43 {code : ByteArray} {pc : Nat} (h : DkAt code pc [43]) : decode code pc = .ok (.aload_n 1, 1) := dk_of ((dk_bind (dk_u1 (h 0 _ rfl))).trans rfl)
theorem dk_44 {code : ByteArray} {pc : Nat} (h : DkAt code pc [44]) : decode code pc = .ok (.aload_n 2, 1) := dk_of ((dk_bind (dk_u1 (h 0 _ rfl))).trans rfl)
theorem dk_45 {code : ByteArray} {pc : Nat} (h : DkAt code pc [45]) : decode code pc = .ok (.aload_n 3, 1) := dk_of ((dk_bind (dk_u1 (h 0 _ rfl))).trans rfl)
theorem dk_46 {code : ByteArray} {pc : Nat} (h : DkAt code pc [46]) : decode code pc = .ok (.iaload, 1) := dk_of ((dk_bind (dk_u1 (h 0 _ rfl))).trans rfl)
theorem dk_47 {code : ByteArray} {pc : Nat} (h : DkAt code pc [47]) : decode code pc = .ok (.laload, 1) := dk_of ((dk_bind (dk_u1 (h 0 _ rfl))).trans rfl)
theorem dk_50 {code : ByteArray} {pc : Nat} (h : DkAt code pc [50]) : decode code pc = .ok (.aaload, 1) := dk_of ((dk_bind (dk_u1 (h 0 _ rfl))).trans rfl)
theorem dk_51 {code : ByteArray} {pc : Nat} (h : DkAt code pc [51]) : decode code pc = .ok (.baload, 1) := dk_of ((dk_bind (dk_u1 (h 0 _ rfl))).trans rfl)
theorem dk_52 {code : ByteArray} {pc : Nat} (h : DkAt code pc [52]) : decode code pc = .ok (.caload, 1) := dk_of ((dk_bind (dk_u1 (h 0 _ rfl))).trans rfl)
theorem dk_53 {code : ByteArray} {pc : Nat} (h : DkAt code pc [53]) : decode code pc = .ok (.saload, 1) := dk_of ((dk_bind (dk_u1 (h 0 _ rfl))).trans rfl)
theorem dk_54 {code : ByteArray} {pc : Nat} (a : UInt8) (h : DkAt code pc [54, a]) : decode code pc = .ok (.istore a.toNat, 2) := dk_of ((dk_bind (dk_u1 (h 0 _ rfl))).trans ((dk_bind (dk_u1 (h 1 _ rfl))).trans rfl))
theorem dk_58 {code : ByteArray} {pc : Nat} (a : UInt8) (h : DkAt code pc [58, a]) : decode code pc = .ok (.astore a.toNat, 2) := dk_of ((dk_bind (dk_u1 (h 0 _ rfl))).trans ((dk_bind (dk_u1 (h 1 _ rfl))).trans rfl))
theorem dk_59 {code : ByteArray} {pc : Nat} (h : DkAt code pc [59]) : decode code pc = .ok (.istore_n 0, 1) := dk_of ((dk_bind (dk_u1 (h 0 _ rfl))).trans rfl)
theorem dk_60 {code : ByteArray} {pc : Nat} (h : DkAt code pc [60]) : decode code pc = .ok (.istore_n 1, 1) := dk_of ((dk_bind (dk_u1 (h 0 _ rfl))).trans rfl)
theorem dk_61 {code : ByteArray} {pc : Nat} (h : DkAt code pc [61]) : decode code pc = .ok (.istore_n 2, 1) := dk_of ((dk_bind (dk_u1 (h 0 _ rfl))).trans rfl)
theorem dk_62 {code : ByteArray} {pc : Nat} (h : DkAt code pc [62]) : decode code pc = .ok (.istore_n 3, 1) := dk_of ((dk_bind (dk_u1 (h 0 _ rfl))).trans rfl)
theorem dk_66 {code : ByteArray} {pc : Nat} (h : DkAt code pc [66]) : decode code pc = .ok (.lstore_n 3, 1) := dk_of ((dk_bind (dk_u1 (h 0 _ rfl))).trans rfl)
theorem dk_76 {code : ByteArray} {pc : Nat} (h : DkAt code pc [76]) : decode code pc = .ok (.astore_n 1, 1) := dk_of ((dk_bind (dk_u1 (h 0 _ rfl))).trans rfl)
theorem dk_77 {code : ByteArray} {pc : Nat} (h : DkAt code pc [77]) : decode code pc = .ok (.astore_n 2, 1) := dk_of ((dk_bind (dk_u1 (h 0 _ rfl))).trans rfl)
theorem dk_78 {code : ByteArray} {pc : Nat} (h : DkAt code pc [78]) : decode code pc = .ok (.astore_n 3, 1) := dk_of ((dk_bind (dk_u1 (h 0 _ rfl))).trans rfl)
theorem dk_79 {code : ByteArray} {pc : Nat} (h : DkAt code pc [79]) : decode code pc = .ok (.iastore, 1) := dk_of ((dk_bind (dk_u1 (h 0 _ rfl))).trans rfl)
theorem dk_80 {code : ByteArray} {pc : Nat} (h : DkAt code pc [80]) : decode code pc = .ok (.lastore, 1) := dk_of ((dk_bind (dk_u1 (h 0 _ rfl))).trans rfl)
theorem dk_83 {code : ByteArray} {pc : Nat} (h : DkAt code pc [83]) : decode code pc = .ok (.aastore, 1) := dk_of ((dk_bind (dk_u1 (h 0 _ rfl))).trans rfl)
theorem dk_84 {code : ByteArray} {pc : Nat} (h : DkAt code pc [84]) : decode code pc = .ok (.bastore, 1) := dk_of ((dk_bind (dk_u1 (h 0 _ rfl))).trans rfl)
theorem dk_87 {code : ByteArray} {pc : Nat} (h : DkAt code pc [87]) : decode code pc = .ok (.pop, 1) := dk_of ((dk_bind (dk_u1 (h 0 _ rfl))).trans rfl)
theorem dk_89 {code : ByteArray} {pc : Nat} (h : DkAt code pc [89]) : decode code pc = .ok (.dup, 1) := dk_of ((dk_bind (dk_u1 (h 0 _ rfl))).trans rfl)
theorem dk_90 {code : ByteArray} {pc : Nat} (h : DkAt code pc [90]) : decode code pc = .ok (.dup_x1, 1) := dk_of ((dk_bind (dk_u1 (h 0 _ rfl))).trans rfl)
theorem dk_92 {code : ByteArray} {pc : Nat} (h : DkAt code pc [92]) : decode code pc = .ok (.dup2, 1) := dk_of ((dk_bind (dk_u1 (h 0 _ rfl))).trans rfl)
theorem dk_96 {code : ByteArray} {pc : Nat} (h : DkAt code pc [96]) : decode code pc = .ok (.iadd, 1) := dk_of ((dk_bind (dk_u1 (h 0 _ rfl))).trans rfl)
theorem dk_97 {code : ByteArray} {pc : Nat} (h : DkAt code pc [97]) : decode code pc = .ok (.ladd, 1) := dk_of ((dk_bind (dk_u1 (h 0 _ rfl))).trans rfl)
theorem dk_100 {code : ByteArray} {pc : Nat} (h : DkAt code pc [100]) : decode code pc = .ok (.isub, 1) := dk_of ((dk_bind (dk_u1 (h 0 _ rfl))).trans rfl)
theorem dk_101 {code : ByteArray} {pc : Nat} (h : DkAt code pc [101]) : decode code pc = .ok (.lsub, 1) := dk_of ((dk_bind (dk_u1 (h 0 _ rfl))).trans rfl)
theorem dk_104 {code : ByteArray} {pc : Nat} (h : DkAt code pc [104]) : decode code pc = .ok (.imul, 1) := dk_of ((dk_bind (dk_u1 (h 0 _ rfl))).trans rfl)
theorem dk_105 {code : ByteArray} {pc : Nat} (h : DkAt code pc [105]) : decode code pc = .ok (.lmul, 1) := dk_of ((dk_bind (dk_u1 (h 0 _ rfl))).trans rfl)
theorem dk_108 {code : ByteArray} {pc : Nat} (h : DkAt code pc [108]) : decode code pc = .ok (.idiv, 1) := dk_of ((dk_bind (dk_u1 (h 0 _ rfl))).trans rfl)
theorem dk_109 {code : ByteArray} {pc : Nat} (h : DkAt code pc [109]) : decode code pc = .ok (.ldiv, 1) := dk_of ((dk_bind (dk_u1 (h 0 _ rfl))).trans rfl)
theorem dk_112 {code : ByteArray} {pc : Nat} (h : DkAt code pc [112]) : decode code pc = .ok (.irem, 1) := dk_of ((dk_bind (dk_u1 (h 0 _ rfl))).trans rfl)
theorem dk_113 {code : ByteArray} {pc : Nat} (h : DkAt code pc [113]) : decode code pc = .ok (.lrem, 1) := dk_of ((dk_bind (dk_u1 (h 0 _ rfl))).trans rfl)
theorem dk_116 {code : ByteArray} {pc : Nat} (h : DkAt code pc [116]) : decode code pc = .ok (.ineg, 1) := dk_of ((dk_bind (dk_u1 (h 0 _ rfl))).trans rfl)
theorem dk_120 {code : ByteArray} {pc : Nat} (h : DkAt code pc [120]) : decode code pc = .ok (.ishl, 1) := dk_of ((dk_bind (dk_u1 (h 0 _ rfl))).trans rfl)
theorem dk_121 {code : ByteArray} {pc : Nat} (h : DkAt code pc [121]) : decode code pc = .ok (.lshl, 1) := dk_of ((dk_bind (dk_u1 (h 0 _ rfl))).trans rfl)
theorem dk_122 {code : ByteArray} {pc : Nat} (h : DkAt code pc [122]) : decode code pc = .ok (.ishr, 1) := dk_of ((dk_bind (dk_u1 (h 0 _ rfl))).trans rfl)
theorem dk_124 {code : ByteArray} {pc : Nat} (h : DkAt code pc [124]) : decode code pc = .ok (.iushr, 1) := dk_of ((dk_bind (dk_u1 (h 0 _ rfl))).trans rfl)
theorem dk_125 {code : ByteArray} {pc : Nat} (h : DkAt code pc [125]) : decode code pc = .ok (.lushr, 1) := dk_of ((dk_bind (dk_u1 (h 0 _ rfl))).trans rfl)
theorem dk_126 {code : ByteArray} {pc : Nat} (h : DkAt code pc [126]) : decode code pc = .ok (.iand, 1) := dk_of ((dk_bind (dk_u1 (h 0 _ rfl))).trans rfl)
theorem dk_127 {code : ByteArray} {pc : Nat} (h : DkAt code pc [127]) : decode code pc = .ok (.land, 1) := dk_of ((dk_bind (dk_u1 (h 0 _ rfl))).trans rfl)
theorem dk_128 {code : ByteArray} {pc : Nat} (h : DkAt code pc [128]) : decode code pc = .ok (.ior, 1) := dk_of ((dk_bind (dk_u1 (h 0 _ rfl))).trans rfl)
theorem dk_129 {code : ByteArray} {pc : Nat} (h : DkAt code pc [129]) : decode code pc = .ok (.lor, 1) := dk_of ((dk_bind (dk_u1 (h 0 _ rfl))).trans rfl)
theorem dk_130 {code : ByteArray} {pc : Nat} (h : DkAt code pc [130]) : decode code pc = .ok (.ixor, 1) := dk_of ((dk_bind (dk_u1 (h 0 _ rfl))).trans rfl)
theorem dk_132 {code : ByteArray} {pc : Nat} (a b : UInt8) (h : DkAt code pc [132, a, b]) : decode code pc = .ok (.iinc a.toNat (Reader.signed 8 b.toNat), 3) := dk_of ((dk_bind (dk_u1 (h 0 _ rfl))).trans ((dk_bind (dk_u1 (h 1 _ rfl))).trans ((dk_bind (dk_map (dk_u1 (h 2 _ rfl)))).trans rfl)))
theorem dk_133 {code : ByteArray} {pc : Nat} (h : DkAt code pc [133]) : decode code pc = .ok (.i2l, 1) := dk_of ((dk_bind (dk_u1 (h 0 _ rfl))).trans rfl)
theorem dk_136 {code : ByteArray} {pc : Nat} (h : DkAt code pc [136]) : decode code pc = .ok (.l2i, 1) := dk_of ((dk_bind (dk_u1 (h 0 _ rfl))).trans rfl)
theorem dk_145 {code : ByteArray} {pc : Nat} (h : DkAt code pc [145]) : decode code pc = .ok (.i2b, 1) := dk_of ((dk_bind (dk_u1 (h 0 _ rfl))).trans rfl)
theorem dk_146 {code : ByteArray} {pc : Nat} (h : DkAt code pc [146]) : decode code pc = .ok (.i2c, 1) := dk_of ((dk_bind (dk_u1 (h 0 _ rfl))).trans rfl)
theorem dk_148 {code : ByteArray} {pc : Nat} (h : DkAt code pc [148]) : decode code pc = .ok (.lcmp, 1) := dk_of ((dk_bind (dk_u1 (h 0 _ rfl))).trans rfl)
theorem dk_153 {code : ByteArray} {pc : Nat} (a b : UInt8) (h : DkAt code pc [153, a, b]) : decode code pc = .ok (.ifCond .eq (Reader.signed 16 (a.toNat * 256 + b.toNat)), 3) := dk_of ((dk_bind (dk_u1 (h 0 _ rfl))).trans ((dk_bind (dk_map (dk_u2 (h 1 _ rfl) (h 2 _ rfl)))).trans rfl))
theorem dk_154 {code : ByteArray} {pc : Nat} (a b : UInt8) (h : DkAt code pc [154, a, b]) : decode code pc = .ok (.ifCond .ne (Reader.signed 16 (a.toNat * 256 + b.toNat)), 3) := dk_of ((dk_bind (dk_u1 (h 0 _ rfl))).trans ((dk_bind (dk_map (dk_u2 (h 1 _ rfl) (h 2 _ rfl)))).trans rfl))
theorem dk_155 {code : ByteArray} {pc : Nat} (a b : UInt8) (h : DkAt code pc [155, a, b]) : decode code pc = .ok (.ifCond .lt (Reader.signed 16 (a.toNat * 256 + b.toNat)), 3) := dk_of ((dk_bind (dk_u1 (h 0 _ rfl))).trans ((dk_bind (dk_map (dk_u2 (h 1 _ rfl) (h 2 _ rfl)))).trans rfl))
theorem dk_156 {code : ByteArray} {pc : Nat} (a b : UInt8) (h : DkAt code pc [156, a, b]) : decode code pc = .ok (.ifCond .ge (Reader.signed 16 (a.toNat * 256 + b.toNat)), 3) := dk_of ((dk_bind (dk_u1 (h 0 _ rfl))).trans ((dk_bind (dk_map (dk_u2 (h 1 _ rfl) (h 2 _ rfl)))).trans rfl))
theorem dk_157 {code : ByteArray} {pc : Nat} (a b : UInt8) (h : DkAt code pc [157, a, b]) : decode code pc = .ok (.ifCond .gt (Reader.signed 16 (a.toNat * 256 + b.toNat)), 3) := dk_of ((dk_bind (dk_u1 (h 0 _ rfl))).trans ((dk_bind (dk_map (dk_u2 (h 1 _ rfl) (h 2 _ rfl)))).trans rfl))
theorem dk_158 {code : ByteArray} {pc : Nat} (a b : UInt8) (h : DkAt code pc [158, a, b]) : decode code pc = .ok (.ifCond .le (Reader.signed 16 (a.toNat * 256 + b.toNat)), 3) := dk_of ((dk_bind (dk_u1 (h 0 _ rfl))).trans ((dk_bind (dk_map (dk_u2 (h 1 _ rfl) (h 2 _ rfl)))).trans rfl))
theorem dk_159 {code : ByteArray} {pc : Nat} (a b : UInt8) (h : DkAt code pc [159, a, b]) : decode code pc = .ok (.if_icmp .eq (Reader.signed 16 (a.toNat * 256 + b.toNat)), 3) := dk_of ((dk_bind (dk_u1 (h 0 _ rfl))).trans ((dk_bind (dk_map (dk_u2 (h 1 _ rfl) (h 2 _ rfl)))).trans rfl))
theorem dk_160 {code : ByteArray} {pc : Nat} (a b : UInt8) (h : DkAt code pc [160, a, b]) : decode code pc = .ok (.if_icmp .ne (Reader.signed 16 (a.toNat * 256 + b.toNat)), 3) := dk_of ((dk_bind (dk_u1 (h 0 _ rfl))).trans ((dk_bind (dk_map (dk_u2 (h 1 _ rfl) (h 2 _ rfl)))).trans rfl))
theorem dk_161 {code : ByteArray} {pc : Nat} (a b : UInt8) (h : DkAt code pc [161, a, b]) : decode code pc = .ok (.if_icmp .lt (Reader.signed 16 (a.toNat * 256 + b.toNat)), 3) := dk_of ((dk_bind (dk_u1 (h 0 _ rfl))).trans ((dk_bind (dk_map (dk_u2 (h 1 _ rfl) (h 2 _ rfl)))).trans rfl))
theorem dk_162 {code : ByteArray} {pc : Nat} (a b : UInt8) (h : DkAt code pc [162, a, b]) : decode code pc = .ok (.if_icmp .ge (Reader.signed 16 (a.toNat * 256 + b.toNat)), 3) := dk_of ((dk_bind (dk_u1 (h 0 _ rfl))).trans ((dk_bind (dk_map (dk_u2 (h 1 _ rfl) (h 2 _ rfl)))).trans rfl))
theorem dk_163 {code : ByteArray} {pc : Nat} (a b : UInt8) (h : DkAt code pc [163, a, b]) : decode code pc = .ok (.if_icmp .gt (Reader.signed 16 (a.toNat * 256 + b.toNat)), 3) := dk_of ((dk_bind (dk_u1 (h 0 _ rfl))).trans ((dk_bind (dk_map (dk_u2 (h 1 _ rfl) (h 2 _ rfl)))).trans rfl))
theorem dk_164 {code : ByteArray} {pc : Nat} (a b : UInt8) (h : DkAt code pc [164, a, b]) : decode code pc = .ok (.if_icmp .le (Reader.signed 16 (a.toNat * 256 + b.toNat)), 3) := dk_of ((dk_bind (dk_u1 (h 0 _ rfl))).trans ((dk_bind (dk_map (dk_u2 (h 1 _ rfl) (h 2 _ rfl)))).trans rfl))
theorem dk_166 {code : ByteArray} {pc : Nat} (a b : UInt8) (h : DkAt code pc [166, a, b]) : decode code pc = .ok (.if_acmp .ne (Reader.signed 16 (a.toNat * 256 + b.toNat)), 3) := dk_of ((dk_bind (dk_u1 (h 0 _ rfl))).trans ((dk_bind (dk_map (dk_u2 (h 1 _ rfl) (h 2 _ rfl)))).trans rfl))
theorem dk_167 {code : ByteArray} {pc : Nat} (a b : UInt8) (h : DkAt code pc [167, a, b]) : decode code pc = .ok (.goto (Reader.signed 16 (a.toNat * 256 + b.toNat)), 3) := dk_of ((dk_bind (dk_u1 (h 0 _ rfl))).trans ((dk_bind (dk_map (dk_u2 (h 1 _ rfl) (h 2 _ rfl)))).trans rfl))
theorem dk_172 {code : ByteArray} {pc : Nat} (h : DkAt code pc [172]) : decode code pc = .ok (.ireturn, 1) := dk_of ((dk_bind (dk_u1 (h 0 _ rfl))).trans rfl)
theorem dk_173 {code : ByteArray} {pc : Nat} (h : DkAt code pc [173]) : decode code pc = .ok (.lreturn, 1) := dk_of ((dk_bind (dk_u1 (h 0 _ rfl))).trans rfl)
theorem dk_176 {code : ByteArray} {pc : Nat} (h : DkAt code pc [176]) : decode code pc = .ok (.areturn, 1) := dk_of ((dk_bind (dk_u1 (h 0 _ rfl))).trans rfl)
theorem dk_177 {code : ByteArray} {pc : Nat} (h : DkAt code pc [177]) : decode code pc = .ok (.return_, 1) := dk_of ((dk_bind (dk_u1 (h 0 _ rfl))).trans rfl)
theorem dk_178 {code : ByteArray} {pc : Nat} (a b : UInt8) (h : DkAt code pc [178, a, b]) : decode code pc = .ok (.getstatic (a.toNat * 256 + b.toNat), 3) := dk_of ((dk_bind (dk_u1 (h 0 _ rfl))).trans ((dk_bind (dk_u2 (h 1 _ rfl) (h 2 _ rfl))).trans rfl))
theorem dk_180 {code : ByteArray} {pc : Nat} (a b : UInt8) (h : DkAt code pc [180, a, b]) : decode code pc = .ok (.getfield (a.toNat * 256 + b.toNat), 3) := dk_of ((dk_bind (dk_u1 (h 0 _ rfl))).trans ((dk_bind (dk_u2 (h 1 _ rfl) (h 2 _ rfl))).trans rfl))
theorem dk_181 {code : ByteArray} {pc : Nat} (a b : UInt8) (h : DkAt code pc [181, a, b]) : decode code pc = .ok (.putfield (a.toNat * 256 + b.toNat), 3) := dk_of ((dk_bind (dk_u1 (h 0 _ rfl))).trans ((dk_bind (dk_u2 (h 1 _ rfl) (h 2 _ rfl))).trans rfl))
theorem dk_182 {code : ByteArray} {pc : Nat} (a b : UInt8) (h : DkAt code pc [182, a, b]) : decode code pc = .ok (.invokevirtual (a.toNat * 256 + b.toNat), 3) := dk_of ((dk_bind (dk_u1 (h 0 _ rfl))).trans ((dk_bind (dk_u2 (h 1 _ rfl) (h 2 _ rfl))).trans rfl))
theorem dk_183 {code : ByteArray} {pc : Nat} (a b : UInt8) (h : DkAt code pc [183, a, b]) : decode code pc = .ok (.invokespecial (a.toNat * 256 + b.toNat), 3) := dk_of ((dk_bind (dk_u1 (h 0 _ rfl))).trans ((dk_bind (dk_u2 (h 1 _ rfl) (h 2 _ rfl))).trans rfl))
theorem dk_184 {code : ByteArray} {pc : Nat} (a b : UInt8) (h : DkAt code pc [184, a, b]) : decode code pc = .ok (.invokestatic (a.toNat * 256 + b.toNat), 3) := dk_of ((dk_bind (dk_u1 (h 0 _ rfl))).trans ((dk_bind (dk_u2 (h 1 _ rfl) (h 2 _ rfl))).trans rfl))
theorem dk_187 {code : ByteArray} {pc : Nat} (a b : UInt8) (h : DkAt code pc [187, a, b]) : decode code pc = .ok (.new (a.toNat * 256 + b.toNat), 3) := dk_of ((dk_bind (dk_u1 (h 0 _ rfl))).trans ((dk_bind (dk_u2 (h 1 _ rfl) (h 2 _ rfl))).trans rfl))
theorem dk_188_8 {code : ByteArray} {pc : Nat} (h : DkAt code pc [188, 8]) : decode code pc = .ok (.newarray .byte, 2) := dk_of ((dk_bind (dk_u1 (h 0 _ rfl))).trans ((dk_bind (dk_u1 (h 1 _ rfl))).trans rfl))
theorem dk_188_10 {code : ByteArray} {pc : Nat} (h : DkAt code pc [188, 10]) : decode code pc = .ok (.newarray .int, 2) := dk_of ((dk_bind (dk_u1 (h 0 _ rfl))).trans ((dk_bind (dk_u1 (h 1 _ rfl))).trans rfl))
theorem dk_188_11 {code : ByteArray} {pc : Nat} (h : DkAt code pc [188, 11]) : decode code pc = .ok (.newarray .long, 2) := dk_of ((dk_bind (dk_u1 (h 0 _ rfl))).trans ((dk_bind (dk_u1 (h 1 _ rfl))).trans rfl))
theorem dk_189 {code : ByteArray} {pc : Nat} (a b : UInt8) (h : DkAt code pc [189, a, b]) : decode code pc = .ok (.anewarray (a.toNat * 256 + b.toNat), 3) := dk_of ((dk_bind (dk_u1 (h 0 _ rfl))).trans ((dk_bind (dk_u2 (h 1 _ rfl) (h 2 _ rfl))).trans rfl))
theorem dk_190 {code : ByteArray} {pc : Nat} (h : DkAt code pc [190]) : decode code pc = .ok (.arraylength, 1) := dk_of ((dk_bind (dk_u1 (h 0 _ rfl))).trans rfl)
theorem dk_191 {code : ByteArray} {pc : Nat} (h : DkAt code pc [191]) : decode code pc = .ok (.athrow, 1) := dk_of ((dk_bind (dk_u1 (h 0 _ rfl))).trans rfl)
theorem dk_192 {code : ByteArray} {pc : Nat} (a b : UInt8) (h : DkAt code pc [192, a, b]) : decode code pc = .ok (.checkcast (a.toNat * 256 + b.toNat), 3) := dk_of ((dk_bind (dk_u1 (h 0 _ rfl))).trans ((dk_bind (dk_u2 (h 1 _ rfl) (h 2 _ rfl))).trans rfl))
theorem dk_193 {code : ByteArray} {pc : Nat} (a b : UInt8) (h : DkAt code pc [193, a, b]) : decode code pc = .ok (.instanceof (a.toNat * 256 + b.toNat), 3) := dk_of ((dk_bind (dk_u1 (h 0 _ rfl))).trans ((dk_bind (dk_u2 (h 1 _ rfl) (h 2 _ rfl))).trans rfl))
theorem dk_198 {code : ByteArray} {pc : Nat} (a b : UInt8) (h : DkAt code pc [198, a, b]) : decode code pc = .ok (.ifnull (Reader.signed 16 (a.toNat * 256 + b.toNat)), 3) := dk_of ((dk_bind (dk_u1 (h 0 _ rfl))).trans ((dk_bind (dk_map (dk_u2 (h 1 _ rfl) (h 2 _ rfl)))).trans rfl))
theorem dk_199 {code : ByteArray} {pc : Nat} (a b : UInt8) (h : DkAt code pc [199, a, b]) : decode code pc = .ok (.ifnonnull (Reader.signed 16 (a.toNat * 256 + b.toNat)), 3) := dk_of ((dk_bind (dk_u1 (h 0 _ rfl))).trans ((dk_bind (dk_map (dk_u2 (h 1 _ rfl) (h 2 _ rfl)))).trans rfl))
set_option maxRecDepth 100000
def RX0 : String := "TracePeaksLaw"
abbrev cX0_peak : ByteArray := method_3_code
def yX0_peak : MethodName := ⟨RX0, "peak", "(LTracePeaks;II[J)I"⟩
theorem q119 : (Jvm.Cond.initialized "TracePeaksLaw") ∈ lw_all := lw_g (lw_at lw_m1 0 rfl) rfl
theorem q149 : (Jvm.Cond.methodLink "TracePeaksLaw" (19 : Nat) ({ cls := "TracePeaks", name := "feed", desc := "(IIIII)I" } : Jvm.MethodName)) ∈ lw_all := lw_g (lw_at lw_m1 30 rfl) rfl
theorem q161 : (Jvm.Cond.methodLink "TracePeaksLaw" (24 : Nat) ({ cls := "TracePeaks", name := "end", desc := "(I)Z" } : Jvm.MethodName)) ∈ lw_all := lw_g (lw_at lw_m1 42 rfl) rfl
theorem q165 : (Jvm.Cond.classLink "TracePeaksLaw" (8 : Nat) "TracePeaks") ∈ lw_all := lw_g (lw_at lw_m1 46 rfl) rfl
theorem q166 : (Jvm.Cond.methodLink "TracePeaksLaw" (15 : Nat) ({ cls := "TracePeaks", name := "<init>", desc := "()V" } : Jvm.MethodName)) ∈ lw_all := lw_g (lw_at lw_m1 47 rfl) rfl
theorem q436 : (Jvm.Cond.methodLink "TracePeaksLaw" (29 : Nat) ({ cls := "TracePeaks", name := "fault", desc := "(I)I" } : Jvm.MethodName)) ∈ lw_all := lw_g (lw_at lw_m2 77 rfl) rfl
theorem q945 : (Jvm.Cond.methodLink "TracePeaksLaw" (34 : Nat) ({ cls := "TracePeaks", name := "text", desc := "(I)I" } : Jvm.MethodName)) ∈ lw_all := lw_g (lw_at lw_m4 106 rfl) rfl
theorem q959 : (Jvm.Cond.methodLink "TracePeaksLaw" (68 : Nat) ({ cls := "TracePeaks", name := "smooth", desc := "()I" } : Jvm.MethodName)) ∈ lw_all := lw_g (lw_at lw_m4 120 rfl) rfl
theorem q1155 : (Jvm.Cond.methodLink "TracePeaksLaw" (72 : Nat) ({ cls := "TracePeaks", name := "median", desc := "()I" } : Jvm.MethodName)) ∈ lw_all := lw_g (lw_at lw_m5 76 rfl) rfl
theorem q1159 : (Jvm.Cond.methodLink "TracePeaksLaw" (76 : Nat) ({ cls := "TracePeaks", name := "flat", desc := "()I" } : Jvm.MethodName)) ∈ lw_all := lw_g (lw_at lw_m5 80 rfl) rfl
theorem q1163 : (Jvm.Cond.methodLink "TracePeaksLaw" (80 : Nat) ({ cls := "TracePeaks", name := "turn", desc := "()I" } : Jvm.MethodName)) ∈ lw_all := lw_g (lw_at lw_m5 84 rfl) rfl
theorem q1167 : (Jvm.Cond.methodLink "TracePeaksLaw" (84 : Nat) ({ cls := "TracePeaks", name := "clip", desc := "(I)I" } : Jvm.MethodName)) ∈ lw_all := lw_g (lw_at lw_m5 88 rfl) rfl
theorem q1171 : (Jvm.Cond.methodLink "TracePeaksLaw" (88 : Nat) ({ cls := "TracePeaks", name := "lift", desc := "(I)I" } : Jvm.MethodName)) ∈ lw_all := lw_g (lw_at lw_m5 92 rfl) rfl
theorem q1175 : (Jvm.Cond.methodLink "TracePeaksLaw" (92 : Nat) ({ cls := "TracePeaks", name := "scale", desc := "(II)I" } : Jvm.MethodName)) ∈ lw_all := lw_g (lw_at lw_m5 96 rfl) rfl
theorem q1179 : (Jvm.Cond.methodLink "TracePeaksLaw" (96 : Nat) ({ cls := "TracePeaks", name := "set", desc := "(II)I" } : Jvm.MethodName)) ∈ lw_all := lw_g (lw_at lw_m5 100 rfl) rfl
theorem q1183 : (Jvm.Cond.methodLink "TracePeaksLaw" (100 : Nat) ({ cls := "TracePeaks", name := "noise", desc := "(I)I" } : Jvm.MethodName)) ∈ lw_all := lw_g (lw_at lw_m5 104 rfl) rfl
theorem q1187 : (Jvm.Cond.methodLink "TracePeaksLaw" (104 : Nat) ({ cls := "TracePeaks", name := "cut", desc := "(II)I" } : Jvm.MethodName)) ∈ lw_all := lw_g (lw_at lw_m5 108 rfl) rfl
theorem q1191 : (Jvm.Cond.methodLink "TracePeaksLaw" (115 : Nat) ({ cls := "TracePeaks", name := "status", desc := "(I)I" } : Jvm.MethodName)) ∈ lw_all := lw_g (lw_at lw_m5 112 rfl) rfl
theorem q1195 : (Jvm.Cond.methodLink "TracePeaksLaw" (119 : Nat) ({ cls := "TracePeaks", name := "undo", desc := "()I" } : Jvm.MethodName)) ∈ lw_all := lw_g (lw_at lw_m5 116 rfl) rfl
theorem q1199 : (Jvm.Cond.methodLink "TracePeaksLaw" (123 : Nat) ({ cls := "TracePeaks", name := "log", desc := "(II)I" } : Jvm.MethodName)) ∈ lw_all := lw_g (lw_at lw_m5 120 rfl) rfl
theorem q1205 : (Jvm.Cond.methodLink "TracePeaksLaw" (110 : Nat) ({ cls := "TracePeaks", name := "ways", desc := "(IJ)I" } : Jvm.MethodName)) ∈ lw_all := lw_g (lw_at lw_m5 126 rfl) rfl
theorem q1220 : (Jvm.Cond.methodLink "TracePeaksLaw" (38 : Nat) ({ cls := "TracePeaks", name := "rule", desc := "(I)I" } : Jvm.MethodName)) ∈ lw_all := lw_g (lw_at lw_m5 141 rfl) rfl
theorem q1234 : (Jvm.Cond.methodLink "TracePeaksLaw" (42 : Nat) ({ cls := "TracePeaks", name := "sample", desc := "(I)I" } : Jvm.MethodName)) ∈ lw_all := lw_g (lw_at lw_m5 155 rfl) rfl
theorem q1239 : (Jvm.Cond.methodLink "TracePeaksLaw" (56 : Nat) ({ cls := "TracePeaks", name := "basin", desc := "(II)I" } : Jvm.MethodName)) ∈ lw_all := lw_g (lw_at lw_m5 160 rfl) rfl
theorem q1283 : (Jvm.Cond.methodLink "TracePeaksLaw" (60 : Nat) ({ cls := "TracePeaks", name := "at", desc := "(II)I" } : Jvm.MethodName)) ∈ lw_all := lw_g (lw_at lw_m5 204 rfl) rfl
theorem q1288 : (Jvm.Cond.methodLink "TracePeaksLaw" (64 : Nat) ({ cls := "TracePeaks", name := "line", desc := "(II)I" } : Jvm.MethodName)) ∈ lw_all := lw_g (lw_at lw_m5 209 rfl) rfl
theorem q1304 : (Jvm.Cond.methodLink "TracePeaksLaw" (127 : Nat) ({ cls := "TracePeaks", name := "noiseFor", desc := "(I)I" } : Jvm.MethodName)) ∈ lw_all := lw_g (lw_at lw_m5 225 rfl) rfl
theorem q1310 : (Jvm.Cond.methodLink "TracePeaksLaw" (131 : Nat) ({ cls := "TracePeaks", name := "pieces", desc := "(I)I" } : Jvm.MethodName)) ∈ lw_all := lw_g (lw_at lw_m5 231 rfl) rfl
theorem q1315 : (Jvm.Cond.methodLink "TracePeaksLaw" (135 : Nat) ({ cls := "TracePeaks", name := "room", desc := "(I)I" } : Jvm.MethodName)) ∈ lw_all := lw_g (lw_at lw_m5 236 rfl) rfl
theorem q1320 : (Jvm.Cond.methodLink "TracePeaksLaw" (139 : Nat) ({ cls := "TracePeaks", name := "unlike", desc := "()I" } : Jvm.MethodName)) ∈ lw_all := lw_g (lw_at lw_m6 1 rfl) rfl
theorem q1328 : (Jvm.Cond.methodLink "TracePeaksLaw" (143 : Nat) ({ cls := "TracePeaks", name := "shift", desc := "(I)I" } : Jvm.MethodName)) ∈ lw_all := lw_g (lw_at lw_m6 9 rfl) rfl
theorem q1332 : (Jvm.Cond.methodLink "TracePeaksLaw" (147 : Nat) ({ cls := "TracePeaks", name := "missed", desc := "()I" } : Jvm.MethodName)) ∈ lw_all := lw_g (lw_at lw_m6 13 rfl) rfl
theorem q1340 : (Jvm.Cond.methodLink "TracePeaksLaw" (151 : Nat) ({ cls := "TracePeaks", name := "would", desc := "(III)I" } : Jvm.MethodName)) ∈ lw_all := lw_g (lw_at lw_m6 21 rfl) rfl
theorem q1346 : (Jvm.Cond.methodLink "TracePeaksLaw" (156 : Nat) ({ cls := "TracePeaks", name := "solo", desc := "()I" } : Jvm.MethodName)) ∈ lw_all := lw_g (lw_at lw_m6 27 rfl) rfl
theorem q1361 : (Jvm.Cond.methodLink "TracePeaksLaw" (160 : Nat) ({ cls := "TracePeaks", name := "tallest", desc := "(I)I" } : Jvm.MethodName)) ∈ lw_all := lw_g (lw_at lw_m6 42 rfl) rfl
theorem q1372 : (Jvm.Cond.methodLink "TracePeaksLaw" (164 : Nat) ({ cls := "TracePeaks", name := "change", desc := "(I)I" } : Jvm.MethodName)) ∈ lw_all := lw_g (lw_at lw_m6 53 rfl) rfl
theorem q1376 : (Jvm.Cond.methodLink "TracePeaksLaw" (168 : Nat) ({ cls := "TracePeaks", name := "spell", desc := "(II)I" } : Jvm.MethodName)) ∈ lw_all := lw_g (lw_at lw_m6 57 rfl) rfl
theorem q1554 : (Jvm.Cond.methodLink "TracePeaksLaw" (172 : Nat) ({ cls := "TracePeaks", name := "step", desc := "(III)I" } : Jvm.MethodName)) ∈ lw_all := lw_g (lw_at lw_m6 235 rfl) rfl
theorem q1566 : (Jvm.Cond.methodLink "TracePeaksLaw" (176 : Nat) ({ cls := "TracePeaks", name := "run", desc := "(II)I" } : Jvm.MethodName)) ∈ lw_all := lw_g (lw_at lw_m7 7 rfl) rfl
theorem q1570 : (Jvm.Cond.methodLink "TracePeaksLaw" (180 : Nat) ({ cls := "TracePeaks", name := "perform", desc := "(I)I" } : Jvm.MethodName)) ∈ lw_all := lw_g (lw_at lw_m7 11 rfl) rfl
theorem q1574 : (Jvm.Cond.methodLink "TracePeaksLaw" (184 : Nat) ({ cls := "TracePeaks", name := "most", desc := "(I)I" } : Jvm.MethodName)) ∈ lw_all := lw_g (lw_at lw_m7 15 rfl) rfl
theorem q1599 : (Jvm.Cond.methodLink "TracePeaksLaw" (188 : Nat) ({ cls := "TracePeaks", name := "image", desc := "()I" } : Jvm.MethodName)) ∈ lw_all := lw_g (lw_at lw_m7 40 rfl) rfl
theorem q1603 : (Jvm.Cond.methodLink "TracePeaksLaw" (192 : Nat) ({ cls := "TracePeaks", name := "back", desc := "()I" } : Jvm.MethodName)) ∈ lw_all := lw_g (lw_at lw_m7 44 rfl) rfl
theorem q1607 : (Jvm.Cond.methodLink "TracePeaksLaw" (196 : Nat) ({ cls := "TracePeaks", name := "held", desc := "(I)I" } : Jvm.MethodName)) ∈ lw_all := lw_g (lw_at lw_m7 48 rfl) rfl
theorem q1611 : (Jvm.Cond.methodLink "TracePeaksLaw" (46 : Nat) ({ cls := "TracePeaksLaw", name := "peak", desc := "(LTracePeaks;II[J)I" } : Jvm.MethodName)) ∈ lw_all := lw_g (lw_at lw_m7 52 rfl) rfl
theorem q1612 : (Jvm.Cond.static ({ cls := "TracePeaksLaw", name := "peak", desc := "(LTracePeaks;II[J)I" } : Jvm.MethodName)) ∈ lw_all := lw_g (lw_at lw_m7 53 rfl) rfl
theorem q1613 : (Jvm.Cond.codeWith ({ cls := "TracePeaksLaw", name := "peak", desc := "(LTracePeaks;II[J)I" } : Jvm.MethodName) method_3_code (5 : Nat) (Option.some Jvm.ClassFile.FieldType.int) [((0 : Nat), (10 : Nat), (13 : Nat), (13 : Nat))]) ∈ lw_all := lw_g (lw_at lw_m7 54 rfl) rfl
theorem q1614 : (Jvm.Cond.classLink "TracePeaksLaw" (13 : Nat) "java/util/NoSuchElementException") ∈ lw_all := lw_g (lw_at lw_m7 55 rfl) rfl
theorem q1615 : (Jvm.Cond.methodLink "TracePeaksLaw" (7 : Nat) ({ cls := "TracePeaks", name := "peak", desc := "(II)I" } : Jvm.MethodName)) ∈ lw_all := lw_g (lw_at lw_m7 56 rfl) rfl
theorem q1647 : (Jvm.Cond.classLink "TracePeaksLaw" (16 : Nat) "TracePeaksModel") ∈ lw_all := lw_g (lw_at lw_m7 88 rfl) rfl
theorem q1649 : (Jvm.Cond.methodLink "TracePeaksLaw" (18 : Nat) ({ cls := "TracePeaksModel", name := "<init>", desc := "()V" } : Jvm.MethodName)) ∈ lw_all := lw_g (lw_at lw_m7 90 rfl) rfl
theorem q1811 : (Jvm.Cond.methodLink "TracePeaksLaw" (52 : Nat) ({ cls := "TracePeaksModel", name := "thrown", desc := "()I" } : Jvm.MethodName)) ∈ lw_all := lw_g (lw_at lw_m8 12 rfl) rfl
theorem q1815 : (Jvm.Cond.methodLink "TracePeaksLaw" (23 : Nat) ({ cls := "TracePeaksModel", name := "feed", desc := "(IIIII)I" } : Jvm.MethodName)) ∈ lw_all := lw_g (lw_at lw_m8 16 rfl) rfl
theorem q1822 : (Jvm.Cond.methodLink "TracePeaksLaw" (28 : Nat) ({ cls := "TracePeaksModel", name := "end", desc := "(I)Z" } : Jvm.MethodName)) ∈ lw_all := lw_g (lw_at lw_m8 23 rfl) rfl
theorem q1829 : (Jvm.Cond.methodLink "TracePeaksLaw" (33 : Nat) ({ cls := "TracePeaksModel", name := "fault", desc := "(I)I" } : Jvm.MethodName)) ∈ lw_all := lw_g (lw_at lw_m8 30 rfl) rfl
theorem q1933 : (Jvm.Cond.methodLink "TracePeaksLaw" (37 : Nat) ({ cls := "TracePeaksModel", name := "text", desc := "(I)I" } : Jvm.MethodName)) ∈ lw_all := lw_g (lw_at lw_m8 134 rfl) rfl
theorem q1945 : (Jvm.Cond.methodLink "TracePeaksLaw" (71 : Nat) ({ cls := "TracePeaksModel", name := "smooth", desc := "()I" } : Jvm.MethodName)) ∈ lw_all := lw_g (lw_at lw_m8 146 rfl) rfl
theorem q2077 : (Jvm.Cond.methodLink "TracePeaksLaw" (75 : Nat) ({ cls := "TracePeaksModel", name := "median", desc := "()I" } : Jvm.MethodName)) ∈ lw_all := lw_g (lw_at lw_m9 38 rfl) rfl
theorem q2081 : (Jvm.Cond.methodLink "TracePeaksLaw" (79 : Nat) ({ cls := "TracePeaksModel", name := "flat", desc := "()I" } : Jvm.MethodName)) ∈ lw_all := lw_g (lw_at lw_m9 42 rfl) rfl
theorem q2085 : (Jvm.Cond.methodLink "TracePeaksLaw" (83 : Nat) ({ cls := "TracePeaksModel", name := "turn", desc := "()I" } : Jvm.MethodName)) ∈ lw_all := lw_g (lw_at lw_m9 46 rfl) rfl
theorem q2089 : (Jvm.Cond.methodLink "TracePeaksLaw" (87 : Nat) ({ cls := "TracePeaksModel", name := "clip", desc := "(I)I" } : Jvm.MethodName)) ∈ lw_all := lw_g (lw_at lw_m9 50 rfl) rfl
theorem q2093 : (Jvm.Cond.methodLink "TracePeaksLaw" (91 : Nat) ({ cls := "TracePeaksModel", name := "lift", desc := "(I)I" } : Jvm.MethodName)) ∈ lw_all := lw_g (lw_at lw_m9 54 rfl) rfl
theorem q2097 : (Jvm.Cond.methodLink "TracePeaksLaw" (95 : Nat) ({ cls := "TracePeaksModel", name := "scale", desc := "(II)I" } : Jvm.MethodName)) ∈ lw_all := lw_g (lw_at lw_m9 58 rfl) rfl
theorem q2101 : (Jvm.Cond.methodLink "TracePeaksLaw" (99 : Nat) ({ cls := "TracePeaksModel", name := "set", desc := "(II)I" } : Jvm.MethodName)) ∈ lw_all := lw_g (lw_at lw_m9 62 rfl) rfl
theorem q2105 : (Jvm.Cond.methodLink "TracePeaksLaw" (103 : Nat) ({ cls := "TracePeaksModel", name := "noise", desc := "(I)I" } : Jvm.MethodName)) ∈ lw_all := lw_g (lw_at lw_m9 66 rfl) rfl
theorem q2109 : (Jvm.Cond.methodLink "TracePeaksLaw" (107 : Nat) ({ cls := "TracePeaksModel", name := "cut", desc := "(II)I" } : Jvm.MethodName)) ∈ lw_all := lw_g (lw_at lw_m9 70 rfl) rfl
theorem q2113 : (Jvm.Cond.methodLink "TracePeaksLaw" (114 : Nat) ({ cls := "TracePeaksModel", name := "ways", desc := "(IJ)I" } : Jvm.MethodName)) ∈ lw_all := lw_g (lw_at lw_m9 74 rfl) rfl
theorem q2127 : (Jvm.Cond.methodLink "TracePeaksLaw" (118 : Nat) ({ cls := "TracePeaksModel", name := "status", desc := "(I)I" } : Jvm.MethodName)) ∈ lw_all := lw_g (lw_at lw_m9 88 rfl) rfl
theorem q2131 : (Jvm.Cond.methodLink "TracePeaksLaw" (122 : Nat) ({ cls := "TracePeaksModel", name := "undo", desc := "()I" } : Jvm.MethodName)) ∈ lw_all := lw_g (lw_at lw_m9 92 rfl) rfl
theorem q2135 : (Jvm.Cond.methodLink "TracePeaksLaw" (126 : Nat) ({ cls := "TracePeaksModel", name := "log", desc := "(II)I" } : Jvm.MethodName)) ∈ lw_all := lw_g (lw_at lw_m9 96 rfl) rfl
theorem q2139 : (Jvm.Cond.methodLink "TracePeaksLaw" (41 : Nat) ({ cls := "TracePeaksModel", name := "rule", desc := "(I)I" } : Jvm.MethodName)) ∈ lw_all := lw_g (lw_at lw_m9 100 rfl) rfl
theorem q2147 : (Jvm.Cond.methodLink "TracePeaksLaw" (45 : Nat) ({ cls := "TracePeaksModel", name := "sample", desc := "(I)I" } : Jvm.MethodName)) ∈ lw_all := lw_g (lw_at lw_m9 108 rfl) rfl
theorem q2151 : (Jvm.Cond.methodLink "TracePeaksLaw" (51 : Nat) ({ cls := "TracePeaksModel", name := "peak", desc := "(II)I" } : Jvm.MethodName)) ∈ lw_all := lw_g (lw_at lw_m9 112 rfl) rfl
theorem q2175 : (Jvm.Cond.methodLink "TracePeaksLaw" (59 : Nat) ({ cls := "TracePeaksModel", name := "basin", desc := "(II)I" } : Jvm.MethodName)) ∈ lw_all := lw_g (lw_at lw_m9 136 rfl) rfl
theorem q2207 : (Jvm.Cond.methodLink "TracePeaksLaw" (63 : Nat) ({ cls := "TracePeaksModel", name := "at", desc := "(II)I" } : Jvm.MethodName)) ∈ lw_all := lw_g (lw_at lw_m9 168 rfl) rfl
theorem q2211 : (Jvm.Cond.methodLink "TracePeaksLaw" (67 : Nat) ({ cls := "TracePeaksModel", name := "line", desc := "(II)I" } : Jvm.MethodName)) ∈ lw_all := lw_g (lw_at lw_m9 172 rfl) rfl
theorem q2215 : (Jvm.Cond.methodLink "TracePeaksLaw" (130 : Nat) ({ cls := "TracePeaksModel", name := "noiseFor", desc := "(I)I" } : Jvm.MethodName)) ∈ lw_all := lw_g (lw_at lw_m9 176 rfl) rfl
theorem q2219 : (Jvm.Cond.methodLink "TracePeaksLaw" (134 : Nat) ({ cls := "TracePeaksModel", name := "pieces", desc := "(I)I" } : Jvm.MethodName)) ∈ lw_all := lw_g (lw_at lw_m9 180 rfl) rfl
theorem q2223 : (Jvm.Cond.methodLink "TracePeaksLaw" (138 : Nat) ({ cls := "TracePeaksModel", name := "room", desc := "(I)I" } : Jvm.MethodName)) ∈ lw_all := lw_g (lw_at lw_m9 184 rfl) rfl
theorem q2231 : (Jvm.Cond.methodLink "TracePeaksLaw" (191 : Nat) ({ cls := "TracePeaksModel", name := "image", desc := "()I" } : Jvm.MethodName)) ∈ lw_all := lw_g (lw_at lw_m9 192 rfl) rfl
theorem q2235 : (Jvm.Cond.methodLink "TracePeaksLaw" (195 : Nat) ({ cls := "TracePeaksModel", name := "back", desc := "()I" } : Jvm.MethodName)) ∈ lw_all := lw_g (lw_at lw_m9 196 rfl) rfl
theorem q2239 : (Jvm.Cond.methodLink "TracePeaksLaw" (142 : Nat) ({ cls := "TracePeaksModel", name := "unlike", desc := "()I" } : Jvm.MethodName)) ∈ lw_all := lw_g (lw_at lw_m9 200 rfl) rfl
theorem q2251 : (Jvm.Cond.methodLink "TracePeaksLaw" (146 : Nat) ({ cls := "TracePeaksModel", name := "shift", desc := "(I)I" } : Jvm.MethodName)) ∈ lw_all := lw_g (lw_at lw_m9 212 rfl) rfl
theorem q2255 : (Jvm.Cond.methodLink "TracePeaksLaw" (150 : Nat) ({ cls := "TracePeaksModel", name := "missed", desc := "()I" } : Jvm.MethodName)) ∈ lw_all := lw_g (lw_at lw_m9 216 rfl) rfl
theorem q2263 : (Jvm.Cond.methodLink "TracePeaksLaw" (155 : Nat) ({ cls := "TracePeaksModel", name := "would", desc := "(III)I" } : Jvm.MethodName)) ∈ lw_all := lw_g (lw_at lw_m9 224 rfl) rfl
theorem q2267 : (Jvm.Cond.methodLink "TracePeaksLaw" (159 : Nat) ({ cls := "TracePeaksModel", name := "solo", desc := "()I" } : Jvm.MethodName)) ∈ lw_all := lw_g (lw_at lw_m9 228 rfl) rfl
theorem q2275 : (Jvm.Cond.methodLink "TracePeaksLaw" (163 : Nat) ({ cls := "TracePeaksModel", name := "tallest", desc := "(I)I" } : Jvm.MethodName)) ∈ lw_all := lw_g (lw_at lw_m9 236 rfl) rfl
theorem q2279 : (Jvm.Cond.methodLink "TracePeaksLaw" (167 : Nat) ({ cls := "TracePeaksModel", name := "change", desc := "(I)I" } : Jvm.MethodName)) ∈ lw_all := lw_g (lw_at lw_m10 0 rfl) rfl
theorem q2284 : (Jvm.Cond.methodLink "TracePeaksLaw" (171 : Nat) ({ cls := "TracePeaksModel", name := "spell", desc := "(II)I" } : Jvm.MethodName)) ∈ lw_all := lw_g (lw_at lw_m10 5 rfl) rfl
theorem q2300 : (Jvm.Cond.methodLink "TracePeaksLaw" (175 : Nat) ({ cls := "TracePeaksModel", name := "step", desc := "(III)I" } : Jvm.MethodName)) ∈ lw_all := lw_g (lw_at lw_m10 21 rfl) rfl
theorem q2308 : (Jvm.Cond.methodLink "TracePeaksLaw" (179 : Nat) ({ cls := "TracePeaksModel", name := "run", desc := "(II)I" } : Jvm.MethodName)) ∈ lw_all := lw_g (lw_at lw_m10 29 rfl) rfl
theorem q2316 : (Jvm.Cond.methodLink "TracePeaksLaw" (183 : Nat) ({ cls := "TracePeaksModel", name := "perform", desc := "(I)I" } : Jvm.MethodName)) ∈ lw_all := lw_g (lw_at lw_m10 37 rfl) rfl
theorem q2320 : (Jvm.Cond.methodLink "TracePeaksLaw" (187 : Nat) ({ cls := "TracePeaksModel", name := "most", desc := "(I)I" } : Jvm.MethodName)) ∈ lw_all := lw_g (lw_at lw_m10 41 rfl) rfl
theorem q2340 : (Jvm.Cond.methodLink "TracePeaksLaw" (199 : Nat) ({ cls := "TracePeaksModel", name := "held", desc := "(I)I" } : Jvm.MethodName)) ∈ lw_all := lw_g (lw_at lw_m10 61 rfl) rfl
theorem q2344 : (Jvm.Cond.constantLong "TracePeaksLaw" (108 : Nat) (4294967295 : Int64)) ∈ lw_all := lw_g (lw_at lw_m10 65 rfl) rfl
def RX1 : String := "TracePeaks"
def TX1 : u_T := fun k => match k with
  | 0 => ("TracePeaks", "besides", "[LTracePeaks$Beside;", true)
  | 1 => ("TracePeaks", "eachs", "[LTracePeaks$Each;", true)
  | 2 => ("TracePeaks", "tape", "[B", true)
  | 3 => ("TracePeaks", "length", "I", false)
  | 4 => ("TracePeaks", "scripts", "[LTracePeaks$Script;", true)
  | 5 => ("TracePeaks", "refused", "[I", true)
  | 6 => ("TracePeaks", "scriptMany", "I", false)
  | 7 => ("TracePeaks", "trace", "LTracePeaks$Trace;", false)
  | 8 => ("TracePeaks", "traceRead", "LTracePeaks$Trace;", false)
  | 9 => ("TracePeaks", "scriptRead", "LTracePeaks$Script;", false)
  | 10 => ("TracePeaks", "peaks", "LTracePeaks$Peaks;", true)
  | 11 => ("TracePeaks", "others", "LTracePeaks$Peaks;", true)
  | 12 => ("TracePeaks", "was", "LTracePeaks$Samples;", true)
  | 13 => ("TracePeaks", "now", "LTracePeaks$State;", true)
  | 14 => ("TracePeaks", "image", "LTracePeaks$State;", true)
  | 15 => ("TracePeaks", "trial", "LTracePeaks$State;", true)
  | 16 => ("TracePeaks", "before", "LTracePeaks$State;", true)
  | 17 => ("TracePeaks", "backs", "[LTracePeaks$State;", true)
  | 18 => ("TracePeaks", "undos", "I", false)
  | 19 => ("TracePeaks", "undoAt", "I", false)
  | 20 => ("TracePeaks", "x", "J", false)
  | _ => ("TracePeaks", "hasImage", "Z", false)
def tyX1 : Nat → FieldType := fun k => match k with
  | 0 => .array (.object "TracePeaks$Beside")
  | 1 => .array (.object "TracePeaks$Each")
  | 2 => .array .byte
  | 3 => .int
  | 4 => .array (.object "TracePeaks$Script")
  | 5 => .array .int
  | 6 => .int
  | 7 => .object "TracePeaks$Trace"
  | 8 => .object "TracePeaks$Trace"
  | 9 => .object "TracePeaks$Script"
  | 10 => .object "TracePeaks$Peaks"
  | 11 => .object "TracePeaks$Peaks"
  | 12 => .object "TracePeaks$Samples"
  | 13 => .object "TracePeaks$State"
  | 14 => .object "TracePeaks$State"
  | 15 => .object "TracePeaks$State"
  | 16 => .object "TracePeaks$State"
  | 17 => .array (.object "TracePeaks$State")
  | 18 => .int
  | 19 => .int
  | 20 => .long
  | _ => .boolean
abbrev wsX10 : List Cond := u_ws RX1 TX1 22
theorem nmX1 : ∀ a, a < 22 → ∀ b, b < 22 → a ≠ b → (TX1 a).2.1 ≠ (TX1 b).2.1 := by decide +kernel
theorem tyX1_ok : ∀ k, k < 22 → parseFieldDescriptor (TX1 k).2.2.1 = some (tyX1 k) := by decide +kernel
abbrev cX1_feed : ByteArray := prog_1_method_9_code
def yX1_feed : MethodName := ⟨RX1, "feed", "(IIIII)I"⟩
abbrev cX1_bytes : ByteArray := prog_1_method_10_code
def yX1_bytes : MethodName := ⟨RX1, "bytes", "(I)I"⟩
abbrev cX1_bring : ByteArray := prog_1_method_11_code
def yX1_bring : MethodName := ⟨RX1, "bring", "(I)V"⟩
abbrev cX1_end : ByteArray := prog_1_method_12_code
def yX1_end : MethodName := ⟨RX1, "end", "(I)Z"⟩
abbrev cX1_init : ByteArray := prog_1_method_13_code
def yX1_init : MethodName := ⟨RX1, "<init>", "()V"⟩
abbrev cX1_quarter : ByteArray := prog_1_method_3_code
def yX1_quarter : MethodName := ⟨RX1, "quarter", "(III)I"⟩
abbrev cX1_middle : ByteArray := prog_1_method_5_code
def yX1_middle : MethodName := ⟨RX1, "middle", "(III)I"⟩
abbrev cX1_lambda_new_0 : ByteArray := prog_1_method_74_code
def yX1_lambda_new_0 : MethodName := ⟨RX1, "lambda$new$0", "(III)I"⟩
abbrev cX1_lifted : ByteArray := prog_1_method_6_code
def yX1_lifted : MethodName := ⟨RX1, "lifted", "(III)I"⟩
abbrev cX1_between : ByteArray := prog_1_method_4_code
def yX1_between : MethodName := ⟨RX1, "between", "(I)I"⟩
abbrev cX1_lambda_new_1 : ByteArray := prog_1_method_73_code
def yX1_lambda_new_1 : MethodName := ⟨RX1, "lambda$new$1", "(III)I"⟩
abbrev cX1_fault : ByteArray := prog_1_method_14_code
def yX1_fault : MethodName := ⟨RX1, "fault", "(I)I"⟩
abbrev cX1_isIn : ByteArray := prog_1_method_1_code
def yX1_isIn : MethodName := ⟨RX1, "isIn", "(JJJ)Z"⟩
abbrev cX1_sortOf : ByteArray := prog_1_method_7_code
def yX1_sortOf : MethodName := ⟨RX1, "sortOf", "(Ljava/lang/CharSequence;)I"⟩
abbrev cX1_numbersOf : ByteArray := prog_1_method_8_code
def yX1_numbersOf : MethodName := ⟨RX1, "numbersOf", "(I)I"⟩
abbrev cX1_text : ByteArray := prog_1_method_15_code
def yX1_text : MethodName := ⟨RX1, "text", "(I)I"⟩
abbrev cX1_smooth : ByteArray := prog_1_method_18_code
def yX1_smooth : MethodName := ⟨RX1, "smooth", "()I"⟩
abbrev cX1_act : ByteArray := prog_1_method_17_code
def yX1_act : MethodName := ⟨RX1, "act", "(III)I"⟩
abbrev cX1_acts : ByteArray := prog_1_method_16_code
def yX1_acts : MethodName := ⟨RX1, "acts", "(III)I"⟩
abbrev cX1_median : ByteArray := prog_1_method_19_code
def yX1_median : MethodName := ⟨RX1, "median", "()I"⟩
abbrev cX1_flat : ByteArray := prog_1_method_20_code
def yX1_flat : MethodName := ⟨RX1, "flat", "()I"⟩
abbrev cX1_turn : ByteArray := prog_1_method_21_code
def yX1_turn : MethodName := ⟨RX1, "turn", "()I"⟩
abbrev cX1_clip : ByteArray := prog_1_method_22_code
def yX1_clip : MethodName := ⟨RX1, "clip", "(I)I"⟩
abbrev cX1_lift : ByteArray := prog_1_method_23_code
def yX1_lift : MethodName := ⟨RX1, "lift", "(I)I"⟩
abbrev cX1_scale : ByteArray := prog_1_method_24_code
def yX1_scale : MethodName := ⟨RX1, "scale", "(II)I"⟩
abbrev cX1_set : ByteArray := prog_1_method_25_code
def yX1_set : MethodName := ⟨RX1, "set", "(II)I"⟩
abbrev cX1_noise : ByteArray := prog_1_method_26_code
def yX1_noise : MethodName := ⟨RX1, "noise", "(I)I"⟩
abbrev cX1_cut : ByteArray := prog_1_method_27_code
def yX1_cut : MethodName := ⟨RX1, "cut", "(II)I"⟩
abbrev cX1_status : ByteArray := prog_1_method_28_code
def yX1_status : MethodName := ⟨RX1, "status", "(I)I"⟩
abbrev cX1_undo : ByteArray := prog_1_method_29_code
def yX1_undo : MethodName := ⟨RX1, "undo", "()I"⟩
abbrev cX1_log : ByteArray := prog_1_method_30_code
def yX1_log : MethodName := ⟨RX1, "log", "(II)I"⟩
abbrev cX1_ways : ByteArray := prog_1_method_33_code
def yX1_ways : MethodName := ⟨RX1, "ways", "(IJ)I"⟩
abbrev cX1_happens : ByteArray := prog_1_method_32_code
def yX1_happens : MethodName := ⟨RX1, "happens", "()I"⟩
abbrev cX1_draw : ByteArray := prog_1_method_31_code
def yX1_draw : MethodName := ⟨RX1, "draw", "(I)I"⟩
abbrev cX1_rule : ByteArray := prog_1_method_35_code
def yX1_rule : MethodName := ⟨RX1, "rule", "(I)I"⟩
abbrev cX1_found : ByteArray := prog_1_method_34_code
def yX1_found : MethodName := ⟨RX1, "found", "()LTracePeaks$Peaks;"⟩
abbrev cX1_sample : ByteArray := prog_1_method_36_code
def yX1_sample : MethodName := ⟨RX1, "sample", "(I)I"⟩
abbrev cX1_basin : ByteArray := prog_1_method_40_code
def yX1_basin : MethodName := ⟨RX1, "basin", "(II)I"⟩
abbrev cX1_isKept : ByteArray := prog_1_method_39_code
def yX1_isKept : MethodName := ⟨RX1, "isKept", "(I)Z"⟩
abbrev cX1_at : ByteArray := prog_1_method_41_code
def yX1_at : MethodName := ⟨RX1, "at", "(II)I"⟩
abbrev cX1_line : ByteArray := prog_1_method_42_code
def yX1_line : MethodName := ⟨RX1, "line", "(II)I"⟩
abbrev cX1_noiseFor : ByteArray := prog_1_method_43_code
def yX1_noiseFor : MethodName := ⟨RX1, "noiseFor", "(I)I"⟩
abbrev cX1_pieces : ByteArray := prog_1_method_44_code
def yX1_pieces : MethodName := ⟨RX1, "pieces", "(I)I"⟩
abbrev cX1_room : ByteArray := prog_1_method_45_code
def yX1_room : MethodName := ⟨RX1, "room", "(I)I"⟩
abbrev cX1_unlike : ByteArray := prog_1_method_46_code
def yX1_unlike : MethodName := ⟨RX1, "unlike", "()I"⟩
abbrev cX1_shift : ByteArray := prog_1_method_47_code
def yX1_shift : MethodName := ⟨RX1, "shift", "(I)I"⟩
abbrev cX1_missed : ByteArray := prog_1_method_49_code
def yX1_missed : MethodName := ⟨RX1, "missed", "()I"⟩
abbrev cX1_lines : ByteArray := prog_1_method_48_code
def yX1_lines : MethodName := ⟨RX1, "lines", "(Z)I"⟩
abbrev cX1_would : ByteArray := prog_1_method_50_code
def yX1_would : MethodName := ⟨RX1, "would", "(III)I"⟩
abbrev cX1_solo : ByteArray := prog_1_method_53_code
def yX1_solo : MethodName := ⟨RX1, "solo", "()I"⟩
abbrev cX1_heightBut : ByteArray := prog_1_method_52_code
def yX1_heightBut : MethodName := ⟨RX1, "heightBut", "(I)I"⟩
abbrev cX1_best : ByteArray := prog_1_method_51_code
def yX1_best : MethodName := ⟨RX1, "best", "(LTracePeaks$Rater;)I"⟩
abbrev cX1_tallest : ByteArray := prog_1_method_54_code
def yX1_tallest : MethodName := ⟨RX1, "tallest", "(I)I"⟩
abbrev cX1_lambda_tallest_2 : ByteArray := prog_1_method_72_code
def yX1_lambda_tallest_2 : MethodName := ⟨RX1, "lambda$tallest$2", "(II)I"⟩
abbrev cX1_change : ByteArray := prog_1_method_55_code
def yX1_change : MethodName := ⟨RX1, "change", "(I)I"⟩
abbrev cX1_spell : ByteArray := prog_1_method_57_code
def yX1_spell : MethodName := ⟨RX1, "spell", "(II)I"⟩
abbrev cX1_spelled : ByteArray := prog_1_method_56_code
def yX1_spelled : MethodName := ⟨RX1, "spelled", "(I)Ljava/lang/CharSequence;"⟩
abbrev cX1_matchOf : ByteArray := prog_1_method_37_code
def yX1_matchOf : MethodName := ⟨RX1, "matchOf", "(LTracePeaks$Peaks;I)I"⟩
abbrev cX1_step : ByteArray := prog_1_method_59_code
def yX1_step : MethodName := ⟨RX1, "step", "(III)I"⟩
abbrev cX1_isScript : ByteArray := prog_1_method_58_code
def yX1_isScript : MethodName := ⟨RX1, "isScript", "(I)Z"⟩
abbrev cX1_run : ByteArray := prog_1_method_60_code
def yX1_run : MethodName := ⟨RX1, "run", "(II)I"⟩
abbrev cX1_perform : ByteArray := prog_1_method_61_code
def yX1_perform : MethodName := ⟨RX1, "perform", "(I)I"⟩
abbrev cX1_most : ByteArray := prog_1_method_64_code
def yX1_most : MethodName := ⟨RX1, "most", "(I)I"⟩
abbrev cX1_lambda_most_3 : ByteArray := prog_1_method_71_code
def yX1_lambda_most_3 : MethodName := ⟨RX1, "lambda$most$3", "(I)I"⟩
abbrev cX1_sum : ByteArray := prog_1_method_62_code
def yX1_sum : MethodName := ⟨RX1, "sum", "(LTracePeaks$Rater;Z)I"⟩
abbrev cX1_lambda_most_4 : ByteArray := prog_1_method_70_code
def yX1_lambda_most_4 : MethodName := ⟨RX1, "lambda$most$4", "(I)I"⟩
abbrev cX1_lambda_most_5 : ByteArray := prog_1_method_69_code
def yX1_lambda_most_5 : MethodName := ⟨RX1, "lambda$most$5", "(I)I"⟩
abbrev cX1_generations : ByteArray := prog_1_method_63_code
def yX1_generations : MethodName := ⟨RX1, "generations", "()I"⟩
abbrev cX1_lambda_most_6 : ByteArray := prog_1_method_68_code
def yX1_lambda_most_6 : MethodName := ⟨RX1, "lambda$most$6", "(I)I"⟩
abbrev cX1_image : ByteArray := prog_1_method_65_code
def yX1_image : MethodName := ⟨RX1, "image", "()I"⟩
abbrev cX1_back : ByteArray := prog_1_method_66_code
def yX1_back : MethodName := ⟨RX1, "back", "()I"⟩
abbrev cX1_held : ByteArray := prog_1_method_67_code
def yX1_held : MethodName := ⟨RX1, "held", "(I)I"⟩
abbrev cX1_peak : ByteArray := prog_1_method_38_code
def yX1_peak : MethodName := ⟨RX1, "peak", "(II)I"⟩
theorem q120 : (Jvm.Cond.initialized "TracePeaks") ∈ lw_all := lw_g (lw_at lw_m1 1 rfl) rfl
theorem q150 : (Jvm.Cond.instanceMethod ({ cls := "TracePeaks", name := "feed", desc := "(IIIII)I" } : Jvm.MethodName)) ∈ lw_all := lw_g (lw_at lw_m1 31 rfl) rfl
theorem q151 : (Jvm.Cond.selects "TracePeaks" ({ cls := "TracePeaks", name := "feed", desc := "(IIIII)I" } : Jvm.MethodName) ({ cls := "TracePeaks", name := "feed", desc := "(IIIII)I" } : Jvm.MethodName)) ∈ lw_all := lw_g (lw_at lw_m1 32 rfl) rfl
theorem q152 : (Jvm.Cond.code ({ cls := "TracePeaks", name := "feed", desc := "(IIIII)I" } : Jvm.MethodName) prog_1_method_9_code (7 : Nat) (Option.some Jvm.ClassFile.FieldType.int)) ∈ lw_all := lw_g (lw_at lw_m1 33 rfl) rfl
theorem q153 : (Jvm.Cond.methodLink "TracePeaks" (58 : Nat) ({ cls := "TracePeaks", name := "bytes", desc := "(I)I" } : Jvm.MethodName)) ∈ lw_all := lw_g (lw_at lw_m1 34 rfl) rfl
theorem q154 : (Jvm.Cond.static ({ cls := "TracePeaks", name := "bytes", desc := "(I)I" } : Jvm.MethodName)) ∈ lw_all := lw_g (lw_at lw_m1 35 rfl) rfl
theorem q155 : (Jvm.Cond.code ({ cls := "TracePeaks", name := "bytes", desc := "(I)I" } : Jvm.MethodName) prog_1_method_10_code (3 : Nat) (Option.some Jvm.ClassFile.FieldType.int)) ∈ lw_all := lw_g (lw_at lw_m1 36 rfl) rfl
theorem q156 : (Jvm.Cond.methodLink "TracePeaks" (65 : Nat) ({ cls := "TracePeaks", name := "bring", desc := "(I)V" } : Jvm.MethodName)) ∈ lw_all := lw_g (lw_at lw_m1 37 rfl) rfl
theorem q157 : (Jvm.Cond.privateMethod ({ cls := "TracePeaks", name := "bring", desc := "(I)V" } : Jvm.MethodName)) ∈ lw_tbl := lw_at lw_m1 38 rfl
theorem q158 : (Jvm.Cond.instanceMethod ({ cls := "TracePeaks", name := "bring", desc := "(I)V" } : Jvm.MethodName)) ∈ lw_all := lw_g (lw_at lw_m1 39 rfl) rfl
theorem q159 : (Jvm.Cond.instantiable "TracePeaks" (22 : Nat)) ∈ lw_all := lw_g (lw_at lw_m1 40 rfl) rfl
theorem q160 : (Jvm.Cond.code ({ cls := "TracePeaks", name := "bring", desc := "(I)V" } : Jvm.MethodName) prog_1_method_11_code (3 : Nat) (Option.none : Option Jvm.ClassFile.FieldType)) ∈ lw_all := lw_g (lw_at lw_m1 41 rfl) rfl
theorem q162 : (Jvm.Cond.instanceMethod ({ cls := "TracePeaks", name := "end", desc := "(I)Z" } : Jvm.MethodName)) ∈ lw_all := lw_g (lw_at lw_m1 43 rfl) rfl
theorem q163 : (Jvm.Cond.selects "TracePeaks" ({ cls := "TracePeaks", name := "end", desc := "(I)Z" } : Jvm.MethodName) ({ cls := "TracePeaks", name := "end", desc := "(I)Z" } : Jvm.MethodName)) ∈ lw_all := lw_g (lw_at lw_m1 44 rfl) rfl
theorem q164 : (Jvm.Cond.code ({ cls := "TracePeaks", name := "end", desc := "(I)Z" } : Jvm.MethodName) prog_1_method_12_code (2 : Nat) (Option.some Jvm.ClassFile.FieldType.boolean)) ∈ lw_all := lw_g (lw_at lw_m1 45 rfl) rfl
theorem q167 : (Jvm.Cond.instanceMethod ({ cls := "TracePeaks", name := "<init>", desc := "()V" } : Jvm.MethodName)) ∈ lw_all := lw_g (lw_at lw_m1 48 rfl) rfl
theorem q168 : (Jvm.Cond.code ({ cls := "TracePeaks", name := "<init>", desc := "()V" } : Jvm.MethodName) prog_1_method_13_code (1 : Nat) (Option.none : Option Jvm.ClassFile.FieldType)) ∈ lw_all := lw_g (lw_at lw_m1 49 rfl) rfl
theorem q169 : (Jvm.Cond.methodLink "TracePeaks" (73 : Nat) ({ cls := "java/lang/Object", name := "<init>", desc := "()V" } : Jvm.MethodName)) ∈ lw_all := lw_g (lw_at lw_m1 50 rfl) rfl
theorem q172 : (Jvm.Cond.classLink "TracePeaks" (79 : Nat) "TracePeaks$Beside") ∈ lw_all := lw_g (lw_at lw_m1 53 rfl) rfl
theorem q175 : (Jvm.Cond.static ({ cls := "TracePeaks", name := "quarter", desc := "(III)I" } : Jvm.MethodName)) ∈ lw_all := lw_g (lw_at lw_m1 56 rfl) rfl
theorem q176 : (Jvm.Cond.code ({ cls := "TracePeaks", name := "quarter", desc := "(III)I" } : Jvm.MethodName) prog_1_method_3_code (3 : Nat) (Option.some Jvm.ClassFile.FieldType.int)) ∈ lw_all := lw_g (lw_at lw_m1 57 rfl) rfl
theorem q177 : (Jvm.Cond.methodLink "TracePeaks" (85 : Nat) ({ cls := "TracePeaks$Beside", name := "<init>", desc := "(LTracePeaks$Filter;)V" } : Jvm.MethodName)) ∈ lw_all := lw_g (lw_at lw_m1 58 rfl) rfl
theorem q186 : (Jvm.Cond.static ({ cls := "TracePeaks", name := "middle", desc := "(III)I" } : Jvm.MethodName)) ∈ lw_all := lw_g (lw_at lw_m1 67 rfl) rfl
theorem q187 : (Jvm.Cond.code ({ cls := "TracePeaks", name := "middle", desc := "(III)I" } : Jvm.MethodName) prog_1_method_5_code (3 : Nat) (Option.some Jvm.ClassFile.FieldType.int)) ∈ lw_all := lw_g (lw_at lw_m1 68 rfl) rfl
theorem q188 : (Jvm.Cond.methodLink "TracePeaks" (12 : Nat) ({ cls := "TracePeaks$Numbers", name := "middle", desc := "(III)I" } : Jvm.MethodName)) ∈ lw_all := lw_g (lw_at lw_m1 69 rfl) rfl
theorem q197 : (Jvm.Cond.classLink "TracePeaks" (93 : Nat) "TracePeaks$Each") ∈ lw_all := lw_g (lw_at lw_m1 78 rfl) rfl
theorem q200 : (Jvm.Cond.static ({ cls := "TracePeaks", name := "lambda$new$0", desc := "(III)I" } : Jvm.MethodName)) ∈ lw_all := lw_g (lw_at lw_m1 81 rfl) rfl
theorem q201 : (Jvm.Cond.code ({ cls := "TracePeaks", name := "lambda$new$0", desc := "(III)I" } : Jvm.MethodName) prog_1_method_74_code (3 : Nat) (Option.some Jvm.ClassFile.FieldType.int)) ∈ lw_all := lw_g (lw_at lw_m1 82 rfl) rfl
theorem q202 : (Jvm.Cond.methodLink "TracePeaks" (3 : Nat) ({ cls := "java/lang/Math", name := "min", desc := "(II)I" } : Jvm.MethodName)) ∈ lw_all := lw_g (lw_at lw_m1 83 rfl) rfl
theorem q203 : (Jvm.Cond.methodLink "TracePeaks" (98 : Nat) ({ cls := "TracePeaks$Each", name := "<init>", desc := "(LTracePeaks$Change;)V" } : Jvm.MethodName)) ∈ lw_all := lw_g (lw_at lw_m1 84 rfl) rfl
theorem q212 : (Jvm.Cond.privateMethod ({ cls := "TracePeaks", name := "lifted", desc := "(III)I" } : Jvm.MethodName)) ∈ lw_tbl := lw_at lw_m1 93 rfl
theorem q213 : (Jvm.Cond.instanceMethod ({ cls := "TracePeaks", name := "lifted", desc := "(III)I" } : Jvm.MethodName)) ∈ lw_all := lw_g (lw_at lw_m1 94 rfl) rfl
theorem q214 : (Jvm.Cond.code ({ cls := "TracePeaks", name := "lifted", desc := "(III)I" } : Jvm.MethodName) prog_1_method_6_code (4 : Nat) (Option.some Jvm.ClassFile.FieldType.int)) ∈ lw_all := lw_g (lw_at lw_m1 95 rfl) rfl
theorem q215 : (Jvm.Cond.methodLink "TracePeaks" (18 : Nat) ({ cls := "TracePeaks", name := "between", desc := "(I)I" } : Jvm.MethodName)) ∈ lw_all := lw_g (lw_at lw_m1 96 rfl) rfl
theorem q216 : (Jvm.Cond.static ({ cls := "TracePeaks", name := "between", desc := "(I)I" } : Jvm.MethodName)) ∈ lw_all := lw_g (lw_at lw_m1 97 rfl) rfl
theorem q217 : (Jvm.Cond.code ({ cls := "TracePeaks", name := "between", desc := "(I)I" } : Jvm.MethodName) prog_1_method_4_code (1 : Nat) (Option.some Jvm.ClassFile.FieldType.int)) ∈ lw_all := lw_g (lw_at lw_m1 98 rfl) rfl
theorem q218 : (Jvm.Cond.methodLink "TracePeaks" (9 : Nat) ({ cls := "java/lang/Math", name := "max", desc := "(II)I" } : Jvm.MethodName)) ∈ lw_all := lw_g (lw_at lw_m1 99 rfl) rfl
theorem q219 : (Jvm.Cond.static ({ cls := "TracePeaks", name := "lambda$new$1", desc := "(III)I" } : Jvm.MethodName)) ∈ lw_all := lw_g (lw_at lw_m1 100 rfl) rfl
theorem q220 : (Jvm.Cond.code ({ cls := "TracePeaks", name := "lambda$new$1", desc := "(III)I" } : Jvm.MethodName) prog_1_method_73_code (3 : Nat) (Option.some Jvm.ClassFile.FieldType.int)) ∈ lw_all := lw_g (lw_at lw_m1 101 rfl) rfl
theorem q221 : (Jvm.Cond.classLink "TracePeaks" (109 : Nat) "TracePeaks$Script") ∈ lw_all := lw_g (lw_at lw_m1 102 rfl) rfl
theorem q223 : (Jvm.Cond.classLink "TracePeaks" (119 : Nat) "TracePeaks$Peaks") ∈ lw_all := lw_g (lw_at lw_m1 104 rfl) rfl
theorem q225 : (Jvm.Cond.methodLink "TracePeaks" (121 : Nat) ({ cls := "TracePeaks$Peaks", name := "<init>", desc := "()V" } : Jvm.MethodName)) ∈ lw_all := lw_g (lw_at lw_m1 106 rfl) rfl
theorem q239 : (Jvm.Cond.fieldLinkNest "TracePeaks" (310 : Nat) "TracePeaks$Peak" "place" "I" "TracePeaks") ∈ lw_tbl := lw_at lw_m1 120 rfl
theorem q242 : (Jvm.Cond.fieldLinkNest "TracePeaks" (315 : Nat) "TracePeaks$Peak" "height" "I" "TracePeaks") ∈ lw_tbl := lw_at lw_m1 123 rfl
theorem q244 : (Jvm.Cond.fieldLinkNest "TracePeaks" (318 : Nat) "TracePeaks$Peak" "valley" "I" "TracePeaks") ∈ lw_tbl := lw_at lw_m1 125 rfl
theorem q248 : (Jvm.Cond.fieldLinkNest "TracePeaks" (321 : Nat) "TracePeaks$Peak" "death" "I" "TracePeaks") ∈ lw_tbl := lw_at lw_m1 129 rfl
theorem q253 : (Jvm.Cond.fieldLinkNest "TracePeaks" (327 : Nat) "TracePeaks$Peak" "parent" "LTracePeaks$Peak;" "TracePeaks") ∈ lw_tbl := lw_at lw_m1 134 rfl
theorem q256 : (Jvm.Cond.fieldLinkNest "TracePeaks" (335 : Nat) "TracePeaks$Peak" "isKept" "Z" "TracePeaks") ∈ lw_tbl := lw_at lw_m1 137 rfl
theorem q277 : (Jvm.Cond.fieldLinkNest "TracePeaks" (307 : Nat) "TracePeaks$Peaks" "row" "[LTracePeaks$Peak;" "TracePeaks") ∈ lw_tbl := lw_at lw_m1 158 rfl
theorem q283 : (Jvm.Cond.fieldLinkNest "TracePeaks" (281 : Nat) "TracePeaks$Peaks" "many" "I" "TracePeaks") ∈ lw_tbl := lw_at lw_m1 164 rfl
theorem q286 : (Jvm.Cond.fieldLinkNest "TracePeaks" (393 : Nat) "TracePeaks$Peaks" "kept" "I" "TracePeaks") ∈ lw_tbl := lw_at lw_m1 167 rfl
theorem q288 : (Jvm.Cond.fieldLinkNest "TracePeaks" (371 : Nat) "TracePeaks$Peaks" "taken" "[I" "TracePeaks") ∈ lw_tbl := lw_at lw_m1 169 rfl
theorem q290 : (Jvm.Cond.fieldLinkNest "TracePeaks" (299 : Nat) "TracePeaks$Peaks" "matched" "[I" "TracePeaks") ∈ lw_tbl := lw_at lw_m1 171 rfl
theorem q310 : (Jvm.Cond.classLink "TracePeaks" (129 : Nat) "TracePeaks$Samples") ∈ lw_all := lw_g (lw_at lw_m1 191 rfl) rfl
theorem q312 : (Jvm.Cond.methodLinkNest "TracePeaks" (131 : Nat) ({ cls := "TracePeaks$Samples", name := "<init>", desc := "()V" } : Jvm.MethodName) "TracePeaks") ∈ lw_tbl := lw_at lw_m1 193 rfl
theorem q319 : (Jvm.Cond.fieldLinkNest "TracePeaks" (292 : Nat) "TracePeaks$Samples" "row" "[I" "TracePeaks") ∈ lw_tbl := lw_at lw_m1 200 rfl
theorem q324 : (Jvm.Cond.fieldLinkNest "TracePeaks" (208 : Nat) "TracePeaks$Samples" "many" "I" "TracePeaks") ∈ lw_tbl := lw_at lw_m1 205 rfl
theorem q330 : (Jvm.Cond.classLink "TracePeaks" (136 : Nat) "TracePeaks$State") ∈ lw_all := lw_g (lw_at lw_m1 211 rfl) rfl
theorem q332 : (Jvm.Cond.methodLinkNest "TracePeaks" (138 : Nat) ({ cls := "TracePeaks$State", name := "<init>", desc := "(LTracePeaks;)V" } : Jvm.MethodName) "TracePeaks") ∈ lw_tbl := lw_at lw_m1 213 rfl
theorem q339 : (Jvm.Cond.fieldLinkNest "TracePeaks" (205 : Nat) "TracePeaks$State" "samples" "LTracePeaks$Samples;" "TracePeaks") ∈ lw_tbl := lw_at lw_m1 220 rfl
theorem q341 : (Jvm.Cond.fieldLinkNest "TracePeaks" (246 : Nat) "TracePeaks$State" "notes" "[I" "TracePeaks") ∈ lw_tbl := lw_at lw_m1 222 rfl
theorem q343 : (Jvm.Cond.fieldLinkNest "TracePeaks" (264 : Nat) "TracePeaks$State" "noise" "I" "TracePeaks") ∈ lw_tbl := lw_at lw_m1 224 rfl
theorem q345 : (Jvm.Cond.fieldLinkNest "TracePeaks" (240 : Nat) "TracePeaks$State" "noteMany" "I" "TracePeaks") ∈ lw_tbl := lw_at lw_m1 226 rfl
theorem q347 : (Jvm.Cond.fieldLinkNest "TracePeaks" (234 : Nat) "TracePeaks$State" "came" "I" "TracePeaks") ∈ lw_tbl := lw_at lw_m1 228 rfl
theorem q363 : (Jvm.Cond.fieldLink "TracePeaks" (89 : Nat) "TracePeaks" "besides" "[LTracePeaks$Beside;") ∈ lw_all := lw_g (lw_at lw_m2 4 rfl) rfl
theorem q365 : (Jvm.Cond.fieldLink "TracePeaks" (105 : Nat) "TracePeaks" "eachs" "[LTracePeaks$Each;") ∈ lw_all := lw_g (lw_at lw_m2 6 rfl) rfl
theorem q368 : (Jvm.Cond.fieldLink "TracePeaks" (69 : Nat) "TracePeaks" "tape" "[B") ∈ lw_all := lw_g (lw_at lw_m2 9 rfl) rfl
theorem q370 : (Jvm.Cond.fieldLink "TracePeaks" (61 : Nat) "TracePeaks" "length" "I") ∈ lw_all := lw_g (lw_at lw_m2 11 rfl) rfl
theorem q371 : (Jvm.Cond.fieldLink "TracePeaks" (111 : Nat) "TracePeaks" "scripts" "[LTracePeaks$Script;") ∈ lw_all := lw_g (lw_at lw_m2 12 rfl) rfl
theorem q372 : (Jvm.Cond.fieldLink "TracePeaks" (115 : Nat) "TracePeaks" "refused" "[I") ∈ lw_all := lw_g (lw_at lw_m2 13 rfl) rfl
theorem q373 : (Jvm.Cond.fieldLink "TracePeaks" (188 : Nat) "TracePeaks" "scriptMany" "I") ∈ lw_all := lw_g (lw_at lw_m2 14 rfl) rfl
theorem q374 : (Jvm.Cond.fieldLink "TracePeaks" (158 : Nat) "TracePeaks" "trace" "LTracePeaks$Trace;") ∈ lw_all := lw_g (lw_at lw_m2 15 rfl) rfl
theorem q375 : (Jvm.Cond.fieldLink "TracePeaks" (172 : Nat) "TracePeaks" "traceRead" "LTracePeaks$Trace;") ∈ lw_all := lw_g (lw_at lw_m2 16 rfl) rfl
theorem q376 : (Jvm.Cond.fieldLink "TracePeaks" (179 : Nat) "TracePeaks" "scriptRead" "LTracePeaks$Script;") ∈ lw_all := lw_g (lw_at lw_m2 17 rfl) rfl
theorem q378 : (Jvm.Cond.fieldLink "TracePeaks" (122 : Nat) "TracePeaks" "peaks" "LTracePeaks$Peaks;") ∈ lw_all := lw_g (lw_at lw_m2 19 rfl) rfl
theorem q379 : (Jvm.Cond.fieldLink "TracePeaks" (126 : Nat) "TracePeaks" "others" "LTracePeaks$Peaks;") ∈ lw_all := lw_g (lw_at lw_m2 20 rfl) rfl
theorem q381 : (Jvm.Cond.fieldLink "TracePeaks" (132 : Nat) "TracePeaks" "was" "LTracePeaks$Samples;") ∈ lw_all := lw_g (lw_at lw_m2 22 rfl) rfl
theorem q382 : (Jvm.Cond.fieldLink "TracePeaks" (141 : Nat) "TracePeaks" "now" "LTracePeaks$State;") ∈ lw_all := lw_g (lw_at lw_m2 23 rfl) rfl
theorem q383 : (Jvm.Cond.fieldLink "TracePeaks" (145 : Nat) "TracePeaks" "image" "LTracePeaks$State;") ∈ lw_all := lw_g (lw_at lw_m2 24 rfl) rfl
theorem q384 : (Jvm.Cond.fieldLink "TracePeaks" (148 : Nat) "TracePeaks" "trial" "LTracePeaks$State;") ∈ lw_all := lw_g (lw_at lw_m2 25 rfl) rfl
theorem q385 : (Jvm.Cond.fieldLink "TracePeaks" (151 : Nat) "TracePeaks" "before" "LTracePeaks$State;") ∈ lw_all := lw_g (lw_at lw_m2 26 rfl) rfl
theorem q386 : (Jvm.Cond.fieldLink "TracePeaks" (154 : Nat) "TracePeaks" "backs" "[LTracePeaks$State;") ∈ lw_all := lw_g (lw_at lw_m2 27 rfl) rfl
theorem q387 : (Jvm.Cond.fieldLink "TracePeaks" (198 : Nat) "TracePeaks" "undos" "I") ∈ lw_all := lw_g (lw_at lw_m2 28 rfl) rfl
theorem q388 : (Jvm.Cond.fieldLink "TracePeaks" (218 : Nat) "TracePeaks" "undoAt" "I") ∈ lw_all := lw_g (lw_at lw_m2 29 rfl) rfl
theorem q389 : (Jvm.Cond.fieldLink "TracePeaks" (248 : Nat) "TracePeaks" "x" "J") ∈ lw_all := lw_g (lw_at lw_m2 30 rfl) rfl
theorem q390 : (Jvm.Cond.fieldLink "TracePeaks" (201 : Nat) "TracePeaks" "hasImage" "Z") ∈ lw_all := lw_g (lw_at lw_m2 31 rfl) rfl
theorem q391 : (Jvm.Cond.laysFinal "TracePeaks" "TracePeaks" "besides" "[LTracePeaks$Beside;") ∈ lw_all := lw_g (lw_at lw_m2 32 rfl) rfl
theorem q392 : (Jvm.Cond.soleField "TracePeaks" "besides") ∈ lw_all := lw_g (lw_at lw_m2 33 rfl) rfl
theorem q393 : (Jvm.Cond.laysFinal "TracePeaks" "TracePeaks" "eachs" "[LTracePeaks$Each;") ∈ lw_all := lw_g (lw_at lw_m2 34 rfl) rfl
theorem q394 : (Jvm.Cond.soleField "TracePeaks" "eachs") ∈ lw_all := lw_g (lw_at lw_m2 35 rfl) rfl
theorem q395 : (Jvm.Cond.laysFinal "TracePeaks" "TracePeaks" "tape" "[B") ∈ lw_all := lw_g (lw_at lw_m2 36 rfl) rfl
theorem q396 : (Jvm.Cond.soleField "TracePeaks" "tape") ∈ lw_all := lw_g (lw_at lw_m2 37 rfl) rfl
theorem q397 : (Jvm.Cond.lays "TracePeaks" "TracePeaks" "length" "I") ∈ lw_all := lw_g (lw_at lw_m2 38 rfl) rfl
theorem q398 : (Jvm.Cond.soleField "TracePeaks" "length") ∈ lw_all := lw_g (lw_at lw_m2 39 rfl) rfl
theorem q399 : (Jvm.Cond.laysFinal "TracePeaks" "TracePeaks" "scripts" "[LTracePeaks$Script;") ∈ lw_all := lw_g (lw_at lw_m2 40 rfl) rfl
theorem q400 : (Jvm.Cond.soleField "TracePeaks" "scripts") ∈ lw_all := lw_g (lw_at lw_m2 41 rfl) rfl
theorem q401 : (Jvm.Cond.laysFinal "TracePeaks" "TracePeaks" "refused" "[I") ∈ lw_all := lw_g (lw_at lw_m2 42 rfl) rfl
theorem q402 : (Jvm.Cond.soleField "TracePeaks" "refused") ∈ lw_all := lw_g (lw_at lw_m2 43 rfl) rfl
theorem q403 : (Jvm.Cond.lays "TracePeaks" "TracePeaks" "scriptMany" "I") ∈ lw_all := lw_g (lw_at lw_m2 44 rfl) rfl
theorem q404 : (Jvm.Cond.soleField "TracePeaks" "scriptMany") ∈ lw_all := lw_g (lw_at lw_m2 45 rfl) rfl
theorem q405 : (Jvm.Cond.lays "TracePeaks" "TracePeaks" "trace" "LTracePeaks$Trace;") ∈ lw_all := lw_g (lw_at lw_m2 46 rfl) rfl
theorem q406 : (Jvm.Cond.soleField "TracePeaks" "trace") ∈ lw_all := lw_g (lw_at lw_m2 47 rfl) rfl
theorem q407 : (Jvm.Cond.lays "TracePeaks" "TracePeaks" "traceRead" "LTracePeaks$Trace;") ∈ lw_all := lw_g (lw_at lw_m2 48 rfl) rfl
theorem q408 : (Jvm.Cond.soleField "TracePeaks" "traceRead") ∈ lw_all := lw_g (lw_at lw_m2 49 rfl) rfl
theorem q409 : (Jvm.Cond.lays "TracePeaks" "TracePeaks" "scriptRead" "LTracePeaks$Script;") ∈ lw_all := lw_g (lw_at lw_m2 50 rfl) rfl
theorem q410 : (Jvm.Cond.soleField "TracePeaks" "scriptRead") ∈ lw_all := lw_g (lw_at lw_m2 51 rfl) rfl
theorem q411 : (Jvm.Cond.laysFinal "TracePeaks" "TracePeaks" "peaks" "LTracePeaks$Peaks;") ∈ lw_all := lw_g (lw_at lw_m2 52 rfl) rfl
theorem q412 : (Jvm.Cond.soleField "TracePeaks" "peaks") ∈ lw_all := lw_g (lw_at lw_m2 53 rfl) rfl
theorem q413 : (Jvm.Cond.laysFinal "TracePeaks" "TracePeaks" "others" "LTracePeaks$Peaks;") ∈ lw_all := lw_g (lw_at lw_m2 54 rfl) rfl
theorem q414 : (Jvm.Cond.soleField "TracePeaks" "others") ∈ lw_all := lw_g (lw_at lw_m2 55 rfl) rfl
theorem q415 : (Jvm.Cond.laysFinal "TracePeaks" "TracePeaks" "was" "LTracePeaks$Samples;") ∈ lw_all := lw_g (lw_at lw_m2 56 rfl) rfl
theorem q416 : (Jvm.Cond.soleField "TracePeaks" "was") ∈ lw_all := lw_g (lw_at lw_m2 57 rfl) rfl
theorem q417 : (Jvm.Cond.laysFinal "TracePeaks" "TracePeaks" "now" "LTracePeaks$State;") ∈ lw_all := lw_g (lw_at lw_m2 58 rfl) rfl
theorem q418 : (Jvm.Cond.soleField "TracePeaks" "now") ∈ lw_all := lw_g (lw_at lw_m2 59 rfl) rfl
theorem q419 : (Jvm.Cond.laysFinal "TracePeaks" "TracePeaks" "image" "LTracePeaks$State;") ∈ lw_all := lw_g (lw_at lw_m2 60 rfl) rfl
theorem q420 : (Jvm.Cond.soleField "TracePeaks" "image") ∈ lw_all := lw_g (lw_at lw_m2 61 rfl) rfl
theorem q421 : (Jvm.Cond.laysFinal "TracePeaks" "TracePeaks" "trial" "LTracePeaks$State;") ∈ lw_all := lw_g (lw_at lw_m2 62 rfl) rfl
theorem q422 : (Jvm.Cond.soleField "TracePeaks" "trial") ∈ lw_all := lw_g (lw_at lw_m2 63 rfl) rfl
theorem q423 : (Jvm.Cond.laysFinal "TracePeaks" "TracePeaks" "before" "LTracePeaks$State;") ∈ lw_all := lw_g (lw_at lw_m2 64 rfl) rfl
theorem q424 : (Jvm.Cond.soleField "TracePeaks" "before") ∈ lw_all := lw_g (lw_at lw_m2 65 rfl) rfl
theorem q425 : (Jvm.Cond.laysFinal "TracePeaks" "TracePeaks" "backs" "[LTracePeaks$State;") ∈ lw_all := lw_g (lw_at lw_m2 66 rfl) rfl
theorem q426 : (Jvm.Cond.soleField "TracePeaks" "backs") ∈ lw_all := lw_g (lw_at lw_m2 67 rfl) rfl
theorem q427 : (Jvm.Cond.lays "TracePeaks" "TracePeaks" "undos" "I") ∈ lw_all := lw_g (lw_at lw_m2 68 rfl) rfl
theorem q428 : (Jvm.Cond.soleField "TracePeaks" "undos") ∈ lw_all := lw_g (lw_at lw_m2 69 rfl) rfl
theorem q429 : (Jvm.Cond.lays "TracePeaks" "TracePeaks" "undoAt" "I") ∈ lw_all := lw_g (lw_at lw_m2 70 rfl) rfl
theorem q430 : (Jvm.Cond.soleField "TracePeaks" "undoAt") ∈ lw_all := lw_g (lw_at lw_m2 71 rfl) rfl
theorem q431 : (Jvm.Cond.lays "TracePeaks" "TracePeaks" "x" "J") ∈ lw_all := lw_g (lw_at lw_m2 72 rfl) rfl
theorem q432 : (Jvm.Cond.soleField "TracePeaks" "x") ∈ lw_all := lw_g (lw_at lw_m2 73 rfl) rfl
theorem q433 : (Jvm.Cond.lays "TracePeaks" "TracePeaks" "hasImage" "Z") ∈ lw_all := lw_g (lw_at lw_m2 74 rfl) rfl
theorem q434 : (Jvm.Cond.soleField "TracePeaks" "hasImage") ∈ lw_all := lw_g (lw_at lw_m2 75 rfl) rfl
theorem q435 : (Jvm.Cond.superclass "TracePeaks" "java/lang/Object") ∈ lw_all := lw_g (lw_at lw_m2 76 rfl) rfl
theorem q437 : (Jvm.Cond.instanceMethod ({ cls := "TracePeaks", name := "fault", desc := "(I)I" } : Jvm.MethodName)) ∈ lw_all := lw_g (lw_at lw_m2 78 rfl) rfl
theorem q438 : (Jvm.Cond.selects "TracePeaks" ({ cls := "TracePeaks", name := "fault", desc := "(I)I" } : Jvm.MethodName) ({ cls := "TracePeaks", name := "fault", desc := "(I)I" } : Jvm.MethodName)) ∈ lw_all := lw_g (lw_at lw_m2 79 rfl) rfl
theorem q439 : (Jvm.Cond.codeWith ({ cls := "TracePeaks", name := "fault", desc := "(I)I" } : Jvm.MethodName) prog_1_method_14_code (3 : Nat) (Option.some Jvm.ClassFile.FieldType.int) [((13 : Nat), (46 : Nat), (47 : Nat), (183 : Nat))]) ∈ lw_all := lw_g (lw_at lw_m2 80 rfl) rfl
theorem q440 : (Jvm.Cond.classLink "TracePeaks" (183 : Nat) "TracePeaks$Wrong") ∈ lw_all := lw_g (lw_at lw_m2 81 rfl) rfl
theorem q441 : (Jvm.Cond.methodLink "TracePeaks" (162 : Nat) ({ cls := "TracePeaks", name := "isIn", desc := "(JJJ)Z" } : Jvm.MethodName)) ∈ lw_all := lw_g (lw_at lw_m2 82 rfl) rfl
theorem q442 : (Jvm.Cond.static ({ cls := "TracePeaks", name := "isIn", desc := "(JJJ)Z" } : Jvm.MethodName)) ∈ lw_all := lw_g (lw_at lw_m2 83 rfl) rfl
theorem q443 : (Jvm.Cond.code ({ cls := "TracePeaks", name := "isIn", desc := "(JJJ)Z" } : Jvm.MethodName) prog_1_method_1_code (6 : Nat) (Option.some Jvm.ClassFile.FieldType.boolean)) ∈ lw_all := lw_g (lw_at lw_m2 84 rfl) rfl
theorem q444 : (Jvm.Cond.classLink "TracePeaks" (166 : Nat) "TracePeaks$Reader") ∈ lw_all := lw_g (lw_at lw_m2 85 rfl) rfl
theorem q446 : (Jvm.Cond.methodLinkNest "TracePeaks" (168 : Nat) ({ cls := "TracePeaks$Reader", name := "<init>", desc := "(LTracePeaks;)V" } : Jvm.MethodName) "TracePeaks") ∈ lw_tbl := lw_at lw_m2 87 rfl
theorem q457 : (Jvm.Cond.methodLink "TracePeaks" (169 : Nat) ({ cls := "TracePeaks$Reader", name := "trace", desc := "()LTracePeaks$Trace;" } : Jvm.MethodName)) ∈ lw_all := lw_g (lw_at lw_m2 98 rfl) rfl
theorem q476 : (Jvm.Cond.fieldLinkNest "TracePeaks" (365 : Nat) "TracePeaks$Trace" "names" "[Ljava/lang/String;" "TracePeaks") ∈ lw_tbl := lw_at lw_m2 117 rfl
theorem q480 : (Jvm.Cond.fieldLinkNest "TracePeaks" (362 : Nat) "TracePeaks$Trace" "places" "[I" "TracePeaks") ∈ lw_tbl := lw_at lw_m2 121 rfl
theorem q484 : (Jvm.Cond.fieldLinkNest "TracePeaks" (274 : Nat) "TracePeaks$Trace" "lines" "I" "TracePeaks") ∈ lw_tbl := lw_at lw_m2 125 rfl
theorem q490 : (Jvm.Cond.fieldLinkNest "TracePeaks" (269 : Nat) "TracePeaks$Trace" "reach" "I" "TracePeaks") ∈ lw_tbl := lw_at lw_m2 131 rfl
theorem q830 : (Jvm.Cond.fieldLinkNest "TracePeaks" (185 : Nat) "TracePeaks$Wrong" "at" "I" "TracePeaks") ∈ lw_tbl := lw_at lw_m3 231 rfl
theorem q896 : (Jvm.Cond.methodLink "TracePeaks" (175 : Nat) ({ cls := "TracePeaks$Reader", name := "script", desc := "()LTracePeaks$Script;" } : Jvm.MethodName)) ∈ lw_all := lw_g (lw_at lw_m4 57 rfl) rfl
theorem q908 : (Jvm.Cond.fieldLinkNest "TracePeaks" (443 : Nat) "TracePeaks$Script" "what" "[I" "TracePeaks") ∈ lw_tbl := lw_at lw_m4 69 rfl
theorem q912 : (Jvm.Cond.fieldLinkNest "TracePeaks" (442 : Nat) "TracePeaks$Script" "many" "I" "TracePeaks") ∈ lw_tbl := lw_at lw_m4 73 rfl
theorem q925 : (Jvm.Cond.static ({ cls := "TracePeaks", name := "sortOf", desc := "(Ljava/lang/CharSequence;)I" } : Jvm.MethodName)) ∈ lw_all := lw_g (lw_at lw_m4 86 rfl) rfl
theorem q926 : (Jvm.Cond.code ({ cls := "TracePeaks", name := "sortOf", desc := "(Ljava/lang/CharSequence;)I" } : Jvm.MethodName) prog_1_method_7_code (3 : Nat) (Option.some Jvm.ClassFile.FieldType.int)) ∈ lw_all := lw_g (lw_at lw_m4 87 rfl) rfl
theorem q927 : (Jvm.Cond.interfaceEntry "TracePeaks" (22 : Nat)) ∈ lw_tbl := lw_at lw_m4 88 rfl
theorem q928 : (Jvm.Cond.methodLink "TracePeaks" (22 : Nat) ({ cls := "java/lang/CharSequence", name := "toString", desc := "()Ljava/lang/String;" } : Jvm.MethodName)) ∈ lw_all := lw_g (lw_at lw_m4 89 rfl) rfl
theorem q929 : (Jvm.Cond.methodLink "TracePeaks" (28 : Nat) ({ cls := "java/lang/String", name := "hashCode", desc := "()I" } : Jvm.MethodName)) ∈ lw_all := lw_g (lw_at lw_m4 90 rfl) rfl
theorem q930 : (Jvm.Cond.stringRef "TracePeaks" (34 : Nat) "smooth") ∈ lw_tbl := lw_at lw_m4 91 rfl
theorem q931 : (Jvm.Cond.methodLink "TracePeaks" (36 : Nat) ({ cls := "java/lang/String", name := "equals", desc := "(Ljava/lang/Object;)Z" } : Jvm.MethodName)) ∈ lw_all := lw_g (lw_at lw_m4 92 rfl) rfl
theorem q932 : (Jvm.Cond.stringRef "TracePeaks" (40 : Nat) "median") ∈ lw_tbl := lw_at lw_m4 93 rfl
theorem q933 : (Jvm.Cond.stringRef "TracePeaks" (42 : Nat) "flat") ∈ lw_tbl := lw_at lw_m4 94 rfl
theorem q934 : (Jvm.Cond.stringRef "TracePeaks" (44 : Nat) "turn") ∈ lw_tbl := lw_at lw_m4 95 rfl
theorem q935 : (Jvm.Cond.stringRef "TracePeaks" (46 : Nat) "clip") ∈ lw_tbl := lw_at lw_m4 96 rfl
theorem q936 : (Jvm.Cond.stringRef "TracePeaks" (48 : Nat) "lift") ∈ lw_tbl := lw_at lw_m4 97 rfl
theorem q937 : (Jvm.Cond.stringRef "TracePeaks" (50 : Nat) "scale") ∈ lw_tbl := lw_at lw_m4 98 rfl
theorem q938 : (Jvm.Cond.stringRef "TracePeaks" (52 : Nat) "set") ∈ lw_tbl := lw_at lw_m4 99 rfl
theorem q939 : (Jvm.Cond.stringRef "TracePeaks" (54 : Nat) "noise") ∈ lw_tbl := lw_at lw_m4 100 rfl
theorem q940 : (Jvm.Cond.stringRef "TracePeaks" (56 : Nat) "cut") ∈ lw_tbl := lw_at lw_m4 101 rfl
theorem q942 : (Jvm.Cond.static ({ cls := "TracePeaks", name := "numbersOf", desc := "(I)I" } : Jvm.MethodName)) ∈ lw_all := lw_g (lw_at lw_m4 103 rfl) rfl
theorem q943 : (Jvm.Cond.code ({ cls := "TracePeaks", name := "numbersOf", desc := "(I)I" } : Jvm.MethodName) prog_1_method_8_code (1 : Nat) (Option.some Jvm.ClassFile.FieldType.int)) ∈ lw_all := lw_g (lw_at lw_m4 104 rfl) rfl
theorem q946 : (Jvm.Cond.instanceMethod ({ cls := "TracePeaks", name := "text", desc := "(I)I" } : Jvm.MethodName)) ∈ lw_all := lw_g (lw_at lw_m4 107 rfl) rfl
theorem q947 : (Jvm.Cond.selects "TracePeaks" ({ cls := "TracePeaks", name := "text", desc := "(I)I" } : Jvm.MethodName) ({ cls := "TracePeaks", name := "text", desc := "(I)I" } : Jvm.MethodName)) ∈ lw_all := lw_g (lw_at lw_m4 108 rfl) rfl
theorem q948 : (Jvm.Cond.code ({ cls := "TracePeaks", name := "text", desc := "(I)I" } : Jvm.MethodName) prog_1_method_15_code (2 : Nat) (Option.some Jvm.ClassFile.FieldType.int)) ∈ lw_all := lw_g (lw_at lw_m4 109 rfl) rfl
theorem q949 : (Jvm.Cond.methodLink "TracePeaks" (191 : Nat) ({ cls := "TracePeaks", name := "fault", desc := "(I)I" } : Jvm.MethodName)) ∈ lw_all := lw_g (lw_at lw_m4 110 rfl) rfl
theorem q950 : (Jvm.Cond.methodLink "TracePeaks" (194 : Nat) ({ cls := "TracePeaks$State", name := "starts", desc := "(LTracePeaks$Trace;)V" } : Jvm.MethodName)) ∈ lw_all := lw_g (lw_at lw_m4 111 rfl) rfl
theorem q960 : (Jvm.Cond.instanceMethod ({ cls := "TracePeaks", name := "smooth", desc := "()I" } : Jvm.MethodName)) ∈ lw_all := lw_g (lw_at lw_m4 121 rfl) rfl
theorem q961 : (Jvm.Cond.selects "TracePeaks" ({ cls := "TracePeaks", name := "smooth", desc := "()I" } : Jvm.MethodName) ({ cls := "TracePeaks", name := "smooth", desc := "()I" } : Jvm.MethodName)) ∈ lw_all := lw_g (lw_at lw_m4 122 rfl) rfl
theorem q962 : (Jvm.Cond.code ({ cls := "TracePeaks", name := "smooth", desc := "()I" } : Jvm.MethodName) prog_1_method_18_code (1 : Nat) (Option.some Jvm.ClassFile.FieldType.int)) ∈ lw_all := lw_g (lw_at lw_m4 123 rfl) rfl
theorem q963 : (Jvm.Cond.methodLink "TracePeaks" (237 : Nat) ({ cls := "TracePeaks", name := "act", desc := "(III)I" } : Jvm.MethodName)) ∈ lw_all := lw_g (lw_at lw_m4 124 rfl) rfl
theorem q964 : (Jvm.Cond.privateMethod ({ cls := "TracePeaks", name := "act", desc := "(III)I" } : Jvm.MethodName)) ∈ lw_tbl := lw_at lw_m4 125 rfl
theorem q965 : (Jvm.Cond.instanceMethod ({ cls := "TracePeaks", name := "act", desc := "(III)I" } : Jvm.MethodName)) ∈ lw_all := lw_g (lw_at lw_m4 126 rfl) rfl
theorem q966 : (Jvm.Cond.code ({ cls := "TracePeaks", name := "act", desc := "(III)I" } : Jvm.MethodName) prog_1_method_17_code (5 : Nat) (Option.some Jvm.ClassFile.FieldType.int)) ∈ lw_all := lw_g (lw_at lw_m4 127 rfl) rfl
theorem q967 : (Jvm.Cond.methodLink "TracePeaks" (231 : Nat) ({ cls := "TracePeaks", name := "acts", desc := "(III)I" } : Jvm.MethodName)) ∈ lw_all := lw_g (lw_at lw_m4 128 rfl) rfl
theorem q968 : (Jvm.Cond.privateMethod ({ cls := "TracePeaks", name := "acts", desc := "(III)I" } : Jvm.MethodName)) ∈ lw_tbl := lw_at lw_m4 129 rfl
theorem q969 : (Jvm.Cond.instanceMethod ({ cls := "TracePeaks", name := "acts", desc := "(III)I" } : Jvm.MethodName)) ∈ lw_all := lw_g (lw_at lw_m4 130 rfl) rfl
theorem q970 : (Jvm.Cond.code ({ cls := "TracePeaks", name := "acts", desc := "(III)I" } : Jvm.MethodName) prog_1_method_16_code (5 : Nat) (Option.some Jvm.ClassFile.FieldType.int)) ∈ lw_all := lw_g (lw_at lw_m4 131 rfl) rfl
theorem q971 : (Jvm.Cond.methodLink "TracePeaks" (211 : Nat) ({ cls := "TracePeaks$State", name := "becomes", desc := "(LTracePeaks$State;)V" } : Jvm.MethodName)) ∈ lw_all := lw_g (lw_at lw_m4 132 rfl) rfl
theorem q980 : (Jvm.Cond.methodLink "TracePeaks" (215 : Nat) ({ cls := "TracePeaks$State", name := "deed", desc := "(III)I" } : Jvm.MethodName)) ∈ lw_all := lw_g (lw_at lw_m4 141 rfl) rfl
theorem q1149 : (Jvm.Cond.methodLink "TracePeaks" (221 : Nat) ({ cls := "TracePeaks", name := "numbersOf", desc := "(I)I" } : Jvm.MethodName)) ∈ lw_all := lw_g (lw_at lw_m5 70 rfl) rfl
theorem q1150 : (Jvm.Cond.methodLink "TracePeaks" (224 : Nat) ({ cls := "TracePeaks$State", name := "kept", desc := "()I" } : Jvm.MethodName)) ∈ lw_all := lw_g (lw_at lw_m5 71 rfl) rfl
theorem q1151 : (Jvm.Cond.methodLink "TracePeaks" (227 : Nat) ({ cls := "TracePeaks$State", name := "notes", desc := "(III)V" } : Jvm.MethodName)) ∈ lw_all := lw_g (lw_at lw_m5 72 rfl) rfl
theorem q1156 : (Jvm.Cond.instanceMethod ({ cls := "TracePeaks", name := "median", desc := "()I" } : Jvm.MethodName)) ∈ lw_all := lw_g (lw_at lw_m5 77 rfl) rfl
theorem q1157 : (Jvm.Cond.selects "TracePeaks" ({ cls := "TracePeaks", name := "median", desc := "()I" } : Jvm.MethodName) ({ cls := "TracePeaks", name := "median", desc := "()I" } : Jvm.MethodName)) ∈ lw_all := lw_g (lw_at lw_m5 78 rfl) rfl
theorem q1158 : (Jvm.Cond.code ({ cls := "TracePeaks", name := "median", desc := "()I" } : Jvm.MethodName) prog_1_method_19_code (1 : Nat) (Option.some Jvm.ClassFile.FieldType.int)) ∈ lw_all := lw_g (lw_at lw_m5 79 rfl) rfl
theorem q1160 : (Jvm.Cond.instanceMethod ({ cls := "TracePeaks", name := "flat", desc := "()I" } : Jvm.MethodName)) ∈ lw_all := lw_g (lw_at lw_m5 81 rfl) rfl
theorem q1161 : (Jvm.Cond.selects "TracePeaks" ({ cls := "TracePeaks", name := "flat", desc := "()I" } : Jvm.MethodName) ({ cls := "TracePeaks", name := "flat", desc := "()I" } : Jvm.MethodName)) ∈ lw_all := lw_g (lw_at lw_m5 82 rfl) rfl
theorem q1162 : (Jvm.Cond.code ({ cls := "TracePeaks", name := "flat", desc := "()I" } : Jvm.MethodName) prog_1_method_20_code (1 : Nat) (Option.some Jvm.ClassFile.FieldType.int)) ∈ lw_all := lw_g (lw_at lw_m5 83 rfl) rfl
theorem q1164 : (Jvm.Cond.instanceMethod ({ cls := "TracePeaks", name := "turn", desc := "()I" } : Jvm.MethodName)) ∈ lw_all := lw_g (lw_at lw_m5 85 rfl) rfl
theorem q1165 : (Jvm.Cond.selects "TracePeaks" ({ cls := "TracePeaks", name := "turn", desc := "()I" } : Jvm.MethodName) ({ cls := "TracePeaks", name := "turn", desc := "()I" } : Jvm.MethodName)) ∈ lw_all := lw_g (lw_at lw_m5 86 rfl) rfl
theorem q1166 : (Jvm.Cond.code ({ cls := "TracePeaks", name := "turn", desc := "()I" } : Jvm.MethodName) prog_1_method_21_code (1 : Nat) (Option.some Jvm.ClassFile.FieldType.int)) ∈ lw_all := lw_g (lw_at lw_m5 87 rfl) rfl
theorem q1168 : (Jvm.Cond.instanceMethod ({ cls := "TracePeaks", name := "clip", desc := "(I)I" } : Jvm.MethodName)) ∈ lw_all := lw_g (lw_at lw_m5 89 rfl) rfl
theorem q1169 : (Jvm.Cond.selects "TracePeaks" ({ cls := "TracePeaks", name := "clip", desc := "(I)I" } : Jvm.MethodName) ({ cls := "TracePeaks", name := "clip", desc := "(I)I" } : Jvm.MethodName)) ∈ lw_all := lw_g (lw_at lw_m5 90 rfl) rfl
theorem q1170 : (Jvm.Cond.code ({ cls := "TracePeaks", name := "clip", desc := "(I)I" } : Jvm.MethodName) prog_1_method_22_code (2 : Nat) (Option.some Jvm.ClassFile.FieldType.int)) ∈ lw_all := lw_g (lw_at lw_m5 91 rfl) rfl
theorem q1172 : (Jvm.Cond.instanceMethod ({ cls := "TracePeaks", name := "lift", desc := "(I)I" } : Jvm.MethodName)) ∈ lw_all := lw_g (lw_at lw_m5 93 rfl) rfl
theorem q1173 : (Jvm.Cond.selects "TracePeaks" ({ cls := "TracePeaks", name := "lift", desc := "(I)I" } : Jvm.MethodName) ({ cls := "TracePeaks", name := "lift", desc := "(I)I" } : Jvm.MethodName)) ∈ lw_all := lw_g (lw_at lw_m5 94 rfl) rfl
theorem q1174 : (Jvm.Cond.code ({ cls := "TracePeaks", name := "lift", desc := "(I)I" } : Jvm.MethodName) prog_1_method_23_code (2 : Nat) (Option.some Jvm.ClassFile.FieldType.int)) ∈ lw_all := lw_g (lw_at lw_m5 95 rfl) rfl
theorem q1176 : (Jvm.Cond.instanceMethod ({ cls := "TracePeaks", name := "scale", desc := "(II)I" } : Jvm.MethodName)) ∈ lw_all := lw_g (lw_at lw_m5 97 rfl) rfl
theorem q1177 : (Jvm.Cond.selects "TracePeaks" ({ cls := "TracePeaks", name := "scale", desc := "(II)I" } : Jvm.MethodName) ({ cls := "TracePeaks", name := "scale", desc := "(II)I" } : Jvm.MethodName)) ∈ lw_all := lw_g (lw_at lw_m5 98 rfl) rfl
theorem q1178 : (Jvm.Cond.code ({ cls := "TracePeaks", name := "scale", desc := "(II)I" } : Jvm.MethodName) prog_1_method_24_code (3 : Nat) (Option.some Jvm.ClassFile.FieldType.int)) ∈ lw_all := lw_g (lw_at lw_m5 99 rfl) rfl
theorem q1180 : (Jvm.Cond.instanceMethod ({ cls := "TracePeaks", name := "set", desc := "(II)I" } : Jvm.MethodName)) ∈ lw_all := lw_g (lw_at lw_m5 101 rfl) rfl
theorem q1181 : (Jvm.Cond.selects "TracePeaks" ({ cls := "TracePeaks", name := "set", desc := "(II)I" } : Jvm.MethodName) ({ cls := "TracePeaks", name := "set", desc := "(II)I" } : Jvm.MethodName)) ∈ lw_all := lw_g (lw_at lw_m5 102 rfl) rfl
theorem q1182 : (Jvm.Cond.code ({ cls := "TracePeaks", name := "set", desc := "(II)I" } : Jvm.MethodName) prog_1_method_25_code (3 : Nat) (Option.some Jvm.ClassFile.FieldType.int)) ∈ lw_all := lw_g (lw_at lw_m5 103 rfl) rfl
theorem q1184 : (Jvm.Cond.instanceMethod ({ cls := "TracePeaks", name := "noise", desc := "(I)I" } : Jvm.MethodName)) ∈ lw_all := lw_g (lw_at lw_m5 105 rfl) rfl
theorem q1185 : (Jvm.Cond.selects "TracePeaks" ({ cls := "TracePeaks", name := "noise", desc := "(I)I" } : Jvm.MethodName) ({ cls := "TracePeaks", name := "noise", desc := "(I)I" } : Jvm.MethodName)) ∈ lw_all := lw_g (lw_at lw_m5 106 rfl) rfl
theorem q1186 : (Jvm.Cond.code ({ cls := "TracePeaks", name := "noise", desc := "(I)I" } : Jvm.MethodName) prog_1_method_26_code (2 : Nat) (Option.some Jvm.ClassFile.FieldType.int)) ∈ lw_all := lw_g (lw_at lw_m5 107 rfl) rfl
theorem q1188 : (Jvm.Cond.instanceMethod ({ cls := "TracePeaks", name := "cut", desc := "(II)I" } : Jvm.MethodName)) ∈ lw_all := lw_g (lw_at lw_m5 109 rfl) rfl
theorem q1189 : (Jvm.Cond.selects "TracePeaks" ({ cls := "TracePeaks", name := "cut", desc := "(II)I" } : Jvm.MethodName) ({ cls := "TracePeaks", name := "cut", desc := "(II)I" } : Jvm.MethodName)) ∈ lw_all := lw_g (lw_at lw_m5 110 rfl) rfl
theorem q1190 : (Jvm.Cond.code ({ cls := "TracePeaks", name := "cut", desc := "(II)I" } : Jvm.MethodName) prog_1_method_27_code (3 : Nat) (Option.some Jvm.ClassFile.FieldType.int)) ∈ lw_all := lw_g (lw_at lw_m5 111 rfl) rfl
theorem q1192 : (Jvm.Cond.instanceMethod ({ cls := "TracePeaks", name := "status", desc := "(I)I" } : Jvm.MethodName)) ∈ lw_all := lw_g (lw_at lw_m5 113 rfl) rfl
theorem q1193 : (Jvm.Cond.selects "TracePeaks" ({ cls := "TracePeaks", name := "status", desc := "(I)I" } : Jvm.MethodName) ({ cls := "TracePeaks", name := "status", desc := "(I)I" } : Jvm.MethodName)) ∈ lw_all := lw_g (lw_at lw_m5 114 rfl) rfl
theorem q1194 : (Jvm.Cond.code ({ cls := "TracePeaks", name := "status", desc := "(I)I" } : Jvm.MethodName) prog_1_method_28_code (2 : Nat) (Option.some Jvm.ClassFile.FieldType.int)) ∈ lw_all := lw_g (lw_at lw_m5 115 rfl) rfl
theorem q1196 : (Jvm.Cond.instanceMethod ({ cls := "TracePeaks", name := "undo", desc := "()I" } : Jvm.MethodName)) ∈ lw_all := lw_g (lw_at lw_m5 117 rfl) rfl
theorem q1197 : (Jvm.Cond.selects "TracePeaks" ({ cls := "TracePeaks", name := "undo", desc := "()I" } : Jvm.MethodName) ({ cls := "TracePeaks", name := "undo", desc := "()I" } : Jvm.MethodName)) ∈ lw_all := lw_g (lw_at lw_m5 118 rfl) rfl
theorem q1198 : (Jvm.Cond.code ({ cls := "TracePeaks", name := "undo", desc := "()I" } : Jvm.MethodName) prog_1_method_29_code (1 : Nat) (Option.some Jvm.ClassFile.FieldType.int)) ∈ lw_all := lw_g (lw_at lw_m5 119 rfl) rfl
theorem q1200 : (Jvm.Cond.instanceMethod ({ cls := "TracePeaks", name := "log", desc := "(II)I" } : Jvm.MethodName)) ∈ lw_all := lw_g (lw_at lw_m5 121 rfl) rfl
theorem q1201 : (Jvm.Cond.selects "TracePeaks" ({ cls := "TracePeaks", name := "log", desc := "(II)I" } : Jvm.MethodName) ({ cls := "TracePeaks", name := "log", desc := "(II)I" } : Jvm.MethodName)) ∈ lw_all := lw_g (lw_at lw_m5 122 rfl) rfl
theorem q1202 : (Jvm.Cond.code ({ cls := "TracePeaks", name := "log", desc := "(II)I" } : Jvm.MethodName) prog_1_method_30_code (3 : Nat) (Option.some Jvm.ClassFile.FieldType.int)) ∈ lw_all := lw_g (lw_at lw_m5 123 rfl) rfl
theorem q1203 : (Jvm.Cond.constantLong "TracePeaks" (243 : Nat) (2 : Int64)) ∈ lw_all := lw_g (lw_at lw_m5 124 rfl) rfl
theorem q1204 : (Jvm.Cond.constant "TracePeaks" (245 : Nat) (-1000000 : Int32)) ∈ lw_all := lw_g (lw_at lw_m5 125 rfl) rfl
theorem q1206 : (Jvm.Cond.instanceMethod ({ cls := "TracePeaks", name := "ways", desc := "(IJ)I" } : Jvm.MethodName)) ∈ lw_all := lw_g (lw_at lw_m5 127 rfl) rfl
theorem q1207 : (Jvm.Cond.selects "TracePeaks" ({ cls := "TracePeaks", name := "ways", desc := "(IJ)I" } : Jvm.MethodName) ({ cls := "TracePeaks", name := "ways", desc := "(IJ)I" } : Jvm.MethodName)) ∈ lw_all := lw_g (lw_at lw_m5 128 rfl) rfl
theorem q1208 : (Jvm.Cond.code ({ cls := "TracePeaks", name := "ways", desc := "(IJ)I" } : Jvm.MethodName) prog_1_method_33_code (6 : Nat) (Option.some Jvm.ClassFile.FieldType.int)) ∈ lw_all := lw_g (lw_at lw_m5 129 rfl) rfl
theorem q1209 : (Jvm.Cond.constantLong "TracePeaks" (259 : Nat) (40 : Int64)) ∈ lw_all := lw_g (lw_at lw_m5 130 rfl) rfl
theorem q1210 : (Jvm.Cond.methodLink "TracePeaks" (261 : Nat) ({ cls := "TracePeaks", name := "happens", desc := "()I" } : Jvm.MethodName)) ∈ lw_all := lw_g (lw_at lw_m5 131 rfl) rfl
theorem q1211 : (Jvm.Cond.privateMethod ({ cls := "TracePeaks", name := "happens", desc := "()I" } : Jvm.MethodName)) ∈ lw_tbl := lw_at lw_m5 132 rfl
theorem q1212 : (Jvm.Cond.instanceMethod ({ cls := "TracePeaks", name := "happens", desc := "()I" } : Jvm.MethodName)) ∈ lw_all := lw_g (lw_at lw_m5 133 rfl) rfl
theorem q1213 : (Jvm.Cond.code ({ cls := "TracePeaks", name := "happens", desc := "()I" } : Jvm.MethodName) prog_1_method_32_code (3 : Nat) (Option.some Jvm.ClassFile.FieldType.int)) ∈ lw_all := lw_g (lw_at lw_m5 134 rfl) rfl
theorem q1214 : (Jvm.Cond.methodLink "TracePeaks" (256 : Nat) ({ cls := "TracePeaks", name := "draw", desc := "(I)I" } : Jvm.MethodName)) ∈ lw_all := lw_g (lw_at lw_m5 135 rfl) rfl
theorem q1215 : (Jvm.Cond.privateMethod ({ cls := "TracePeaks", name := "draw", desc := "(I)I" } : Jvm.MethodName)) ∈ lw_tbl := lw_at lw_m5 136 rfl
theorem q1216 : (Jvm.Cond.instanceMethod ({ cls := "TracePeaks", name := "draw", desc := "(I)I" } : Jvm.MethodName)) ∈ lw_all := lw_g (lw_at lw_m5 137 rfl) rfl
theorem q1217 : (Jvm.Cond.code ({ cls := "TracePeaks", name := "draw", desc := "(I)I" } : Jvm.MethodName) prog_1_method_31_code (2 : Nat) (Option.some Jvm.ClassFile.FieldType.int)) ∈ lw_all := lw_g (lw_at lw_m5 138 rfl) rfl
theorem q1218 : (Jvm.Cond.constantLong "TracePeaks" (252 : Nat) (6364136223846793005 : Int64)) ∈ lw_all := lw_g (lw_at lw_m5 139 rfl) rfl
theorem q1219 : (Jvm.Cond.constantLong "TracePeaks" (254 : Nat) (1442695040888963407 : Int64)) ∈ lw_all := lw_g (lw_at lw_m5 140 rfl) rfl
theorem q1221 : (Jvm.Cond.instanceMethod ({ cls := "TracePeaks", name := "rule", desc := "(I)I" } : Jvm.MethodName)) ∈ lw_all := lw_g (lw_at lw_m5 142 rfl) rfl
theorem q1222 : (Jvm.Cond.selects "TracePeaks" ({ cls := "TracePeaks", name := "rule", desc := "(I)I" } : Jvm.MethodName) ({ cls := "TracePeaks", name := "rule", desc := "(I)I" } : Jvm.MethodName)) ∈ lw_all := lw_g (lw_at lw_m5 143 rfl) rfl
theorem q1223 : (Jvm.Cond.code ({ cls := "TracePeaks", name := "rule", desc := "(I)I" } : Jvm.MethodName) prog_1_method_35_code (2 : Nat) (Option.some Jvm.ClassFile.FieldType.int)) ∈ lw_all := lw_g (lw_at lw_m5 144 rfl) rfl
theorem q1224 : (Jvm.Cond.methodLink "TracePeaks" (277 : Nat) ({ cls := "TracePeaks", name := "found", desc := "()LTracePeaks$Peaks;" } : Jvm.MethodName)) ∈ lw_all := lw_g (lw_at lw_m5 145 rfl) rfl
theorem q1225 : (Jvm.Cond.privateMethod ({ cls := "TracePeaks", name := "found", desc := "()LTracePeaks$Peaks;" } : Jvm.MethodName)) ∈ lw_tbl := lw_at lw_m5 146 rfl
theorem q1226 : (Jvm.Cond.instanceMethod ({ cls := "TracePeaks", name := "found", desc := "()LTracePeaks$Peaks;" } : Jvm.MethodName)) ∈ lw_all := lw_g (lw_at lw_m5 147 rfl) rfl
theorem q1227 : (Jvm.Cond.code ({ cls := "TracePeaks", name := "found", desc := "()LTracePeaks$Peaks;" } : Jvm.MethodName) prog_1_method_34_code (1 : Nat) (Option.some (Jvm.ClassFile.FieldType.object "TracePeaks$Peaks"))) ∈ lw_all := lw_g (lw_at lw_m5 148 rfl) rfl
theorem q1228 : (Jvm.Cond.methodLink "TracePeaks" (266 : Nat) ({ cls := "TracePeaks$Peaks", name := "of", desc := "(LTracePeaks$Samples;I)LTracePeaks$Peaks;" } : Jvm.MethodName)) ∈ lw_all := lw_g (lw_at lw_m5 149 rfl) rfl
theorem q1235 : (Jvm.Cond.instanceMethod ({ cls := "TracePeaks", name := "sample", desc := "(I)I" } : Jvm.MethodName)) ∈ lw_all := lw_g (lw_at lw_m5 156 rfl) rfl
theorem q1236 : (Jvm.Cond.selects "TracePeaks" ({ cls := "TracePeaks", name := "sample", desc := "(I)I" } : Jvm.MethodName) ({ cls := "TracePeaks", name := "sample", desc := "(I)I" } : Jvm.MethodName)) ∈ lw_all := lw_g (lw_at lw_m5 157 rfl) rfl
theorem q1237 : (Jvm.Cond.code ({ cls := "TracePeaks", name := "sample", desc := "(I)I" } : Jvm.MethodName) prog_1_method_36_code (2 : Nat) (Option.some Jvm.ClassFile.FieldType.int)) ∈ lw_all := lw_g (lw_at lw_m5 158 rfl) rfl
theorem q1238 : (Jvm.Cond.methodLink "TracePeaks" (288 : Nat) ({ cls := "TracePeaks$State", name := "isPlace", desc := "(I)Z" } : Jvm.MethodName)) ∈ lw_all := lw_g (lw_at lw_m5 159 rfl) rfl
theorem q1240 : (Jvm.Cond.instanceMethod ({ cls := "TracePeaks", name := "basin", desc := "(II)I" } : Jvm.MethodName)) ∈ lw_all := lw_g (lw_at lw_m5 161 rfl) rfl
theorem q1241 : (Jvm.Cond.selects "TracePeaks" ({ cls := "TracePeaks", name := "basin", desc := "(II)I" } : Jvm.MethodName) ({ cls := "TracePeaks", name := "basin", desc := "(II)I" } : Jvm.MethodName)) ∈ lw_all := lw_g (lw_at lw_m5 162 rfl) rfl
theorem q1242 : (Jvm.Cond.code ({ cls := "TracePeaks", name := "basin", desc := "(II)I" } : Jvm.MethodName) prog_1_method_40_code (3 : Nat) (Option.some Jvm.ClassFile.FieldType.int)) ∈ lw_all := lw_g (lw_at lw_m5 163 rfl) rfl
theorem q1243 : (Jvm.Cond.methodLink "TracePeaks" (345 : Nat) ({ cls := "TracePeaks", name := "isKept", desc := "(I)Z" } : Jvm.MethodName)) ∈ lw_all := lw_g (lw_at lw_m5 164 rfl) rfl
theorem q1244 : (Jvm.Cond.privateMethod ({ cls := "TracePeaks", name := "isKept", desc := "(I)Z" } : Jvm.MethodName)) ∈ lw_tbl := lw_at lw_m5 165 rfl
theorem q1245 : (Jvm.Cond.instanceMethod ({ cls := "TracePeaks", name := "isKept", desc := "(I)Z" } : Jvm.MethodName)) ∈ lw_all := lw_g (lw_at lw_m5 166 rfl) rfl
theorem q1246 : (Jvm.Cond.code ({ cls := "TracePeaks", name := "isKept", desc := "(I)Z" } : Jvm.MethodName) prog_1_method_39_code (2 : Nat) (Option.some Jvm.ClassFile.FieldType.boolean)) ∈ lw_all := lw_g (lw_at lw_m5 167 rfl) rfl
theorem q1247 : (Jvm.Cond.methodLink "TracePeaks" (347 : Nat) ({ cls := "TracePeaks$Peaks", name := "first", desc := "(I)I" } : Jvm.MethodName)) ∈ lw_all := lw_g (lw_at lw_m5 168 rfl) rfl
theorem q1263 : (Jvm.Cond.methodLink "TracePeaks" (350 : Nat) ({ cls := "TracePeaks$Peaks", name := "last", desc := "(I)I" } : Jvm.MethodName)) ∈ lw_all := lw_g (lw_at lw_m5 184 rfl) rfl
theorem q1267 : (Jvm.Cond.methodLink "TracePeaks" (353 : Nat) ({ cls := "TracePeaks$Peaks", name := "area", desc := "(I)I" } : Jvm.MethodName)) ∈ lw_all := lw_g (lw_at lw_m5 188 rfl) rfl
theorem q1274 : (Jvm.Cond.methodLink "TracePeaks" (356 : Nat) ({ cls := "TracePeaks$Peaks", name := "width", desc := "(I)I" } : Jvm.MethodName)) ∈ lw_all := lw_g (lw_at lw_m5 195 rfl) rfl
theorem q1284 : (Jvm.Cond.instanceMethod ({ cls := "TracePeaks", name := "at", desc := "(II)I" } : Jvm.MethodName)) ∈ lw_all := lw_g (lw_at lw_m5 205 rfl) rfl
theorem q1285 : (Jvm.Cond.selects "TracePeaks" ({ cls := "TracePeaks", name := "at", desc := "(II)I" } : Jvm.MethodName) ({ cls := "TracePeaks", name := "at", desc := "(II)I" } : Jvm.MethodName)) ∈ lw_all := lw_g (lw_at lw_m5 206 rfl) rfl
theorem q1286 : (Jvm.Cond.code ({ cls := "TracePeaks", name := "at", desc := "(II)I" } : Jvm.MethodName) prog_1_method_41_code (5 : Nat) (Option.some Jvm.ClassFile.FieldType.int)) ∈ lw_all := lw_g (lw_at lw_m5 207 rfl) rfl
theorem q1287 : (Jvm.Cond.methodLink "TracePeaks" (359 : Nat) ({ cls := "TracePeaks$Peaks", name := "numberAt", desc := "(I)I" } : Jvm.MethodName)) ∈ lw_all := lw_g (lw_at lw_m5 208 rfl) rfl
theorem q1289 : (Jvm.Cond.instanceMethod ({ cls := "TracePeaks", name := "line", desc := "(II)I" } : Jvm.MethodName)) ∈ lw_all := lw_g (lw_at lw_m5 210 rfl) rfl
theorem q1290 : (Jvm.Cond.selects "TracePeaks" ({ cls := "TracePeaks", name := "line", desc := "(II)I" } : Jvm.MethodName) ({ cls := "TracePeaks", name := "line", desc := "(II)I" } : Jvm.MethodName)) ∈ lw_all := lw_g (lw_at lw_m5 211 rfl) rfl
theorem q1291 : (Jvm.Cond.code ({ cls := "TracePeaks", name := "line", desc := "(II)I" } : Jvm.MethodName) prog_1_method_42_code (4 : Nat) (Option.some Jvm.ClassFile.FieldType.int)) ∈ lw_all := lw_g (lw_at lw_m5 212 rfl) rfl
theorem q1292 : (Jvm.Cond.methodLink "TracePeaks" (369 : Nat) ({ cls := "java/lang/String", name := "length", desc := "()I" } : Jvm.MethodName)) ∈ lw_all := lw_g (lw_at lw_m5 213 rfl) rfl
theorem q1293 : (Jvm.Cond.methodLink "TracePeaks" (295 : Nat) ({ cls := "TracePeaks$Peaks", name := "matches", desc := "(LTracePeaks$Trace;I)I" } : Jvm.MethodName)) ∈ lw_all := lw_g (lw_at lw_m5 214 rfl) rfl
theorem q1305 : (Jvm.Cond.instanceMethod ({ cls := "TracePeaks", name := "noiseFor", desc := "(I)I" } : Jvm.MethodName)) ∈ lw_all := lw_g (lw_at lw_m5 226 rfl) rfl
theorem q1306 : (Jvm.Cond.selects "TracePeaks" ({ cls := "TracePeaks", name := "noiseFor", desc := "(I)I" } : Jvm.MethodName) ({ cls := "TracePeaks", name := "noiseFor", desc := "(I)I" } : Jvm.MethodName)) ∈ lw_all := lw_g (lw_at lw_m5 227 rfl) rfl
theorem q1307 : (Jvm.Cond.code ({ cls := "TracePeaks", name := "noiseFor", desc := "(I)I" } : Jvm.MethodName) prog_1_method_43_code (2 : Nat) (Option.some Jvm.ClassFile.FieldType.int)) ∈ lw_all := lw_g (lw_at lw_m5 228 rfl) rfl
theorem q1308 : (Jvm.Cond.constantLong "TracePeaks" (374 : Nat) (48 : Int64)) ∈ lw_all := lw_g (lw_at lw_m5 229 rfl) rfl
theorem q1309 : (Jvm.Cond.methodLink "TracePeaks" (324 : Nat) ({ cls := "TracePeaks$Peak", name := "persistence", desc := "()I" } : Jvm.MethodName)) ∈ lw_all := lw_g (lw_at lw_m5 230 rfl) rfl
theorem q1311 : (Jvm.Cond.instanceMethod ({ cls := "TracePeaks", name := "pieces", desc := "(I)I" } : Jvm.MethodName)) ∈ lw_all := lw_g (lw_at lw_m5 232 rfl) rfl
theorem q1312 : (Jvm.Cond.selects "TracePeaks" ({ cls := "TracePeaks", name := "pieces", desc := "(I)I" } : Jvm.MethodName) ({ cls := "TracePeaks", name := "pieces", desc := "(I)I" } : Jvm.MethodName)) ∈ lw_all := lw_g (lw_at lw_m5 233 rfl) rfl
theorem q1313 : (Jvm.Cond.code ({ cls := "TracePeaks", name := "pieces", desc := "(I)I" } : Jvm.MethodName) prog_1_method_44_code (4 : Nat) (Option.some Jvm.ClassFile.FieldType.int)) ∈ lw_all := lw_g (lw_at lw_m5 234 rfl) rfl
theorem q1314 : (Jvm.Cond.constantLong "TracePeaks" (376 : Nat) (999 : Int64)) ∈ lw_all := lw_g (lw_at lw_m5 235 rfl) rfl
theorem q1316 : (Jvm.Cond.instanceMethod ({ cls := "TracePeaks", name := "room", desc := "(I)I" } : Jvm.MethodName)) ∈ lw_all := lw_g (lw_at lw_m5 237 rfl) rfl
theorem q1317 : (Jvm.Cond.selects "TracePeaks" ({ cls := "TracePeaks", name := "room", desc := "(I)I" } : Jvm.MethodName) ({ cls := "TracePeaks", name := "room", desc := "(I)I" } : Jvm.MethodName)) ∈ lw_all := lw_g (lw_at lw_m5 238 rfl) rfl
theorem q1318 : (Jvm.Cond.code ({ cls := "TracePeaks", name := "room", desc := "(I)I" } : Jvm.MethodName) prog_1_method_45_code (6 : Nat) (Option.some Jvm.ClassFile.FieldType.int)) ∈ lw_all := lw_g (lw_at lw_m5 239 rfl) rfl
theorem q1319 : (Jvm.Cond.methodLink "TracePeaks" (378 : Nat) ({ cls := "TracePeaks$Peaks", name := "at", desc := "(I)I" } : Jvm.MethodName)) ∈ lw_all := lw_g (lw_at lw_m6 0 rfl) rfl
theorem q1321 : (Jvm.Cond.instanceMethod ({ cls := "TracePeaks", name := "unlike", desc := "()I" } : Jvm.MethodName)) ∈ lw_all := lw_g (lw_at lw_m6 2 rfl) rfl
theorem q1322 : (Jvm.Cond.selects "TracePeaks" ({ cls := "TracePeaks", name := "unlike", desc := "()I" } : Jvm.MethodName) ({ cls := "TracePeaks", name := "unlike", desc := "()I" } : Jvm.MethodName)) ∈ lw_all := lw_g (lw_at lw_m6 3 rfl) rfl
theorem q1323 : (Jvm.Cond.code ({ cls := "TracePeaks", name := "unlike", desc := "()I" } : Jvm.MethodName) prog_1_method_46_code (1 : Nat) (Option.some Jvm.ClassFile.FieldType.int)) ∈ lw_all := lw_g (lw_at lw_m6 4 rfl) rfl
theorem q1324 : (Jvm.Cond.methodLink "TracePeaks" (380 : Nat) ({ cls := "TracePeaks$Numbers", name := "apart", desc := "(LTracePeaks$Numbers;LTracePeaks$Numbers;)I" } : Jvm.MethodName)) ∈ lw_all := lw_g (lw_at lw_m6 5 rfl) rfl
theorem q1329 : (Jvm.Cond.instanceMethod ({ cls := "TracePeaks", name := "shift", desc := "(I)I" } : Jvm.MethodName)) ∈ lw_all := lw_g (lw_at lw_m6 10 rfl) rfl
theorem q1330 : (Jvm.Cond.selects "TracePeaks" ({ cls := "TracePeaks", name := "shift", desc := "(I)I" } : Jvm.MethodName) ({ cls := "TracePeaks", name := "shift", desc := "(I)I" } : Jvm.MethodName)) ∈ lw_all := lw_g (lw_at lw_m6 11 rfl) rfl
theorem q1331 : (Jvm.Cond.code ({ cls := "TracePeaks", name := "shift", desc := "(I)I" } : Jvm.MethodName) prog_1_method_47_code (8 : Nat) (Option.some Jvm.ClassFile.FieldType.int)) ∈ lw_all := lw_g (lw_at lw_m6 12 rfl) rfl
theorem q1333 : (Jvm.Cond.instanceMethod ({ cls := "TracePeaks", name := "missed", desc := "()I" } : Jvm.MethodName)) ∈ lw_all := lw_g (lw_at lw_m6 14 rfl) rfl
theorem q1334 : (Jvm.Cond.selects "TracePeaks" ({ cls := "TracePeaks", name := "missed", desc := "()I" } : Jvm.MethodName) ({ cls := "TracePeaks", name := "missed", desc := "()I" } : Jvm.MethodName)) ∈ lw_all := lw_g (lw_at lw_m6 15 rfl) rfl
theorem q1335 : (Jvm.Cond.code ({ cls := "TracePeaks", name := "missed", desc := "()I" } : Jvm.MethodName) prog_1_method_49_code (1 : Nat) (Option.some Jvm.ClassFile.FieldType.int)) ∈ lw_all := lw_g (lw_at lw_m6 16 rfl) rfl
theorem q1336 : (Jvm.Cond.methodLink "TracePeaks" (384 : Nat) ({ cls := "TracePeaks", name := "lines", desc := "(Z)I" } : Jvm.MethodName)) ∈ lw_all := lw_g (lw_at lw_m6 17 rfl) rfl
theorem q1337 : (Jvm.Cond.privateMethod ({ cls := "TracePeaks", name := "lines", desc := "(Z)I" } : Jvm.MethodName)) ∈ lw_tbl := lw_at lw_m6 18 rfl
theorem q1338 : (Jvm.Cond.instanceMethod ({ cls := "TracePeaks", name := "lines", desc := "(Z)I" } : Jvm.MethodName)) ∈ lw_all := lw_g (lw_at lw_m6 19 rfl) rfl
theorem q1339 : (Jvm.Cond.code ({ cls := "TracePeaks", name := "lines", desc := "(Z)I" } : Jvm.MethodName) prog_1_method_48_code (5 : Nat) (Option.some Jvm.ClassFile.FieldType.int)) ∈ lw_all := lw_g (lw_at lw_m6 20 rfl) rfl
theorem q1341 : (Jvm.Cond.instanceMethod ({ cls := "TracePeaks", name := "would", desc := "(III)I" } : Jvm.MethodName)) ∈ lw_all := lw_g (lw_at lw_m6 22 rfl) rfl
theorem q1342 : (Jvm.Cond.selects "TracePeaks" ({ cls := "TracePeaks", name := "would", desc := "(III)I" } : Jvm.MethodName) ({ cls := "TracePeaks", name := "would", desc := "(III)I" } : Jvm.MethodName)) ∈ lw_all := lw_g (lw_at lw_m6 23 rfl) rfl
theorem q1343 : (Jvm.Cond.code ({ cls := "TracePeaks", name := "would", desc := "(III)I" } : Jvm.MethodName) prog_1_method_50_code (5 : Nat) (Option.some Jvm.ClassFile.FieldType.int)) ∈ lw_all := lw_g (lw_at lw_m6 24 rfl) rfl
theorem q1344 : (Jvm.Cond.methodLink "TracePeaks" (387 : Nat) ({ cls := "TracePeaks$State", name := "sees", desc := "(LTracePeaks$State;)V" } : Jvm.MethodName)) ∈ lw_all := lw_g (lw_at lw_m6 25 rfl) rfl
theorem q1345 : (Jvm.Cond.methodLink "TracePeaks" (390 : Nat) ({ cls := "TracePeaks$State", name := "sets", desc := "(II)I" } : Jvm.MethodName)) ∈ lw_all := lw_g (lw_at lw_m6 26 rfl) rfl
theorem q1347 : (Jvm.Cond.instanceMethod ({ cls := "TracePeaks", name := "solo", desc := "()I" } : Jvm.MethodName)) ∈ lw_all := lw_g (lw_at lw_m6 28 rfl) rfl
theorem q1348 : (Jvm.Cond.selects "TracePeaks" ({ cls := "TracePeaks", name := "solo", desc := "()I" } : Jvm.MethodName) ({ cls := "TracePeaks", name := "solo", desc := "()I" } : Jvm.MethodName)) ∈ lw_all := lw_g (lw_at lw_m6 29 rfl) rfl
theorem q1349 : (Jvm.Cond.code ({ cls := "TracePeaks", name := "solo", desc := "()I" } : Jvm.MethodName) prog_1_method_53_code (1 : Nat) (Option.some Jvm.ClassFile.FieldType.int)) ∈ lw_all := lw_g (lw_at lw_m6 30 rfl) rfl
theorem q1350 : (Jvm.Cond.privateMethod ({ cls := "TracePeaks", name := "heightBut", desc := "(I)I" } : Jvm.MethodName)) ∈ lw_tbl := lw_at lw_m6 31 rfl
theorem q1351 : (Jvm.Cond.instanceMethod ({ cls := "TracePeaks", name := "heightBut", desc := "(I)I" } : Jvm.MethodName)) ∈ lw_all := lw_g (lw_at lw_m6 32 rfl) rfl
theorem q1352 : (Jvm.Cond.code ({ cls := "TracePeaks", name := "heightBut", desc := "(I)I" } : Jvm.MethodName) prog_1_method_52_code (2 : Nat) (Option.some Jvm.ClassFile.FieldType.int)) ∈ lw_all := lw_g (lw_at lw_m6 33 rfl) rfl
theorem q1353 : (Jvm.Cond.methodLink "TracePeaks" (402 : Nat) ({ cls := "TracePeaks", name := "best", desc := "(LTracePeaks$Rater;)I" } : Jvm.MethodName)) ∈ lw_all := lw_g (lw_at lw_m6 34 rfl) rfl
theorem q1354 : (Jvm.Cond.privateMethod ({ cls := "TracePeaks", name := "best", desc := "(LTracePeaks$Rater;)I" } : Jvm.MethodName)) ∈ lw_tbl := lw_at lw_m6 35 rfl
theorem q1355 : (Jvm.Cond.instanceMethod ({ cls := "TracePeaks", name := "best", desc := "(LTracePeaks$Rater;)I" } : Jvm.MethodName)) ∈ lw_all := lw_g (lw_at lw_m6 36 rfl) rfl
theorem q1356 : (Jvm.Cond.code ({ cls := "TracePeaks", name := "best", desc := "(LTracePeaks$Rater;)I" } : Jvm.MethodName) prog_1_method_51_code (4 : Nat) (Option.some Jvm.ClassFile.FieldType.int)) ∈ lw_all := lw_g (lw_at lw_m6 37 rfl) rfl
theorem q1357 : (Jvm.Cond.interfaceEntry "TracePeaks" (395 : Nat)) ∈ lw_tbl := lw_at lw_m6 38 rfl
theorem q1358 : (Jvm.Cond.methodLink "TracePeaks" (395 : Nat) ({ cls := "TracePeaks$Rater", name := "of", desc := "(I)I" } : Jvm.MethodName)) ∈ lw_all := lw_g (lw_at lw_m6 39 rfl) rfl
theorem q1362 : (Jvm.Cond.instanceMethod ({ cls := "TracePeaks", name := "tallest", desc := "(I)I" } : Jvm.MethodName)) ∈ lw_all := lw_g (lw_at lw_m6 43 rfl) rfl
theorem q1363 : (Jvm.Cond.selects "TracePeaks" ({ cls := "TracePeaks", name := "tallest", desc := "(I)I" } : Jvm.MethodName) ({ cls := "TracePeaks", name := "tallest", desc := "(I)I" } : Jvm.MethodName)) ∈ lw_all := lw_g (lw_at lw_m6 44 rfl) rfl
theorem q1364 : (Jvm.Cond.code ({ cls := "TracePeaks", name := "tallest", desc := "(I)I" } : Jvm.MethodName) prog_1_method_54_code (2 : Nat) (Option.some Jvm.ClassFile.FieldType.int)) ∈ lw_all := lw_g (lw_at lw_m6 45 rfl) rfl
theorem q1365 : (Jvm.Cond.privateMethod ({ cls := "TracePeaks", name := "lambda$tallest$2", desc := "(II)I" } : Jvm.MethodName)) ∈ lw_tbl := lw_at lw_m6 46 rfl
theorem q1366 : (Jvm.Cond.instanceMethod ({ cls := "TracePeaks", name := "lambda$tallest$2", desc := "(II)I" } : Jvm.MethodName)) ∈ lw_all := lw_g (lw_at lw_m6 47 rfl) rfl
theorem q1367 : (Jvm.Cond.code ({ cls := "TracePeaks", name := "lambda$tallest$2", desc := "(II)I" } : Jvm.MethodName) prog_1_method_72_code (3 : Nat) (Option.some Jvm.ClassFile.FieldType.int)) ∈ lw_all := lw_g (lw_at lw_m6 48 rfl) rfl
theorem q1368 : (Jvm.Cond.methodLink "TracePeaks" (338 : Nat) ({ cls := "TracePeaks$Peaks", name := "generation", desc := "(I)I" } : Jvm.MethodName)) ∈ lw_all := lw_g (lw_at lw_m6 49 rfl) rfl
theorem q1373 : (Jvm.Cond.instanceMethod ({ cls := "TracePeaks", name := "change", desc := "(I)I" } : Jvm.MethodName)) ∈ lw_all := lw_g (lw_at lw_m6 54 rfl) rfl
theorem q1374 : (Jvm.Cond.selects "TracePeaks" ({ cls := "TracePeaks", name := "change", desc := "(I)I" } : Jvm.MethodName) ({ cls := "TracePeaks", name := "change", desc := "(I)I" } : Jvm.MethodName)) ∈ lw_all := lw_g (lw_at lw_m6 55 rfl) rfl
theorem q1375 : (Jvm.Cond.code ({ cls := "TracePeaks", name := "change", desc := "(I)I" } : Jvm.MethodName) prog_1_method_55_code (6 : Nat) (Option.some Jvm.ClassFile.FieldType.int)) ∈ lw_all := lw_g (lw_at lw_m6 56 rfl) rfl
theorem q1377 : (Jvm.Cond.instanceMethod ({ cls := "TracePeaks", name := "spell", desc := "(II)I" } : Jvm.MethodName)) ∈ lw_all := lw_g (lw_at lw_m6 58 rfl) rfl
theorem q1378 : (Jvm.Cond.selects "TracePeaks" ({ cls := "TracePeaks", name := "spell", desc := "(II)I" } : Jvm.MethodName) ({ cls := "TracePeaks", name := "spell", desc := "(II)I" } : Jvm.MethodName)) ∈ lw_all := lw_g (lw_at lw_m6 59 rfl) rfl
theorem q1379 : (Jvm.Cond.code ({ cls := "TracePeaks", name := "spell", desc := "(II)I" } : Jvm.MethodName) prog_1_method_57_code (4 : Nat) (Option.some Jvm.ClassFile.FieldType.int)) ∈ lw_all := lw_g (lw_at lw_m6 60 rfl) rfl
theorem q1380 : (Jvm.Cond.methodLink "TracePeaks" (430 : Nat) ({ cls := "TracePeaks", name := "spelled", desc := "(I)Ljava/lang/CharSequence;" } : Jvm.MethodName)) ∈ lw_all := lw_g (lw_at lw_m6 61 rfl) rfl
theorem q1381 : (Jvm.Cond.privateMethod ({ cls := "TracePeaks", name := "spelled", desc := "(I)Ljava/lang/CharSequence;" } : Jvm.MethodName)) ∈ lw_tbl := lw_at lw_m6 62 rfl
theorem q1382 : (Jvm.Cond.instanceMethod ({ cls := "TracePeaks", name := "spelled", desc := "(I)Ljava/lang/CharSequence;" } : Jvm.MethodName)) ∈ lw_all := lw_g (lw_at lw_m6 63 rfl) rfl
theorem q1383 : (Jvm.Cond.code ({ cls := "TracePeaks", name := "spelled", desc := "(I)Ljava/lang/CharSequence;" } : Jvm.MethodName) prog_1_method_56_code (5 : Nat) (Option.some (Jvm.ClassFile.FieldType.object "java/lang/CharSequence"))) ∈ lw_all := lw_g (lw_at lw_m6 64 rfl) rfl
theorem q1384 : (Jvm.Cond.methodLink "TracePeaks" (341 : Nat) ({ cls := "TracePeaks", name := "matchOf", desc := "(LTracePeaks$Peaks;I)I" } : Jvm.MethodName)) ∈ lw_all := lw_g (lw_at lw_m6 65 rfl) rfl
theorem q1385 : (Jvm.Cond.privateMethod ({ cls := "TracePeaks", name := "matchOf", desc := "(LTracePeaks$Peaks;I)I" } : Jvm.MethodName)) ∈ lw_tbl := lw_at lw_m6 66 rfl
theorem q1386 : (Jvm.Cond.instanceMethod ({ cls := "TracePeaks", name := "matchOf", desc := "(LTracePeaks$Peaks;I)I" } : Jvm.MethodName)) ∈ lw_all := lw_g (lw_at lw_m6 67 rfl) rfl
theorem q1387 : (Jvm.Cond.code ({ cls := "TracePeaks", name := "matchOf", desc := "(LTracePeaks$Peaks;I)I" } : Jvm.MethodName) prog_1_method_37_code (4 : Nat) (Option.some Jvm.ClassFile.FieldType.int)) ∈ lw_all := lw_g (lw_at lw_m6 68 rfl) rfl
theorem q1388 : (Jvm.Cond.classLink "TracePeaks" (409 : Nat) "java/lang/StringBuilder") ∈ lw_all := lw_g (lw_at lw_m6 69 rfl) rfl
theorem q1389 : (Jvm.Cond.methodLink "TracePeaks" (411 : Nat) ({ cls := "java/lang/StringBuilder", name := "<init>", desc := "()V" } : Jvm.MethodName)) ∈ lw_all := lw_g (lw_at lw_m6 70 rfl) rfl
theorem q1390 : (Jvm.Cond.methodLink "TracePeaks" (412 : Nat) ({ cls := "java/lang/StringBuilder", name := "append", desc := "(C)Ljava/lang/StringBuilder;" } : Jvm.MethodName)) ∈ lw_all := lw_g (lw_at lw_m6 71 rfl) rfl
theorem q1391 : (Jvm.Cond.methodLink "TracePeaks" (416 : Nat) ({ cls := "java/lang/StringBuilder", name := "append", desc := "(Ljava/lang/String;)Ljava/lang/StringBuilder;" } : Jvm.MethodName)) ∈ lw_all := lw_g (lw_at lw_m6 72 rfl) rfl
theorem q1430 : (Jvm.Cond.methodLink "TracePeaks" (419 : Nat) ({ cls := "java/lang/StringBuilder", name := "append", desc := "(Ljava/lang/Object;)Ljava/lang/StringBuilder;" } : Jvm.MethodName)) ∈ lw_all := lw_g (lw_at lw_m6 111 rfl) rfl
theorem q1442 : (Jvm.Cond.selects "TracePeaks" ({ cls := "java/lang/Object", name := "toString", desc := "()Ljava/lang/String;" } : Jvm.MethodName) ({ cls := "java/lang/Object", name := "toString", desc := "()Ljava/lang/String;" } : Jvm.MethodName)) ∈ lw_all := lw_g (lw_at lw_m6 123 rfl) rfl
theorem q1458 : (Jvm.Cond.selects "TracePeaks" ({ cls := "java/lang/Object", name := "getClass", desc := "()Ljava/lang/Class;" } : Jvm.MethodName) ({ cls := "java/lang/Object", name := "getClass", desc := "()Ljava/lang/Class;" } : Jvm.MethodName)) ∈ lw_all := lw_g (lw_at lw_m6 139 rfl) rfl
theorem q1497 : (Jvm.Cond.stringRef "TracePeaks" (422 : Nat) "@") ∈ lw_tbl := lw_at lw_m6 178 rfl
theorem q1498 : (Jvm.Cond.methodLink "TracePeaks" (424 : Nat) ({ cls := "java/lang/StringBuilder", name := "append", desc := "(I)Ljava/lang/StringBuilder;" } : Jvm.MethodName)) ∈ lw_all := lw_g (lw_at lw_m6 179 rfl) rfl
theorem q1523 : (Jvm.Cond.stringRef "TracePeaks" (427 : Nat) ":") ∈ lw_tbl := lw_at lw_m6 204 rfl
theorem q1524 : (Jvm.Cond.methodLink "TracePeaks" (429 : Nat) ({ cls := "java/lang/StringBuilder", name := "toString", desc := "()Ljava/lang/String;" } : Jvm.MethodName)) ∈ lw_all := lw_g (lw_at lw_m6 205 rfl) rfl
theorem q1525 : (Jvm.Cond.interfaceEntry "TracePeaks" (434 : Nat)) ∈ lw_tbl := lw_at lw_m6 206 rfl
theorem q1526 : (Jvm.Cond.methodLink "TracePeaks" (434 : Nat) ({ cls := "java/lang/CharSequence", name := "length", desc := "()I" } : Jvm.MethodName)) ∈ lw_all := lw_g (lw_at lw_m6 207 rfl) rfl
theorem q1527 : (Jvm.Cond.interfaceEntry "TracePeaks" (435 : Nat)) ∈ lw_tbl := lw_at lw_m6 208 rfl
theorem q1528 : (Jvm.Cond.methodLink "TracePeaks" (435 : Nat) ({ cls := "java/lang/CharSequence", name := "charAt", desc := "(I)C" } : Jvm.MethodName)) ∈ lw_all := lw_g (lw_at lw_m6 209 rfl) rfl
theorem q1555 : (Jvm.Cond.instanceMethod ({ cls := "TracePeaks", name := "step", desc := "(III)I" } : Jvm.MethodName)) ∈ lw_all := lw_g (lw_at lw_m6 236 rfl) rfl
theorem q1556 : (Jvm.Cond.selects "TracePeaks" ({ cls := "TracePeaks", name := "step", desc := "(III)I" } : Jvm.MethodName) ({ cls := "TracePeaks", name := "step", desc := "(III)I" } : Jvm.MethodName)) ∈ lw_all := lw_g (lw_at lw_m6 237 rfl) rfl
theorem q1557 : (Jvm.Cond.code ({ cls := "TracePeaks", name := "step", desc := "(III)I" } : Jvm.MethodName) prog_1_method_59_code (4 : Nat) (Option.some Jvm.ClassFile.FieldType.int)) ∈ lw_all := lw_g (lw_at lw_m6 238 rfl) rfl
theorem q1558 : (Jvm.Cond.methodLink "TracePeaks" (439 : Nat) ({ cls := "TracePeaks", name := "isScript", desc := "(I)Z" } : Jvm.MethodName)) ∈ lw_all := lw_g (lw_at lw_m6 239 rfl) rfl
theorem q1559 : (Jvm.Cond.privateMethod ({ cls := "TracePeaks", name := "isScript", desc := "(I)Z" } : Jvm.MethodName)) ∈ lw_tbl := lw_at lw_m7 0 rfl
theorem q1560 : (Jvm.Cond.instanceMethod ({ cls := "TracePeaks", name := "isScript", desc := "(I)Z" } : Jvm.MethodName)) ∈ lw_all := lw_g (lw_at lw_m7 1 rfl) rfl
theorem q1561 : (Jvm.Cond.code ({ cls := "TracePeaks", name := "isScript", desc := "(I)Z" } : Jvm.MethodName) prog_1_method_58_code (2 : Nat) (Option.some Jvm.ClassFile.FieldType.boolean)) ∈ lw_all := lw_g (lw_at lw_m7 2 rfl) rfl
theorem q1562 : (Jvm.Cond.methodLink "TracePeaks" (446 : Nat) ({ cls := "TracePeaks$Script", name := "number", desc := "(II)I" } : Jvm.MethodName)) ∈ lw_all := lw_g (lw_at lw_m7 3 rfl) rfl
theorem q1567 : (Jvm.Cond.instanceMethod ({ cls := "TracePeaks", name := "run", desc := "(II)I" } : Jvm.MethodName)) ∈ lw_all := lw_g (lw_at lw_m7 8 rfl) rfl
theorem q1568 : (Jvm.Cond.selects "TracePeaks" ({ cls := "TracePeaks", name := "run", desc := "(II)I" } : Jvm.MethodName) ({ cls := "TracePeaks", name := "run", desc := "(II)I" } : Jvm.MethodName)) ∈ lw_all := lw_g (lw_at lw_m7 9 rfl) rfl
theorem q1569 : (Jvm.Cond.code ({ cls := "TracePeaks", name := "run", desc := "(II)I" } : Jvm.MethodName) prog_1_method_60_code (5 : Nat) (Option.some Jvm.ClassFile.FieldType.int)) ∈ lw_all := lw_g (lw_at lw_m7 10 rfl) rfl
theorem q1571 : (Jvm.Cond.instanceMethod ({ cls := "TracePeaks", name := "perform", desc := "(I)I" } : Jvm.MethodName)) ∈ lw_all := lw_g (lw_at lw_m7 12 rfl) rfl
theorem q1572 : (Jvm.Cond.selects "TracePeaks" ({ cls := "TracePeaks", name := "perform", desc := "(I)I" } : Jvm.MethodName) ({ cls := "TracePeaks", name := "perform", desc := "(I)I" } : Jvm.MethodName)) ∈ lw_all := lw_g (lw_at lw_m7 13 rfl) rfl
theorem q1573 : (Jvm.Cond.code ({ cls := "TracePeaks", name := "perform", desc := "(I)I" } : Jvm.MethodName) prog_1_method_61_code (4 : Nat) (Option.some Jvm.ClassFile.FieldType.int)) ∈ lw_all := lw_g (lw_at lw_m7 14 rfl) rfl
theorem q1575 : (Jvm.Cond.instanceMethod ({ cls := "TracePeaks", name := "most", desc := "(I)I" } : Jvm.MethodName)) ∈ lw_all := lw_g (lw_at lw_m7 16 rfl) rfl
theorem q1576 : (Jvm.Cond.selects "TracePeaks" ({ cls := "TracePeaks", name := "most", desc := "(I)I" } : Jvm.MethodName) ({ cls := "TracePeaks", name := "most", desc := "(I)I" } : Jvm.MethodName)) ∈ lw_all := lw_g (lw_at lw_m7 17 rfl) rfl
theorem q1577 : (Jvm.Cond.code ({ cls := "TracePeaks", name := "most", desc := "(I)I" } : Jvm.MethodName) prog_1_method_64_code (2 : Nat) (Option.some Jvm.ClassFile.FieldType.int)) ∈ lw_all := lw_g (lw_at lw_m7 18 rfl) rfl
theorem q1578 : (Jvm.Cond.privateMethod ({ cls := "TracePeaks", name := "lambda$most$3", desc := "(I)I" } : Jvm.MethodName)) ∈ lw_tbl := lw_at lw_m7 19 rfl
theorem q1579 : (Jvm.Cond.instanceMethod ({ cls := "TracePeaks", name := "lambda$most$3", desc := "(I)I" } : Jvm.MethodName)) ∈ lw_all := lw_g (lw_at lw_m7 20 rfl) rfl
theorem q1580 : (Jvm.Cond.code ({ cls := "TracePeaks", name := "lambda$most$3", desc := "(I)I" } : Jvm.MethodName) prog_1_method_71_code (2 : Nat) (Option.some Jvm.ClassFile.FieldType.int)) ∈ lw_all := lw_g (lw_at lw_m7 21 rfl) rfl
theorem q1581 : (Jvm.Cond.methodLink "TracePeaks" (450 : Nat) ({ cls := "TracePeaks", name := "sum", desc := "(LTracePeaks$Rater;Z)I" } : Jvm.MethodName)) ∈ lw_all := lw_g (lw_at lw_m7 22 rfl) rfl
theorem q1582 : (Jvm.Cond.privateMethod ({ cls := "TracePeaks", name := "sum", desc := "(LTracePeaks$Rater;Z)I" } : Jvm.MethodName)) ∈ lw_tbl := lw_at lw_m7 23 rfl
theorem q1583 : (Jvm.Cond.instanceMethod ({ cls := "TracePeaks", name := "sum", desc := "(LTracePeaks$Rater;Z)I" } : Jvm.MethodName)) ∈ lw_all := lw_g (lw_at lw_m7 24 rfl) rfl
theorem q1584 : (Jvm.Cond.code ({ cls := "TracePeaks", name := "sum", desc := "(LTracePeaks$Rater;Z)I" } : Jvm.MethodName) prog_1_method_62_code (5 : Nat) (Option.some Jvm.ClassFile.FieldType.int)) ∈ lw_all := lw_g (lw_at lw_m7 25 rfl) rfl
theorem q1586 : (Jvm.Cond.privateMethod ({ cls := "TracePeaks", name := "lambda$most$4", desc := "(I)I" } : Jvm.MethodName)) ∈ lw_tbl := lw_at lw_m7 27 rfl
theorem q1587 : (Jvm.Cond.instanceMethod ({ cls := "TracePeaks", name := "lambda$most$4", desc := "(I)I" } : Jvm.MethodName)) ∈ lw_all := lw_g (lw_at lw_m7 28 rfl) rfl
theorem q1588 : (Jvm.Cond.code ({ cls := "TracePeaks", name := "lambda$most$4", desc := "(I)I" } : Jvm.MethodName) prog_1_method_70_code (2 : Nat) (Option.some Jvm.ClassFile.FieldType.int)) ∈ lw_all := lw_g (lw_at lw_m7 29 rfl) rfl
theorem q1589 : (Jvm.Cond.privateMethod ({ cls := "TracePeaks", name := "lambda$most$5", desc := "(I)I" } : Jvm.MethodName)) ∈ lw_tbl := lw_at lw_m7 30 rfl
theorem q1590 : (Jvm.Cond.instanceMethod ({ cls := "TracePeaks", name := "lambda$most$5", desc := "(I)I" } : Jvm.MethodName)) ∈ lw_all := lw_g (lw_at lw_m7 31 rfl) rfl
theorem q1591 : (Jvm.Cond.code ({ cls := "TracePeaks", name := "lambda$most$5", desc := "(I)I" } : Jvm.MethodName) prog_1_method_69_code (2 : Nat) (Option.some Jvm.ClassFile.FieldType.int)) ∈ lw_all := lw_g (lw_at lw_m7 32 rfl) rfl
theorem q1592 : (Jvm.Cond.methodLink "TracePeaks" (456 : Nat) ({ cls := "TracePeaks", name := "generations", desc := "()I" } : Jvm.MethodName)) ∈ lw_all := lw_g (lw_at lw_m7 33 rfl) rfl
theorem q1593 : (Jvm.Cond.privateMethod ({ cls := "TracePeaks", name := "generations", desc := "()I" } : Jvm.MethodName)) ∈ lw_tbl := lw_at lw_m7 34 rfl
theorem q1594 : (Jvm.Cond.instanceMethod ({ cls := "TracePeaks", name := "generations", desc := "()I" } : Jvm.MethodName)) ∈ lw_all := lw_g (lw_at lw_m7 35 rfl) rfl
theorem q1595 : (Jvm.Cond.code ({ cls := "TracePeaks", name := "generations", desc := "()I" } : Jvm.MethodName) prog_1_method_63_code (3 : Nat) (Option.some Jvm.ClassFile.FieldType.int)) ∈ lw_all := lw_g (lw_at lw_m7 36 rfl) rfl
theorem q1596 : (Jvm.Cond.privateMethod ({ cls := "TracePeaks", name := "lambda$most$6", desc := "(I)I" } : Jvm.MethodName)) ∈ lw_tbl := lw_at lw_m7 37 rfl
theorem q1597 : (Jvm.Cond.instanceMethod ({ cls := "TracePeaks", name := "lambda$most$6", desc := "(I)I" } : Jvm.MethodName)) ∈ lw_all := lw_g (lw_at lw_m7 38 rfl) rfl
theorem q1598 : (Jvm.Cond.code ({ cls := "TracePeaks", name := "lambda$most$6", desc := "(I)I" } : Jvm.MethodName) prog_1_method_68_code (2 : Nat) (Option.some Jvm.ClassFile.FieldType.int)) ∈ lw_all := lw_g (lw_at lw_m7 39 rfl) rfl
theorem q1600 : (Jvm.Cond.instanceMethod ({ cls := "TracePeaks", name := "image", desc := "()I" } : Jvm.MethodName)) ∈ lw_all := lw_g (lw_at lw_m7 41 rfl) rfl
theorem q1601 : (Jvm.Cond.selects "TracePeaks" ({ cls := "TracePeaks", name := "image", desc := "()I" } : Jvm.MethodName) ({ cls := "TracePeaks", name := "image", desc := "()I" } : Jvm.MethodName)) ∈ lw_all := lw_g (lw_at lw_m7 42 rfl) rfl
theorem q1602 : (Jvm.Cond.code ({ cls := "TracePeaks", name := "image", desc := "()I" } : Jvm.MethodName) prog_1_method_65_code (1 : Nat) (Option.some Jvm.ClassFile.FieldType.int)) ∈ lw_all := lw_g (lw_at lw_m7 43 rfl) rfl
theorem q1604 : (Jvm.Cond.instanceMethod ({ cls := "TracePeaks", name := "back", desc := "()I" } : Jvm.MethodName)) ∈ lw_all := lw_g (lw_at lw_m7 45 rfl) rfl
theorem q1605 : (Jvm.Cond.selects "TracePeaks" ({ cls := "TracePeaks", name := "back", desc := "()I" } : Jvm.MethodName) ({ cls := "TracePeaks", name := "back", desc := "()I" } : Jvm.MethodName)) ∈ lw_all := lw_g (lw_at lw_m7 46 rfl) rfl
theorem q1606 : (Jvm.Cond.code ({ cls := "TracePeaks", name := "back", desc := "()I" } : Jvm.MethodName) prog_1_method_66_code (1 : Nat) (Option.some Jvm.ClassFile.FieldType.int)) ∈ lw_all := lw_g (lw_at lw_m7 47 rfl) rfl
theorem q1608 : (Jvm.Cond.instanceMethod ({ cls := "TracePeaks", name := "held", desc := "(I)I" } : Jvm.MethodName)) ∈ lw_all := lw_g (lw_at lw_m7 49 rfl) rfl
theorem q1609 : (Jvm.Cond.selects "TracePeaks" ({ cls := "TracePeaks", name := "held", desc := "(I)I" } : Jvm.MethodName) ({ cls := "TracePeaks", name := "held", desc := "(I)I" } : Jvm.MethodName)) ∈ lw_all := lw_g (lw_at lw_m7 50 rfl) rfl
theorem q1610 : (Jvm.Cond.code ({ cls := "TracePeaks", name := "held", desc := "(I)I" } : Jvm.MethodName) prog_1_method_67_code (2 : Nat) (Option.some Jvm.ClassFile.FieldType.int)) ∈ lw_all := lw_g (lw_at lw_m7 51 rfl) rfl
theorem q1616 : (Jvm.Cond.instanceMethod ({ cls := "TracePeaks", name := "peak", desc := "(II)I" } : Jvm.MethodName)) ∈ lw_all := lw_g (lw_at lw_m7 57 rfl) rfl
theorem q1617 : (Jvm.Cond.selects "TracePeaks" ({ cls := "TracePeaks", name := "peak", desc := "(II)I" } : Jvm.MethodName) ({ cls := "TracePeaks", name := "peak", desc := "(II)I" } : Jvm.MethodName)) ∈ lw_all := lw_g (lw_at lw_m7 58 rfl) rfl
theorem q1618 : (Jvm.Cond.code ({ cls := "TracePeaks", name := "peak", desc := "(II)I" } : Jvm.MethodName) prog_1_method_38_code (4 : Nat) (Option.some Jvm.ClassFile.FieldType.int)) ∈ lw_all := lw_g (lw_at lw_m7 59 rfl) rfl
theorem q1619 : (Jvm.Cond.constantLong "TracePeaks" (302 : Nat) (8 : Int64)) ∈ lw_all := lw_g (lw_at lw_m7 60 rfl) rfl
theorem q1620 : (Jvm.Cond.classLink "TracePeaks" (304 : Nat) "java/util/NoSuchElementException") ∈ lw_all := lw_g (lw_at lw_m7 61 rfl) rfl
theorem q1631 : (Jvm.Cond.methodLink "TracePeaks" (306 : Nat) ({ cls := "java/util/NoSuchElementException", name := "<init>", desc := "()V" } : Jvm.MethodName)) ∈ lw_all := lw_g (lw_at lw_m7 72 rfl) rfl
theorem q1643 : (Jvm.Cond.methodLink "TracePeaks" (331 : Nat) ({ cls := "TracePeaks$Peaks", name := "numberOf", desc := "(LTracePeaks$Peak;)I" } : Jvm.MethodName)) ∈ lw_all := lw_g (lw_at lw_m7 84 rfl) rfl
theorem q2360 : (Jvm.Cond.castable "TracePeaks" "java/lang/Object") ∈ lw_tbl := lw_at lw_m10 81 rfl
theorem in_X1 : ∀ w ∈ wsX10, w ∈ lw_all := lw_in wsX10 [391, 393, 395, 397, 399, 401, 403, 405, 407, 409, 411, 413, 415, 417, 419, 421, 423, 425, 427, 429, 431, 433] (by decide +kernel) (by decide +kernel)
def RX2 : String := "TracePeaks$Beside"
def TX2 : u_T := fun k => match k with
  | _ => ("TracePeaks$Beside", "filter", "LTracePeaks$Filter;", true)
def tyX2 : Nat → FieldType := fun k => match k with
  | _ => .object "TracePeaks$Filter"
abbrev wsX20 : List Cond := u_ws RX2 TX2 1
theorem nmX2 : ∀ a, a < 1 → ∀ b, b < 1 → a ≠ b → (TX2 a).2.1 ≠ (TX2 b).2.1 := by decide +kernel
theorem tyX2_ok : ∀ k, k < 1 → parseFieldDescriptor (TX2 k).2.2.1 = some (tyX2 k) := by decide +kernel
abbrev cX2_init : ByteArray := prog_2_method_1_code
def yX2_init : MethodName := ⟨RX2, "<init>", "(LTracePeaks$Filter;)V"⟩
theorem q121 : (Jvm.Cond.initialized "TracePeaks$Beside") ∈ lw_all := lw_g (lw_at lw_m1 2 rfl) rfl
theorem q174 : (Jvm.Cond.instantiable "TracePeaks$Beside" (1 : Nat)) ∈ lw_all := lw_g (lw_at lw_m1 55 rfl) rfl
theorem q178 : (Jvm.Cond.instanceMethod ({ cls := "TracePeaks$Beside", name := "<init>", desc := "(LTracePeaks$Filter;)V" } : Jvm.MethodName)) ∈ lw_all := lw_g (lw_at lw_m1 59 rfl) rfl
theorem q179 : (Jvm.Cond.code ({ cls := "TracePeaks$Beside", name := "<init>", desc := "(LTracePeaks$Filter;)V" } : Jvm.MethodName) prog_2_method_1_code (2 : Nat) (Option.none : Option Jvm.ClassFile.FieldType)) ∈ lw_all := lw_g (lw_at lw_m1 60 rfl) rfl
theorem q180 : (Jvm.Cond.methodLink "TracePeaks$Beside" (1 : Nat) ({ cls := "java/lang/Object", name := "<init>", desc := "()V" } : Jvm.MethodName)) ∈ lw_all := lw_g (lw_at lw_m1 61 rfl) rfl
theorem q181 : (Jvm.Cond.fieldLink "TracePeaks$Beside" (7 : Nat) "TracePeaks$Beside" "filter" "LTracePeaks$Filter;") ∈ lw_all := lw_g (lw_at lw_m1 62 rfl) rfl
theorem q183 : (Jvm.Cond.laysFinal "TracePeaks$Beside" "TracePeaks$Beside" "filter" "LTracePeaks$Filter;") ∈ lw_all := lw_g (lw_at lw_m1 64 rfl) rfl
theorem q184 : (Jvm.Cond.soleField "TracePeaks$Beside" "filter") ∈ lw_all := lw_g (lw_at lw_m1 65 rfl) rfl
theorem q185 : (Jvm.Cond.superclass "TracePeaks$Beside" "java/lang/Object") ∈ lw_all := lw_g (lw_at lw_m1 66 rfl) rfl
theorem q1443 : (Jvm.Cond.selects "TracePeaks$Beside" ({ cls := "java/lang/Object", name := "toString", desc := "()Ljava/lang/String;" } : Jvm.MethodName) ({ cls := "java/lang/Object", name := "toString", desc := "()Ljava/lang/String;" } : Jvm.MethodName)) ∈ lw_all := lw_g (lw_at lw_m6 124 rfl) rfl
theorem q1459 : (Jvm.Cond.selects "TracePeaks$Beside" ({ cls := "java/lang/Object", name := "getClass", desc := "()Ljava/lang/Class;" } : Jvm.MethodName) ({ cls := "java/lang/Object", name := "getClass", desc := "()Ljava/lang/Class;" } : Jvm.MethodName)) ∈ lw_all := lw_g (lw_at lw_m6 140 rfl) rfl
theorem q2361 : (Jvm.Cond.castable "TracePeaks$Beside" "java/lang/Object") ∈ lw_tbl := lw_at lw_m10 82 rfl
theorem in_X2 : ∀ w ∈ wsX20, w ∈ lw_all := lw_in wsX20 [183] (by decide +kernel) (by decide +kernel)
def RX3 : String := "TracePeaks$Numbers"
abbrev cX3_middle : ByteArray := prog_6_method_7_code
def yX3_middle : MethodName := ⟨RX3, "middle", "(III)I"⟩
abbrev cX3_least : ByteArray := prog_6_method_4_code
def yX3_least : MethodName := ⟨RX3, "least", "()I"⟩
abbrev cX3_greatest : ByteArray := prog_6_method_5_code
def yX3_greatest : MethodName := ⟨RX3, "greatest", "()I"⟩
abbrev cX3_sum : ByteArray := prog_6_method_3_code
def yX3_sum : MethodName := ⟨RX3, "sum", "()I"⟩
abbrev cX3_run : ByteArray := prog_6_method_6_code
def yX3_run : MethodName := ⟨RX3, "run", "(II)I"⟩
abbrev cX3_apart : ByteArray := prog_6_method_8_code
def yX3_apart : MethodName := ⟨RX3, "apart", "(LTracePeaks$Numbers;LTracePeaks$Numbers;)I"⟩
theorem q122 : (Jvm.Cond.initialized "TracePeaks$Numbers") ∈ lw_all := lw_g (lw_at lw_m1 3 rfl) rfl
theorem q189 : (Jvm.Cond.static ({ cls := "TracePeaks$Numbers", name := "middle", desc := "(III)I" } : Jvm.MethodName)) ∈ lw_all := lw_g (lw_at lw_m1 70 rfl) rfl
theorem q190 : (Jvm.Cond.code ({ cls := "TracePeaks$Numbers", name := "middle", desc := "(III)I" } : Jvm.MethodName) prog_6_method_7_code (3 : Nat) (Option.some Jvm.ClassFile.FieldType.int)) ∈ lw_all := lw_g (lw_at lw_m1 71 rfl) rfl
theorem q191 : (Jvm.Cond.methodLink "TracePeaks$Numbers" (11 : Nat) ({ cls := "java/lang/Math", name := "min", desc := "(II)I" } : Jvm.MethodName)) ∈ lw_all := lw_g (lw_at lw_m1 72 rfl) rfl
theorem q194 : (Jvm.Cond.methodLink "TracePeaks$Numbers" (17 : Nat) ({ cls := "java/lang/Math", name := "max", desc := "(II)I" } : Jvm.MethodName)) ∈ lw_all := lw_g (lw_at lw_m1 75 rfl) rfl
theorem q1030 : (Jvm.Cond.declares ({ cls := "TracePeaks$Numbers", name := "least", desc := "()I" } : Jvm.MethodName)) ∈ lw_tbl := lw_at lw_m4 191 rfl
theorem q1032 : (Jvm.Cond.instanceMethod ({ cls := "TracePeaks$Numbers", name := "least", desc := "()I" } : Jvm.MethodName)) ∈ lw_all := lw_g (lw_at lw_m4 193 rfl) rfl
theorem q1033 : (Jvm.Cond.publicMethod ({ cls := "TracePeaks$Numbers", name := "least", desc := "()I" } : Jvm.MethodName)) ∈ lw_tbl := lw_at lw_m4 194 rfl
theorem q1034 : (Jvm.Cond.code ({ cls := "TracePeaks$Numbers", name := "least", desc := "()I" } : Jvm.MethodName) prog_6_method_4_code (3 : Nat) (Option.some Jvm.ClassFile.FieldType.int)) ∈ lw_all := lw_g (lw_at lw_m4 195 rfl) rfl
theorem q1035 : (Jvm.Cond.interfaceEntry "TracePeaks$Numbers" (7 : Nat)) ∈ lw_tbl := lw_at lw_m4 196 rfl
theorem q1036 : (Jvm.Cond.methodLink "TracePeaks$Numbers" (7 : Nat) ({ cls := "TracePeaks$Numbers", name := "at", desc := "(I)I" } : Jvm.MethodName)) ∈ lw_all := lw_g (lw_at lw_m4 197 rfl) rfl
theorem q1037 : (Jvm.Cond.interfaceMethod "TracePeaks$Numbers" "TracePeaks$Numbers" "at" "(I)I") ∈ lw_tbl := lw_at lw_m4 198 rfl
theorem q1038 : (Jvm.Cond.declares ({ cls := "TracePeaks$Numbers", name := "at", desc := "(I)I" } : Jvm.MethodName)) ∈ lw_tbl := lw_at lw_m4 199 rfl
theorem q1055 : (Jvm.Cond.interfaceEntry "TracePeaks$Numbers" (1 : Nat)) ∈ lw_tbl := lw_at lw_m4 216 rfl
theorem q1056 : (Jvm.Cond.methodLink "TracePeaks$Numbers" (1 : Nat) ({ cls := "TracePeaks$Numbers", name := "many", desc := "()I" } : Jvm.MethodName)) ∈ lw_all := lw_g (lw_at lw_m4 217 rfl) rfl
theorem q1057 : (Jvm.Cond.interfaceMethod "TracePeaks$Numbers" "TracePeaks$Numbers" "many" "()I") ∈ lw_tbl := lw_at lw_m4 218 rfl
theorem q1058 : (Jvm.Cond.declares ({ cls := "TracePeaks$Numbers", name := "many", desc := "()I" } : Jvm.MethodName)) ∈ lw_tbl := lw_at lw_m4 219 rfl
theorem q1127 : (Jvm.Cond.declares ({ cls := "TracePeaks$Numbers", name := "greatest", desc := "()I" } : Jvm.MethodName)) ∈ lw_tbl := lw_at lw_m5 48 rfl
theorem q1129 : (Jvm.Cond.instanceMethod ({ cls := "TracePeaks$Numbers", name := "greatest", desc := "()I" } : Jvm.MethodName)) ∈ lw_all := lw_g (lw_at lw_m5 50 rfl) rfl
theorem q1130 : (Jvm.Cond.publicMethod ({ cls := "TracePeaks$Numbers", name := "greatest", desc := "()I" } : Jvm.MethodName)) ∈ lw_tbl := lw_at lw_m5 51 rfl
theorem q1131 : (Jvm.Cond.code ({ cls := "TracePeaks$Numbers", name := "greatest", desc := "()I" } : Jvm.MethodName) prog_6_method_5_code (3 : Nat) (Option.some Jvm.ClassFile.FieldType.int)) ∈ lw_all := lw_g (lw_at lw_m5 52 rfl) rfl
theorem q1229 : (Jvm.Cond.declares ({ cls := "TracePeaks$Numbers", name := "sum", desc := "()I" } : Jvm.MethodName)) ∈ lw_tbl := lw_at lw_m5 150 rfl
theorem q1231 : (Jvm.Cond.instanceMethod ({ cls := "TracePeaks$Numbers", name := "sum", desc := "()I" } : Jvm.MethodName)) ∈ lw_all := lw_g (lw_at lw_m5 152 rfl) rfl
theorem q1232 : (Jvm.Cond.publicMethod ({ cls := "TracePeaks$Numbers", name := "sum", desc := "()I" } : Jvm.MethodName)) ∈ lw_tbl := lw_at lw_m5 153 rfl
theorem q1233 : (Jvm.Cond.code ({ cls := "TracePeaks$Numbers", name := "sum", desc := "()I" } : Jvm.MethodName) prog_6_method_3_code (3 : Nat) (Option.some Jvm.ClassFile.FieldType.int)) ∈ lw_all := lw_g (lw_at lw_m5 154 rfl) rfl
theorem q1278 : (Jvm.Cond.declares ({ cls := "TracePeaks$Numbers", name := "run", desc := "(II)I" } : Jvm.MethodName)) ∈ lw_tbl := lw_at lw_m5 199 rfl
theorem q1280 : (Jvm.Cond.instanceMethod ({ cls := "TracePeaks$Numbers", name := "run", desc := "(II)I" } : Jvm.MethodName)) ∈ lw_all := lw_g (lw_at lw_m5 201 rfl) rfl
theorem q1281 : (Jvm.Cond.publicMethod ({ cls := "TracePeaks$Numbers", name := "run", desc := "(II)I" } : Jvm.MethodName)) ∈ lw_tbl := lw_at lw_m5 202 rfl
theorem q1282 : (Jvm.Cond.code ({ cls := "TracePeaks$Numbers", name := "run", desc := "(II)I" } : Jvm.MethodName) prog_6_method_6_code (5 : Nat) (Option.some Jvm.ClassFile.FieldType.int)) ∈ lw_all := lw_g (lw_at lw_m5 203 rfl) rfl
theorem q1325 : (Jvm.Cond.static ({ cls := "TracePeaks$Numbers", name := "apart", desc := "(LTracePeaks$Numbers;LTracePeaks$Numbers;)I" } : Jvm.MethodName)) ∈ lw_all := lw_g (lw_at lw_m6 6 rfl) rfl
theorem q1326 : (Jvm.Cond.code ({ cls := "TracePeaks$Numbers", name := "apart", desc := "(LTracePeaks$Numbers;LTracePeaks$Numbers;)I" } : Jvm.MethodName) prog_6_method_8_code (4 : Nat) (Option.some Jvm.ClassFile.FieldType.int)) ∈ lw_all := lw_g (lw_at lw_m6 7 rfl) rfl
theorem q1327 : (Jvm.Cond.methodLink "TracePeaks$Numbers" (20 : Nat) ({ cls := "java/lang/Math", name := "abs", desc := "(I)I" } : Jvm.MethodName)) ∈ lw_all := lw_g (lw_at lw_m6 8 rfl) rfl
def RJ0 : String := "java/lang/Math"
abbrev cJ0_min : ByteArray := prog_26_method_69_code
def yJ0_min : MethodName := ⟨RJ0, "min", "(II)I"⟩
abbrev cJ0_max : ByteArray := prog_26_method_65_code
def yJ0_max : MethodName := ⟨RJ0, "max", "(II)I"⟩
abbrev cJ0_abs : ByteArray := prog_26_method_59_code
def yJ0_abs : MethodName := ⟨RJ0, "abs", "(I)I"⟩
theorem q123 : (Jvm.Cond.initialized "java/lang/Math") ∈ lw_all := lw_g (lw_at lw_m1 4 rfl) rfl
theorem q192 : (Jvm.Cond.static ({ cls := "java/lang/Math", name := "min", desc := "(II)I" } : Jvm.MethodName)) ∈ lw_all := lw_g (lw_at lw_m1 73 rfl) rfl
theorem q193 : (Jvm.Cond.code ({ cls := "java/lang/Math", name := "min", desc := "(II)I" } : Jvm.MethodName) prog_26_method_69_code (2 : Nat) (Option.some Jvm.ClassFile.FieldType.int)) ∈ lw_all := lw_g (lw_at lw_m1 74 rfl) rfl
theorem q195 : (Jvm.Cond.static ({ cls := "java/lang/Math", name := "max", desc := "(II)I" } : Jvm.MethodName)) ∈ lw_all := lw_g (lw_at lw_m1 76 rfl) rfl
theorem q196 : (Jvm.Cond.code ({ cls := "java/lang/Math", name := "max", desc := "(II)I" } : Jvm.MethodName) prog_26_method_65_code (2 : Nat) (Option.some Jvm.ClassFile.FieldType.int)) ∈ lw_all := lw_g (lw_at lw_m1 77 rfl) rfl
theorem q1302 : (Jvm.Cond.static ({ cls := "java/lang/Math", name := "abs", desc := "(I)I" } : Jvm.MethodName)) ∈ lw_all := lw_g (lw_at lw_m5 223 rfl) rfl
theorem q1303 : (Jvm.Cond.code ({ cls := "java/lang/Math", name := "abs", desc := "(I)I" } : Jvm.MethodName) prog_26_method_59_code (1 : Nat) (Option.some Jvm.ClassFile.FieldType.int)) ∈ lw_all := lw_g (lw_at lw_m5 224 rfl) rfl
def RX4 : String := "TracePeaks$Each"
def TX4 : u_T := fun k => match k with
  | _ => ("TracePeaks$Each", "change", "LTracePeaks$Change;", true)
def tyX4 : Nat → FieldType := fun k => match k with
  | _ => .object "TracePeaks$Change"
abbrev wsX40 : List Cond := u_ws RX4 TX4 1
theorem nmX4 : ∀ a, a < 1 → ∀ b, b < 1 → a ≠ b → (TX4 a).2.1 ≠ (TX4 b).2.1 := by decide +kernel
theorem tyX4_ok : ∀ k, k < 1 → parseFieldDescriptor (TX4 k).2.2.1 = some (tyX4 k) := by decide +kernel
abbrev cX4_init : ByteArray := prog_4_method_1_code
def yX4_init : MethodName := ⟨RX4, "<init>", "(LTracePeaks$Change;)V"⟩
theorem q124 : (Jvm.Cond.initialized "TracePeaks$Each") ∈ lw_all := lw_g (lw_at lw_m1 5 rfl) rfl
theorem q199 : (Jvm.Cond.instantiable "TracePeaks$Each" (1 : Nat)) ∈ lw_all := lw_g (lw_at lw_m1 80 rfl) rfl
theorem q204 : (Jvm.Cond.instanceMethod ({ cls := "TracePeaks$Each", name := "<init>", desc := "(LTracePeaks$Change;)V" } : Jvm.MethodName)) ∈ lw_all := lw_g (lw_at lw_m1 85 rfl) rfl
theorem q205 : (Jvm.Cond.code ({ cls := "TracePeaks$Each", name := "<init>", desc := "(LTracePeaks$Change;)V" } : Jvm.MethodName) prog_4_method_1_code (2 : Nat) (Option.none : Option Jvm.ClassFile.FieldType)) ∈ lw_all := lw_g (lw_at lw_m1 86 rfl) rfl
theorem q206 : (Jvm.Cond.methodLink "TracePeaks$Each" (1 : Nat) ({ cls := "java/lang/Object", name := "<init>", desc := "()V" } : Jvm.MethodName)) ∈ lw_all := lw_g (lw_at lw_m1 87 rfl) rfl
theorem q207 : (Jvm.Cond.fieldLink "TracePeaks$Each" (7 : Nat) "TracePeaks$Each" "change" "LTracePeaks$Change;") ∈ lw_all := lw_g (lw_at lw_m1 88 rfl) rfl
theorem q209 : (Jvm.Cond.laysFinal "TracePeaks$Each" "TracePeaks$Each" "change" "LTracePeaks$Change;") ∈ lw_all := lw_g (lw_at lw_m1 90 rfl) rfl
theorem q210 : (Jvm.Cond.soleField "TracePeaks$Each" "change") ∈ lw_all := lw_g (lw_at lw_m1 91 rfl) rfl
theorem q211 : (Jvm.Cond.superclass "TracePeaks$Each" "java/lang/Object") ∈ lw_all := lw_g (lw_at lw_m1 92 rfl) rfl
theorem q1444 : (Jvm.Cond.selects "TracePeaks$Each" ({ cls := "java/lang/Object", name := "toString", desc := "()Ljava/lang/String;" } : Jvm.MethodName) ({ cls := "java/lang/Object", name := "toString", desc := "()Ljava/lang/String;" } : Jvm.MethodName)) ∈ lw_all := lw_g (lw_at lw_m6 125 rfl) rfl
theorem q1460 : (Jvm.Cond.selects "TracePeaks$Each" ({ cls := "java/lang/Object", name := "getClass", desc := "()Ljava/lang/Class;" } : Jvm.MethodName) ({ cls := "java/lang/Object", name := "getClass", desc := "()Ljava/lang/Class;" } : Jvm.MethodName)) ∈ lw_all := lw_g (lw_at lw_m6 141 rfl) rfl
theorem q2362 : (Jvm.Cond.castable "TracePeaks$Each" "java/lang/Object") ∈ lw_tbl := lw_at lw_m10 83 rfl
theorem in_X4 : ∀ w ∈ wsX40, w ∈ lw_all := lw_in wsX40 [209] (by decide +kernel) (by decide +kernel)
def RX5 : String := "TracePeaks$Peaks"
def TX5 : u_T := fun k => match k with
  | 0 => ("TracePeaks$Peaks", "all", "[LTracePeaks$Peak;", true)
  | 1 => ("TracePeaks$Peaks", "row", "[LTracePeaks$Peak;", true)
  | 2 => ("TracePeaks$Peaks", "whose", "[LTracePeaks$Peak;", true)
  | 3 => ("TracePeaks$Peaks", "order", "[I", true)
  | 4 => ("TracePeaks$Peaks", "samples", "LTracePeaks$Samples;", false)
  | 5 => ("TracePeaks$Peaks", "many", "I", false)
  | 6 => ("TracePeaks$Peaks", "kept", "I", false)
  | 7 => ("TracePeaks$Peaks", "taken", "[I", true)
  | _ => ("TracePeaks$Peaks", "matched", "[I", true)
def tyX5 : Nat → FieldType := fun k => match k with
  | 0 => .array (.object "TracePeaks$Peak")
  | 1 => .array (.object "TracePeaks$Peak")
  | 2 => .array (.object "TracePeaks$Peak")
  | 3 => .array .int
  | 4 => .object "TracePeaks$Samples"
  | 5 => .int
  | 6 => .int
  | 7 => .array .int
  | _ => .array .int
abbrev wsX50 : List Cond := u_ws RX5 TX5 9
theorem nmX5 : ∀ a, a < 9 → ∀ b, b < 9 → a ≠ b → (TX5 a).2.1 ≠ (TX5 b).2.1 := by decide +kernel
theorem tyX5_ok : ∀ k, k < 9 → parseFieldDescriptor (TX5 k).2.2.1 = some (tyX5 k) := by decide +kernel
abbrev cX5_init : ByteArray := prog_8_method_1_code
def yX5_init : MethodName := ⟨RX5, "<init>", "()V"⟩
abbrev cX5_of : ByteArray := prog_8_method_4_code
def yX5_of : MethodName := ⟨RX5, "of", "(LTracePeaks$Samples;I)LTracePeaks$Peaks;"⟩
abbrev cX5_comes : ByteArray := prog_8_method_6_code
def yX5_comes : MethodName := ⟨RX5, "comes", "(II)V"⟩
abbrev cX5_beside : ByteArray := prog_8_method_5_code
def yX5_beside : MethodName := ⟨RX5, "beside", "(I)LTracePeaks$Peak;"⟩
abbrev cX5_joins : ByteArray := prog_8_method_7_code
def yX5_joins : MethodName := ⟨RX5, "joins", "(ILTracePeaks$Peak;LTracePeaks$Peak;)V"⟩
abbrev cX5_ends : ByteArray := prog_8_method_8_code
def yX5_ends : MethodName := ⟨RX5, "ends", "()V"⟩
abbrev cX5_at : ByteArray := prog_8_method_3_code
def yX5_at : MethodName := ⟨RX5, "at", "(I)I"⟩
abbrev cX5_many : ByteArray := prog_8_method_2_code
def yX5_many : MethodName := ⟨RX5, "many", "()I"⟩
abbrev cX5_keeps : ByteArray := prog_8_method_9_code
def yX5_keeps : MethodName := ⟨RX5, "keeps", "(I)V"⟩
abbrev cX5_first : ByteArray := prog_8_method_14_code
def yX5_first : MethodName := ⟨RX5, "first", "(I)I"⟩
abbrev cX5_neighbor : ByteArray := prog_8_method_13_code
def yX5_neighbor : MethodName := ⟨RX5, "neighbor", "(LTracePeaks$Peak;I)LTracePeaks$Peak;"⟩
abbrev cX5_numberAt : ByteArray := prog_8_method_11_code
def yX5_numberAt : MethodName := ⟨RX5, "numberAt", "(I)I"⟩
abbrev cX5_last : ByteArray := prog_8_method_15_code
def yX5_last : MethodName := ⟨RX5, "last", "(I)I"⟩
abbrev cX5_area : ByteArray := prog_8_method_16_code
def yX5_area : MethodName := ⟨RX5, "area", "(I)I"⟩
abbrev cX5_width : ByteArray := prog_8_method_17_code
def yX5_width : MethodName := ⟨RX5, "width", "(I)I"⟩
abbrev cX5_matches : ByteArray := prog_8_method_18_code
def yX5_matches : MethodName := ⟨RX5, "matches", "(LTracePeaks$Trace;I)I"⟩
abbrev cX5_nearest : ByteArray := prog_8_method_19_code
def yX5_nearest : MethodName := ⟨RX5, "nearest", "(LTracePeaks$Trace;I)I"⟩
abbrev cX5_generation : ByteArray := prog_8_method_12_code
def yX5_generation : MethodName := ⟨RX5, "generation", "(I)I"⟩
abbrev cX5_numberOf : ByteArray := prog_8_method_10_code
def yX5_numberOf : MethodName := ⟨RX5, "numberOf", "(LTracePeaks$Peak;)I"⟩
theorem q125 : (Jvm.Cond.initialized "TracePeaks$Peaks") ∈ lw_all := lw_g (lw_at lw_m1 6 rfl) rfl
theorem q224 : (Jvm.Cond.instantiable "TracePeaks$Peaks" (9 : Nat)) ∈ lw_all := lw_g (lw_at lw_m1 105 rfl) rfl
theorem q226 : (Jvm.Cond.instanceMethod ({ cls := "TracePeaks$Peaks", name := "<init>", desc := "()V" } : Jvm.MethodName)) ∈ lw_all := lw_g (lw_at lw_m1 107 rfl) rfl
theorem q227 : (Jvm.Cond.code ({ cls := "TracePeaks$Peaks", name := "<init>", desc := "()V" } : Jvm.MethodName) prog_8_method_1_code (2 : Nat) (Option.none : Option Jvm.ClassFile.FieldType)) ∈ lw_all := lw_g (lw_at lw_m1 108 rfl) rfl
theorem q228 : (Jvm.Cond.methodLink "TracePeaks$Peaks" (3 : Nat) ({ cls := "java/lang/Object", name := "<init>", desc := "()V" } : Jvm.MethodName)) ∈ lw_all := lw_g (lw_at lw_m1 109 rfl) rfl
theorem q229 : (Jvm.Cond.classLink "TracePeaks$Peaks" (9 : Nat) "TracePeaks$Peak") ∈ lw_all := lw_g (lw_at lw_m1 110 rfl) rfl
theorem q232 : (Jvm.Cond.methodLinkNest "TracePeaks$Peaks" (33 : Nat) ({ cls := "TracePeaks$Peak", name := "<init>", desc := "()V" } : Jvm.MethodName) "TracePeaks") ∈ lw_tbl := lw_at lw_m1 113 rfl
theorem q237 : (Jvm.Cond.fieldLinkNest "TracePeaks$Peaks" (102 : Nat) "TracePeaks$Peak" "place" "I" "TracePeaks") ∈ lw_tbl := lw_at lw_m1 118 rfl
theorem q241 : (Jvm.Cond.fieldLinkNest "TracePeaks$Peaks" (128 : Nat) "TracePeaks$Peak" "height" "I" "TracePeaks") ∈ lw_tbl := lw_at lw_m1 122 rfl
theorem q246 : (Jvm.Cond.fieldLinkNest "TracePeaks$Peaks" (88 : Nat) "TracePeaks$Peak" "death" "I" "TracePeaks") ∈ lw_tbl := lw_at lw_m1 127 rfl
theorem q250 : (Jvm.Cond.fieldLinkNest "TracePeaks$Peaks" (74 : Nat) "TracePeaks$Peak" "came" "I" "TracePeaks") ∈ lw_tbl := lw_at lw_m1 131 rfl
theorem q252 : (Jvm.Cond.fieldLinkNest "TracePeaks$Peaks" (81 : Nat) "TracePeaks$Peak" "parent" "LTracePeaks$Peak;" "TracePeaks") ∈ lw_tbl := lw_at lw_m1 133 rfl
theorem q254 : (Jvm.Cond.fieldLinkNest "TracePeaks$Peaks" (98 : Nat) "TracePeaks$Peak" "isKept" "Z" "TracePeaks") ∈ lw_tbl := lw_at lw_m1 135 rfl
theorem q274 : (Jvm.Cond.fieldLink "TracePeaks$Peaks" (11 : Nat) "TracePeaks$Peaks" "all" "[LTracePeaks$Peak;") ∈ lw_all := lw_g (lw_at lw_m1 155 rfl) rfl
theorem q275 : (Jvm.Cond.fieldLink "TracePeaks$Peaks" (17 : Nat) "TracePeaks$Peaks" "row" "[LTracePeaks$Peak;") ∈ lw_all := lw_g (lw_at lw_m1 156 rfl) rfl
theorem q278 : (Jvm.Cond.fieldLink "TracePeaks$Peaks" (20 : Nat) "TracePeaks$Peaks" "whose" "[LTracePeaks$Peak;") ∈ lw_all := lw_g (lw_at lw_m1 159 rfl) rfl
theorem q279 : (Jvm.Cond.fieldLink "TracePeaks$Peaks" (23 : Nat) "TracePeaks$Peaks" "order" "[I") ∈ lw_all := lw_g (lw_at lw_m1 160 rfl) rfl
theorem q280 : (Jvm.Cond.fieldLink "TracePeaks$Peaks" (42 : Nat) "TracePeaks$Peaks" "samples" "LTracePeaks$Samples;") ∈ lw_all := lw_g (lw_at lw_m1 161 rfl) rfl
theorem q281 : (Jvm.Cond.fieldLink "TracePeaks$Peaks" (34 : Nat) "TracePeaks$Peaks" "many" "I") ∈ lw_all := lw_g (lw_at lw_m1 162 rfl) rfl
theorem q285 : (Jvm.Cond.fieldLink "TracePeaks$Peaks" (95 : Nat) "TracePeaks$Peaks" "kept" "I") ∈ lw_all := lw_g (lw_at lw_m1 166 rfl) rfl
theorem q287 : (Jvm.Cond.fieldLink "TracePeaks$Peaks" (27 : Nat) "TracePeaks$Peaks" "taken" "[I") ∈ lw_all := lw_g (lw_at lw_m1 168 rfl) rfl
theorem q289 : (Jvm.Cond.fieldLink "TracePeaks$Peaks" (30 : Nat) "TracePeaks$Peaks" "matched" "[I") ∈ lw_all := lw_g (lw_at lw_m1 170 rfl) rfl
theorem q291 : (Jvm.Cond.laysFinal "TracePeaks$Peaks" "TracePeaks$Peaks" "all" "[LTracePeaks$Peak;") ∈ lw_all := lw_g (lw_at lw_m1 172 rfl) rfl
theorem q292 : (Jvm.Cond.soleField "TracePeaks$Peaks" "all") ∈ lw_all := lw_g (lw_at lw_m1 173 rfl) rfl
theorem q293 : (Jvm.Cond.laysFinal "TracePeaks$Peaks" "TracePeaks$Peaks" "row" "[LTracePeaks$Peak;") ∈ lw_all := lw_g (lw_at lw_m1 174 rfl) rfl
theorem q294 : (Jvm.Cond.soleField "TracePeaks$Peaks" "row") ∈ lw_all := lw_g (lw_at lw_m1 175 rfl) rfl
theorem q295 : (Jvm.Cond.laysFinal "TracePeaks$Peaks" "TracePeaks$Peaks" "whose" "[LTracePeaks$Peak;") ∈ lw_all := lw_g (lw_at lw_m1 176 rfl) rfl
theorem q296 : (Jvm.Cond.soleField "TracePeaks$Peaks" "whose") ∈ lw_all := lw_g (lw_at lw_m1 177 rfl) rfl
theorem q297 : (Jvm.Cond.laysFinal "TracePeaks$Peaks" "TracePeaks$Peaks" "order" "[I") ∈ lw_all := lw_g (lw_at lw_m1 178 rfl) rfl
theorem q298 : (Jvm.Cond.soleField "TracePeaks$Peaks" "order") ∈ lw_all := lw_g (lw_at lw_m1 179 rfl) rfl
theorem q299 : (Jvm.Cond.lays "TracePeaks$Peaks" "TracePeaks$Peaks" "samples" "LTracePeaks$Samples;") ∈ lw_all := lw_g (lw_at lw_m1 180 rfl) rfl
theorem q300 : (Jvm.Cond.soleField "TracePeaks$Peaks" "samples") ∈ lw_all := lw_g (lw_at lw_m1 181 rfl) rfl
theorem q301 : (Jvm.Cond.lays "TracePeaks$Peaks" "TracePeaks$Peaks" "many" "I") ∈ lw_all := lw_g (lw_at lw_m1 182 rfl) rfl
theorem q302 : (Jvm.Cond.soleField "TracePeaks$Peaks" "many") ∈ lw_all := lw_g (lw_at lw_m1 183 rfl) rfl
theorem q303 : (Jvm.Cond.lays "TracePeaks$Peaks" "TracePeaks$Peaks" "kept" "I") ∈ lw_all := lw_g (lw_at lw_m1 184 rfl) rfl
theorem q304 : (Jvm.Cond.soleField "TracePeaks$Peaks" "kept") ∈ lw_all := lw_g (lw_at lw_m1 185 rfl) rfl
theorem q305 : (Jvm.Cond.laysFinal "TracePeaks$Peaks" "TracePeaks$Peaks" "taken" "[I") ∈ lw_all := lw_g (lw_at lw_m1 186 rfl) rfl
theorem q306 : (Jvm.Cond.soleField "TracePeaks$Peaks" "taken") ∈ lw_all := lw_g (lw_at lw_m1 187 rfl) rfl
theorem q307 : (Jvm.Cond.laysFinal "TracePeaks$Peaks" "TracePeaks$Peaks" "matched" "[I") ∈ lw_all := lw_g (lw_at lw_m1 188 rfl) rfl
theorem q308 : (Jvm.Cond.soleField "TracePeaks$Peaks" "matched") ∈ lw_all := lw_g (lw_at lw_m1 189 rfl) rfl
theorem q309 : (Jvm.Cond.superclass "TracePeaks$Peaks" "java/lang/Object") ∈ lw_all := lw_g (lw_at lw_m1 190 rfl) rfl
theorem q317 : (Jvm.Cond.fieldLinkNest "TracePeaks$Peaks" (49 : Nat) "TracePeaks$Samples" "row" "[I" "TracePeaks") ∈ lw_tbl := lw_at lw_m1 198 rfl
theorem q321 : (Jvm.Cond.fieldLinkNest "TracePeaks$Peaks" (46 : Nat) "TracePeaks$Samples" "many" "I" "TracePeaks") ∈ lw_tbl := lw_at lw_m1 202 rfl
theorem q479 : (Jvm.Cond.fieldLinkNest "TracePeaks$Peaks" (143 : Nat) "TracePeaks$Trace" "places" "[I" "TracePeaks") ∈ lw_tbl := lw_at lw_m2 120 rfl
theorem q483 : (Jvm.Cond.fieldLinkNest "TracePeaks$Peaks" (134 : Nat) "TracePeaks$Trace" "lines" "I" "TracePeaks") ∈ lw_tbl := lw_at lw_m2 124 rfl
theorem q489 : (Jvm.Cond.fieldLinkNest "TracePeaks$Peaks" (149 : Nat) "TracePeaks$Trace" "reach" "I" "TracePeaks") ∈ lw_tbl := lw_at lw_m2 130 rfl
theorem q1003 : (Jvm.Cond.instanceMethod ({ cls := "TracePeaks$Peaks", name := "of", desc := "(LTracePeaks$Samples;I)LTracePeaks$Peaks;" } : Jvm.MethodName)) ∈ lw_all := lw_g (lw_at lw_m4 164 rfl) rfl
theorem q1004 : (Jvm.Cond.selects "TracePeaks$Peaks" ({ cls := "TracePeaks$Peaks", name := "of", desc := "(LTracePeaks$Samples;I)LTracePeaks$Peaks;" } : Jvm.MethodName) ({ cls := "TracePeaks$Peaks", name := "of", desc := "(LTracePeaks$Samples;I)LTracePeaks$Peaks;" } : Jvm.MethodName)) ∈ lw_all := lw_g (lw_at lw_m4 165 rfl) rfl
theorem q1005 : (Jvm.Cond.code ({ cls := "TracePeaks$Peaks", name := "of", desc := "(LTracePeaks$Samples;I)LTracePeaks$Peaks;" } : Jvm.MethodName) prog_8_method_4_code (5 : Nat) (Option.some (Jvm.ClassFile.FieldType.object "TracePeaks$Peaks"))) ∈ lw_all := lw_g (lw_at lw_m4 166 rfl) rfl
theorem q1006 : (Jvm.Cond.methodLink "TracePeaks$Peaks" (51 : Nat) ({ cls := "TracePeaks$Peaks", name := "comes", desc := "(II)V" } : Jvm.MethodName)) ∈ lw_all := lw_g (lw_at lw_m4 167 rfl) rfl
theorem q1007 : (Jvm.Cond.privateMethod ({ cls := "TracePeaks$Peaks", name := "comes", desc := "(II)V" } : Jvm.MethodName)) ∈ lw_tbl := lw_at lw_m4 168 rfl
theorem q1008 : (Jvm.Cond.instanceMethod ({ cls := "TracePeaks$Peaks", name := "comes", desc := "(II)V" } : Jvm.MethodName)) ∈ lw_all := lw_g (lw_at lw_m4 169 rfl) rfl
theorem q1009 : (Jvm.Cond.code ({ cls := "TracePeaks$Peaks", name := "comes", desc := "(II)V" } : Jvm.MethodName) prog_8_method_6_code (5 : Nat) (Option.none : Option Jvm.ClassFile.FieldType)) ∈ lw_all := lw_g (lw_at lw_m4 170 rfl) rfl
theorem q1010 : (Jvm.Cond.methodLink "TracePeaks$Peaks" (62 : Nat) ({ cls := "TracePeaks$Peaks", name := "beside", desc := "(I)LTracePeaks$Peak;" } : Jvm.MethodName)) ∈ lw_all := lw_g (lw_at lw_m4 171 rfl) rfl
theorem q1011 : (Jvm.Cond.privateMethod ({ cls := "TracePeaks$Peaks", name := "beside", desc := "(I)LTracePeaks$Peak;" } : Jvm.MethodName)) ∈ lw_tbl := lw_at lw_m4 172 rfl
theorem q1012 : (Jvm.Cond.instanceMethod ({ cls := "TracePeaks$Peaks", name := "beside", desc := "(I)LTracePeaks$Peak;" } : Jvm.MethodName)) ∈ lw_all := lw_g (lw_at lw_m4 173 rfl) rfl
theorem q1013 : (Jvm.Cond.code ({ cls := "TracePeaks$Peaks", name := "beside", desc := "(I)LTracePeaks$Peak;" } : Jvm.MethodName) prog_8_method_5_code (2 : Nat) (Option.some (Jvm.ClassFile.FieldType.object "TracePeaks$Peak"))) ∈ lw_all := lw_g (lw_at lw_m4 174 rfl) rfl
theorem q1014 : (Jvm.Cond.methodLink "TracePeaks$Peaks" (66 : Nat) ({ cls := "TracePeaks$Peak", name := "begins", desc := "(III)LTracePeaks$Peak;" } : Jvm.MethodName)) ∈ lw_all := lw_g (lw_at lw_m4 175 rfl) rfl
theorem q1018 : (Jvm.Cond.methodLink "TracePeaks$Peaks" (70 : Nat) ({ cls := "TracePeaks$Peaks", name := "joins", desc := "(ILTracePeaks$Peak;LTracePeaks$Peak;)V" } : Jvm.MethodName)) ∈ lw_all := lw_g (lw_at lw_m4 179 rfl) rfl
theorem q1019 : (Jvm.Cond.privateMethod ({ cls := "TracePeaks$Peaks", name := "joins", desc := "(ILTracePeaks$Peak;LTracePeaks$Peak;)V" } : Jvm.MethodName)) ∈ lw_tbl := lw_at lw_m4 180 rfl
theorem q1020 : (Jvm.Cond.instanceMethod ({ cls := "TracePeaks$Peaks", name := "joins", desc := "(ILTracePeaks$Peak;LTracePeaks$Peak;)V" } : Jvm.MethodName)) ∈ lw_all := lw_g (lw_at lw_m4 181 rfl) rfl
theorem q1021 : (Jvm.Cond.code ({ cls := "TracePeaks$Peaks", name := "joins", desc := "(ILTracePeaks$Peak;LTracePeaks$Peak;)V" } : Jvm.MethodName) prog_8_method_7_code (7 : Nat) (Option.none : Option Jvm.ClassFile.FieldType)) ∈ lw_all := lw_g (lw_at lw_m4 182 rfl) rfl
theorem q1022 : (Jvm.Cond.methodLink "TracePeaks$Peaks" (77 : Nat) ({ cls := "TracePeaks$Peak", name := "dies", desc := "(IILTracePeaks$Peak;)V" } : Jvm.MethodName)) ∈ lw_all := lw_g (lw_at lw_m4 183 rfl) rfl
theorem q1026 : (Jvm.Cond.methodLink "TracePeaks$Peaks" (55 : Nat) ({ cls := "TracePeaks$Peaks", name := "ends", desc := "()V" } : Jvm.MethodName)) ∈ lw_all := lw_g (lw_at lw_m4 187 rfl) rfl
theorem q1027 : (Jvm.Cond.privateMethod ({ cls := "TracePeaks$Peaks", name := "ends", desc := "()V" } : Jvm.MethodName)) ∈ lw_tbl := lw_at lw_m4 188 rfl
theorem q1028 : (Jvm.Cond.instanceMethod ({ cls := "TracePeaks$Peaks", name := "ends", desc := "()V" } : Jvm.MethodName)) ∈ lw_all := lw_g (lw_at lw_m4 189 rfl) rfl
theorem q1029 : (Jvm.Cond.code ({ cls := "TracePeaks$Peaks", name := "ends", desc := "()V" } : Jvm.MethodName) prog_8_method_8_code (4 : Nat) (Option.none : Option Jvm.ClassFile.FieldType)) ∈ lw_all := lw_g (lw_at lw_m4 190 rfl) rfl
theorem q1039 : (Jvm.Cond.castable "TracePeaks$Peaks" "TracePeaks$Numbers") ∈ lw_tbl := lw_at lw_m4 200 rfl
theorem q1040 : (Jvm.Cond.selects "TracePeaks$Peaks" ({ cls := "TracePeaks$Numbers", name := "at", desc := "(I)I" } : Jvm.MethodName) ({ cls := "TracePeaks$Peaks", name := "at", desc := "(I)I" } : Jvm.MethodName)) ∈ lw_all := lw_g (lw_at lw_m4 201 rfl) rfl
theorem q1041 : (Jvm.Cond.unhidden "TracePeaks$Peaks" "at" "(I)I") ∈ lw_tbl := lw_at lw_m4 202 rfl
theorem q1042 : (Jvm.Cond.instanceMethod ({ cls := "TracePeaks$Peaks", name := "at", desc := "(I)I" } : Jvm.MethodName)) ∈ lw_all := lw_g (lw_at lw_m4 203 rfl) rfl
theorem q1043 : (Jvm.Cond.publicMethod ({ cls := "TracePeaks$Peaks", name := "at", desc := "(I)I" } : Jvm.MethodName)) ∈ lw_tbl := lw_at lw_m4 204 rfl
theorem q1044 : (Jvm.Cond.code ({ cls := "TracePeaks$Peaks", name := "at", desc := "(I)I" } : Jvm.MethodName) prog_8_method_3_code (2 : Nat) (Option.some Jvm.ClassFile.FieldType.int)) ∈ lw_all := lw_g (lw_at lw_m4 205 rfl) rfl
theorem q1045 : (Jvm.Cond.methodLink "TracePeaks$Peaks" (38 : Nat) ({ cls := "TracePeaks$Peak", name := "persistence", desc := "()I" } : Jvm.MethodName)) ∈ lw_all := lw_g (lw_at lw_m4 206 rfl) rfl
theorem q1059 : (Jvm.Cond.selects "TracePeaks$Peaks" ({ cls := "TracePeaks$Numbers", name := "many", desc := "()I" } : Jvm.MethodName) ({ cls := "TracePeaks$Peaks", name := "many", desc := "()I" } : Jvm.MethodName)) ∈ lw_all := lw_g (lw_at lw_m4 220 rfl) rfl
theorem q1060 : (Jvm.Cond.unhidden "TracePeaks$Peaks" "many" "()I") ∈ lw_tbl := lw_at lw_m4 221 rfl
theorem q1061 : (Jvm.Cond.instanceMethod ({ cls := "TracePeaks$Peaks", name := "many", desc := "()I" } : Jvm.MethodName)) ∈ lw_all := lw_g (lw_at lw_m4 222 rfl) rfl
theorem q1062 : (Jvm.Cond.publicMethod ({ cls := "TracePeaks$Peaks", name := "many", desc := "()I" } : Jvm.MethodName)) ∈ lw_tbl := lw_at lw_m4 223 rfl
theorem q1063 : (Jvm.Cond.code ({ cls := "TracePeaks$Peaks", name := "many", desc := "()I" } : Jvm.MethodName) prog_8_method_2_code (1 : Nat) (Option.some Jvm.ClassFile.FieldType.int)) ∈ lw_all := lw_g (lw_at lw_m4 224 rfl) rfl
theorem q1069 : (Jvm.Cond.methodLink "TracePeaks$Peaks" (91 : Nat) ({ cls := "TracePeaks$Peak", name := "isAhead", desc := "(LTracePeaks$Peak;)Z" } : Jvm.MethodName)) ∈ lw_all := lw_g (lw_at lw_m4 230 rfl) rfl
theorem q1074 : (Jvm.Cond.methodLink "TracePeaks$Peaks" (58 : Nat) ({ cls := "TracePeaks$Peaks", name := "keeps", desc := "(I)V" } : Jvm.MethodName)) ∈ lw_all := lw_g (lw_at lw_m4 235 rfl) rfl
theorem q1075 : (Jvm.Cond.privateMethod ({ cls := "TracePeaks$Peaks", name := "keeps", desc := "(I)V" } : Jvm.MethodName)) ∈ lw_tbl := lw_at lw_m4 236 rfl
theorem q1076 : (Jvm.Cond.instanceMethod ({ cls := "TracePeaks$Peaks", name := "keeps", desc := "(I)V" } : Jvm.MethodName)) ∈ lw_all := lw_g (lw_at lw_m4 237 rfl) rfl
theorem q1077 : (Jvm.Cond.code ({ cls := "TracePeaks$Peaks", name := "keeps", desc := "(I)V" } : Jvm.MethodName) prog_8_method_9_code (3 : Nat) (Option.none : Option Jvm.ClassFile.FieldType)) ∈ lw_all := lw_g (lw_at lw_m4 238 rfl) rfl
theorem q1248 : (Jvm.Cond.instanceMethod ({ cls := "TracePeaks$Peaks", name := "first", desc := "(I)I" } : Jvm.MethodName)) ∈ lw_all := lw_g (lw_at lw_m5 169 rfl) rfl
theorem q1249 : (Jvm.Cond.selects "TracePeaks$Peaks" ({ cls := "TracePeaks$Peaks", name := "first", desc := "(I)I" } : Jvm.MethodName) ({ cls := "TracePeaks$Peaks", name := "first", desc := "(I)I" } : Jvm.MethodName)) ∈ lw_all := lw_g (lw_at lw_m5 170 rfl) rfl
theorem q1250 : (Jvm.Cond.code ({ cls := "TracePeaks$Peaks", name := "first", desc := "(I)I" } : Jvm.MethodName) prog_8_method_14_code (3 : Nat) (Option.some Jvm.ClassFile.FieldType.int)) ∈ lw_all := lw_g (lw_at lw_m5 171 rfl) rfl
theorem q1251 : (Jvm.Cond.methodLink "TracePeaks$Peaks" (109 : Nat) ({ cls := "TracePeaks$Peaks", name := "neighbor", desc := "(LTracePeaks$Peak;I)LTracePeaks$Peak;" } : Jvm.MethodName)) ∈ lw_all := lw_g (lw_at lw_m5 172 rfl) rfl
theorem q1252 : (Jvm.Cond.privateMethod ({ cls := "TracePeaks$Peaks", name := "neighbor", desc := "(LTracePeaks$Peak;I)LTracePeaks$Peak;" } : Jvm.MethodName)) ∈ lw_tbl := lw_at lw_m5 173 rfl
theorem q1253 : (Jvm.Cond.instanceMethod ({ cls := "TracePeaks$Peaks", name := "neighbor", desc := "(LTracePeaks$Peak;I)LTracePeaks$Peak;" } : Jvm.MethodName)) ∈ lw_all := lw_g (lw_at lw_m5 174 rfl) rfl
theorem q1254 : (Jvm.Cond.code ({ cls := "TracePeaks$Peaks", name := "neighbor", desc := "(LTracePeaks$Peak;I)LTracePeaks$Peak;" } : Jvm.MethodName) prog_8_method_13_code (5 : Nat) (Option.some (Jvm.ClassFile.FieldType.object "TracePeaks$Peak"))) ∈ lw_all := lw_g (lw_at lw_m5 175 rfl) rfl
theorem q1255 : (Jvm.Cond.methodLink "TracePeaks$Peaks" (105 : Nat) ({ cls := "TracePeaks$Peaks", name := "numberAt", desc := "(I)I" } : Jvm.MethodName)) ∈ lw_all := lw_g (lw_at lw_m5 176 rfl) rfl
theorem q1256 : (Jvm.Cond.instanceMethod ({ cls := "TracePeaks$Peaks", name := "numberAt", desc := "(I)I" } : Jvm.MethodName)) ∈ lw_all := lw_g (lw_at lw_m5 177 rfl) rfl
theorem q1257 : (Jvm.Cond.selects "TracePeaks$Peaks" ({ cls := "TracePeaks$Peaks", name := "numberAt", desc := "(I)I" } : Jvm.MethodName) ({ cls := "TracePeaks$Peaks", name := "numberAt", desc := "(I)I" } : Jvm.MethodName)) ∈ lw_all := lw_g (lw_at lw_m5 178 rfl) rfl
theorem q1258 : (Jvm.Cond.code ({ cls := "TracePeaks$Peaks", name := "numberAt", desc := "(I)I" } : Jvm.MethodName) prog_8_method_11_code (3 : Nat) (Option.some Jvm.ClassFile.FieldType.int)) ∈ lw_all := lw_g (lw_at lw_m5 179 rfl) rfl
theorem q1259 : (Jvm.Cond.methodLink "TracePeaks$Peaks" (113 : Nat) ({ cls := "TracePeaks$Samples", name := "lowest", desc := "(II)I" } : Jvm.MethodName)) ∈ lw_all := lw_g (lw_at lw_m5 180 rfl) rfl
theorem q1264 : (Jvm.Cond.instanceMethod ({ cls := "TracePeaks$Peaks", name := "last", desc := "(I)I" } : Jvm.MethodName)) ∈ lw_all := lw_g (lw_at lw_m5 185 rfl) rfl
theorem q1265 : (Jvm.Cond.selects "TracePeaks$Peaks" ({ cls := "TracePeaks$Peaks", name := "last", desc := "(I)I" } : Jvm.MethodName) ({ cls := "TracePeaks$Peaks", name := "last", desc := "(I)I" } : Jvm.MethodName)) ∈ lw_all := lw_g (lw_at lw_m5 186 rfl) rfl
theorem q1266 : (Jvm.Cond.code ({ cls := "TracePeaks$Peaks", name := "last", desc := "(I)I" } : Jvm.MethodName) prog_8_method_15_code (3 : Nat) (Option.some Jvm.ClassFile.FieldType.int)) ∈ lw_all := lw_g (lw_at lw_m5 187 rfl) rfl
theorem q1268 : (Jvm.Cond.instanceMethod ({ cls := "TracePeaks$Peaks", name := "area", desc := "(I)I" } : Jvm.MethodName)) ∈ lw_all := lw_g (lw_at lw_m5 189 rfl) rfl
theorem q1269 : (Jvm.Cond.selects "TracePeaks$Peaks" ({ cls := "TracePeaks$Peaks", name := "area", desc := "(I)I" } : Jvm.MethodName) ({ cls := "TracePeaks$Peaks", name := "area", desc := "(I)I" } : Jvm.MethodName)) ∈ lw_all := lw_g (lw_at lw_m5 190 rfl) rfl
theorem q1270 : (Jvm.Cond.code ({ cls := "TracePeaks$Peaks", name := "area", desc := "(I)I" } : Jvm.MethodName) prog_8_method_16_code (4 : Nat) (Option.some Jvm.ClassFile.FieldType.int)) ∈ lw_all := lw_g (lw_at lw_m5 191 rfl) rfl
theorem q1271 : (Jvm.Cond.methodLink "TracePeaks$Peaks" (117 : Nat) ({ cls := "TracePeaks$Peaks", name := "first", desc := "(I)I" } : Jvm.MethodName)) ∈ lw_all := lw_g (lw_at lw_m5 192 rfl) rfl
theorem q1272 : (Jvm.Cond.methodLink "TracePeaks$Peaks" (120 : Nat) ({ cls := "TracePeaks$Peaks", name := "last", desc := "(I)I" } : Jvm.MethodName)) ∈ lw_all := lw_g (lw_at lw_m5 193 rfl) rfl
theorem q1273 : (Jvm.Cond.methodLink "TracePeaks$Peaks" (123 : Nat) ({ cls := "java/lang/Math", name := "max", desc := "(II)I" } : Jvm.MethodName)) ∈ lw_all := lw_g (lw_at lw_m5 194 rfl) rfl
theorem q1275 : (Jvm.Cond.instanceMethod ({ cls := "TracePeaks$Peaks", name := "width", desc := "(I)I" } : Jvm.MethodName)) ∈ lw_all := lw_g (lw_at lw_m5 196 rfl) rfl
theorem q1276 : (Jvm.Cond.selects "TracePeaks$Peaks" ({ cls := "TracePeaks$Peaks", name := "width", desc := "(I)I" } : Jvm.MethodName) ({ cls := "TracePeaks$Peaks", name := "width", desc := "(I)I" } : Jvm.MethodName)) ∈ lw_all := lw_g (lw_at lw_m5 197 rfl) rfl
theorem q1277 : (Jvm.Cond.code ({ cls := "TracePeaks$Peaks", name := "width", desc := "(I)I" } : Jvm.MethodName) prog_8_method_17_code (2 : Nat) (Option.some Jvm.ClassFile.FieldType.int)) ∈ lw_all := lw_g (lw_at lw_m5 198 rfl) rfl
theorem q1294 : (Jvm.Cond.instanceMethod ({ cls := "TracePeaks$Peaks", name := "matches", desc := "(LTracePeaks$Trace;I)I" } : Jvm.MethodName)) ∈ lw_all := lw_g (lw_at lw_m5 215 rfl) rfl
theorem q1295 : (Jvm.Cond.selects "TracePeaks$Peaks" ({ cls := "TracePeaks$Peaks", name := "matches", desc := "(LTracePeaks$Trace;I)I" } : Jvm.MethodName) ({ cls := "TracePeaks$Peaks", name := "matches", desc := "(LTracePeaks$Trace;I)I" } : Jvm.MethodName)) ∈ lw_all := lw_g (lw_at lw_m5 216 rfl) rfl
theorem q1296 : (Jvm.Cond.code ({ cls := "TracePeaks$Peaks", name := "matches", desc := "(LTracePeaks$Trace;I)I" } : Jvm.MethodName) prog_8_method_18_code (5 : Nat) (Option.some Jvm.ClassFile.FieldType.int)) ∈ lw_all := lw_g (lw_at lw_m5 217 rfl) rfl
theorem q1297 : (Jvm.Cond.methodLink "TracePeaks$Peaks" (139 : Nat) ({ cls := "TracePeaks$Peaks", name := "nearest", desc := "(LTracePeaks$Trace;I)I" } : Jvm.MethodName)) ∈ lw_all := lw_g (lw_at lw_m5 218 rfl) rfl
theorem q1298 : (Jvm.Cond.privateMethod ({ cls := "TracePeaks$Peaks", name := "nearest", desc := "(LTracePeaks$Trace;I)I" } : Jvm.MethodName)) ∈ lw_tbl := lw_at lw_m5 219 rfl
theorem q1299 : (Jvm.Cond.instanceMethod ({ cls := "TracePeaks$Peaks", name := "nearest", desc := "(LTracePeaks$Trace;I)I" } : Jvm.MethodName)) ∈ lw_all := lw_g (lw_at lw_m5 220 rfl) rfl
theorem q1300 : (Jvm.Cond.code ({ cls := "TracePeaks$Peaks", name := "nearest", desc := "(LTracePeaks$Trace;I)I" } : Jvm.MethodName) prog_8_method_19_code (6 : Nat) (Option.some Jvm.ClassFile.FieldType.int)) ∈ lw_all := lw_g (lw_at lw_m5 221 rfl) rfl
theorem q1301 : (Jvm.Cond.methodLink "TracePeaks$Peaks" (146 : Nat) ({ cls := "java/lang/Math", name := "abs", desc := "(I)I" } : Jvm.MethodName)) ∈ lw_all := lw_g (lw_at lw_m5 222 rfl) rfl
theorem q1369 : (Jvm.Cond.instanceMethod ({ cls := "TracePeaks$Peaks", name := "generation", desc := "(I)I" } : Jvm.MethodName)) ∈ lw_all := lw_g (lw_at lw_m6 50 rfl) rfl
theorem q1370 : (Jvm.Cond.selects "TracePeaks$Peaks" ({ cls := "TracePeaks$Peaks", name := "generation", desc := "(I)I" } : Jvm.MethodName) ({ cls := "TracePeaks$Peaks", name := "generation", desc := "(I)I" } : Jvm.MethodName)) ∈ lw_all := lw_g (lw_at lw_m6 51 rfl) rfl
theorem q1371 : (Jvm.Cond.code ({ cls := "TracePeaks$Peaks", name := "generation", desc := "(I)I" } : Jvm.MethodName) prog_8_method_12_code (4 : Nat) (Option.some Jvm.ClassFile.FieldType.int)) ∈ lw_all := lw_g (lw_at lw_m6 52 rfl) rfl
theorem q1446 : (Jvm.Cond.selects "TracePeaks$Peaks" ({ cls := "java/lang/Object", name := "toString", desc := "()Ljava/lang/String;" } : Jvm.MethodName) ({ cls := "java/lang/Object", name := "toString", desc := "()Ljava/lang/String;" } : Jvm.MethodName)) ∈ lw_all := lw_g (lw_at lw_m6 127 rfl) rfl
theorem q1462 : (Jvm.Cond.selects "TracePeaks$Peaks" ({ cls := "java/lang/Object", name := "getClass", desc := "()Ljava/lang/Class;" } : Jvm.MethodName) ({ cls := "java/lang/Object", name := "getClass", desc := "()Ljava/lang/Class;" } : Jvm.MethodName)) ∈ lw_all := lw_g (lw_at lw_m6 143 rfl) rfl
theorem q1585 : (Jvm.Cond.unhidden "TracePeaks$Peaks" "sum" "()I") ∈ lw_tbl := lw_at lw_m7 26 rfl
theorem q1644 : (Jvm.Cond.instanceMethod ({ cls := "TracePeaks$Peaks", name := "numberOf", desc := "(LTracePeaks$Peak;)I" } : Jvm.MethodName)) ∈ lw_all := lw_g (lw_at lw_m7 85 rfl) rfl
theorem q1645 : (Jvm.Cond.selects "TracePeaks$Peaks" ({ cls := "TracePeaks$Peaks", name := "numberOf", desc := "(LTracePeaks$Peak;)I" } : Jvm.MethodName) ({ cls := "TracePeaks$Peaks", name := "numberOf", desc := "(LTracePeaks$Peak;)I" } : Jvm.MethodName)) ∈ lw_all := lw_g (lw_at lw_m7 86 rfl) rfl
theorem q1646 : (Jvm.Cond.code ({ cls := "TracePeaks$Peaks", name := "numberOf", desc := "(LTracePeaks$Peak;)I" } : Jvm.MethodName) prog_8_method_10_code (3 : Nat) (Option.some Jvm.ClassFile.FieldType.int)) ∈ lw_all := lw_g (lw_at lw_m7 87 rfl) rfl
theorem q2351 : (Jvm.Cond.selects "TracePeaks$Peaks" ({ cls := "TracePeaks$Peaks", name := "at", desc := "(I)I" } : Jvm.MethodName) ({ cls := "TracePeaks$Peaks", name := "at", desc := "(I)I" } : Jvm.MethodName)) ∈ lw_all := lw_g (lw_at lw_m10 72 rfl) rfl
theorem q2363 : (Jvm.Cond.castable "TracePeaks$Peaks" "java/lang/Object") ∈ lw_tbl := lw_at lw_m10 84 rfl
theorem in_X5 : ∀ w ∈ wsX50, w ∈ lw_all := lw_in wsX50 [291, 293, 295, 297, 299, 301, 303, 305, 307] (by decide +kernel) (by decide +kernel)
def RX6 : String := "TracePeaks$Peak"
def TX6 : u_T := fun k => match k with
  | 0 => ("TracePeaks$Peak", "place", "I", false)
  | 1 => ("TracePeaks$Peak", "height", "I", false)
  | 2 => ("TracePeaks$Peak", "valley", "I", false)
  | 3 => ("TracePeaks$Peak", "death", "I", false)
  | 4 => ("TracePeaks$Peak", "came", "I", false)
  | 5 => ("TracePeaks$Peak", "parent", "LTracePeaks$Peak;", false)
  | _ => ("TracePeaks$Peak", "isKept", "Z", false)
def tyX6 : Nat → FieldType := fun k => match k with
  | 0 => .int
  | 1 => .int
  | 2 => .int
  | 3 => .int
  | 4 => .int
  | 5 => .object "TracePeaks$Peak"
  | _ => .boolean
abbrev wsX60 : List Cond := u_ws RX6 TX6 7
theorem nmX6 : ∀ a, a < 7 → ∀ b, b < 7 → a ≠ b → (TX6 a).2.1 ≠ (TX6 b).2.1 := by decide +kernel
theorem tyX6_ok : ∀ k, k < 7 → parseFieldDescriptor (TX6 k).2.2.1 = some (tyX6 k) := by decide +kernel
abbrev cX6_init : ByteArray := prog_7_method_1_code
def yX6_init : MethodName := ⟨RX6, "<init>", "()V"⟩
abbrev cX6_begins : ByteArray := prog_7_method_2_code
def yX6_begins : MethodName := ⟨RX6, "begins", "(III)LTracePeaks$Peak;"⟩
abbrev cX6_dies : ByteArray := prog_7_method_4_code
def yX6_dies : MethodName := ⟨RX6, "dies", "(IILTracePeaks$Peak;)V"⟩
abbrev cX6_persistence : ByteArray := prog_7_method_3_code
def yX6_persistence : MethodName := ⟨RX6, "persistence", "()I"⟩
abbrev cX6_isAhead : ByteArray := prog_7_method_5_code
def yX6_isAhead : MethodName := ⟨RX6, "isAhead", "(LTracePeaks$Peak;)Z"⟩
theorem q126 : (Jvm.Cond.initialized "TracePeaks$Peak") ∈ lw_all := lw_g (lw_at lw_m1 7 rfl) rfl
theorem q231 : (Jvm.Cond.instantiable "TracePeaks$Peak" (7 : Nat)) ∈ lw_all := lw_g (lw_at lw_m1 112 rfl) rfl
theorem q233 : (Jvm.Cond.instanceMethod ({ cls := "TracePeaks$Peak", name := "<init>", desc := "()V" } : Jvm.MethodName)) ∈ lw_all := lw_g (lw_at lw_m1 114 rfl) rfl
theorem q234 : (Jvm.Cond.code ({ cls := "TracePeaks$Peak", name := "<init>", desc := "()V" } : Jvm.MethodName) prog_7_method_1_code (1 : Nat) (Option.none : Option Jvm.ClassFile.FieldType)) ∈ lw_all := lw_g (lw_at lw_m1 115 rfl) rfl
theorem q235 : (Jvm.Cond.methodLink "TracePeaks$Peak" (3 : Nat) ({ cls := "java/lang/Object", name := "<init>", desc := "()V" } : Jvm.MethodName)) ∈ lw_all := lw_g (lw_at lw_m1 116 rfl) rfl
theorem q236 : (Jvm.Cond.fieldLink "TracePeaks$Peak" (9 : Nat) "TracePeaks$Peak" "place" "I") ∈ lw_all := lw_g (lw_at lw_m1 117 rfl) rfl
theorem q240 : (Jvm.Cond.fieldLink "TracePeaks$Peak" (15 : Nat) "TracePeaks$Peak" "height" "I") ∈ lw_all := lw_g (lw_at lw_m1 121 rfl) rfl
theorem q243 : (Jvm.Cond.fieldLink "TracePeaks$Peak" (21 : Nat) "TracePeaks$Peak" "valley" "I") ∈ lw_all := lw_g (lw_at lw_m1 124 rfl) rfl
theorem q245 : (Jvm.Cond.fieldLink "TracePeaks$Peak" (28 : Nat) "TracePeaks$Peak" "death" "I") ∈ lw_all := lw_g (lw_at lw_m1 126 rfl) rfl
theorem q249 : (Jvm.Cond.fieldLink "TracePeaks$Peak" (18 : Nat) "TracePeaks$Peak" "came" "I") ∈ lw_all := lw_g (lw_at lw_m1 130 rfl) rfl
theorem q251 : (Jvm.Cond.fieldLink "TracePeaks$Peak" (24 : Nat) "TracePeaks$Peak" "parent" "LTracePeaks$Peak;") ∈ lw_all := lw_g (lw_at lw_m1 132 rfl) rfl
theorem q257 : (Jvm.Cond.lays "TracePeaks$Peak" "TracePeaks$Peak" "place" "I") ∈ lw_all := lw_g (lw_at lw_m1 138 rfl) rfl
theorem q258 : (Jvm.Cond.soleField "TracePeaks$Peak" "place") ∈ lw_all := lw_g (lw_at lw_m1 139 rfl) rfl
theorem q259 : (Jvm.Cond.lays "TracePeaks$Peak" "TracePeaks$Peak" "height" "I") ∈ lw_all := lw_g (lw_at lw_m1 140 rfl) rfl
theorem q260 : (Jvm.Cond.soleField "TracePeaks$Peak" "height") ∈ lw_all := lw_g (lw_at lw_m1 141 rfl) rfl
theorem q261 : (Jvm.Cond.lays "TracePeaks$Peak" "TracePeaks$Peak" "valley" "I") ∈ lw_all := lw_g (lw_at lw_m1 142 rfl) rfl
theorem q262 : (Jvm.Cond.soleField "TracePeaks$Peak" "valley") ∈ lw_all := lw_g (lw_at lw_m1 143 rfl) rfl
theorem q263 : (Jvm.Cond.lays "TracePeaks$Peak" "TracePeaks$Peak" "death" "I") ∈ lw_all := lw_g (lw_at lw_m1 144 rfl) rfl
theorem q264 : (Jvm.Cond.soleField "TracePeaks$Peak" "death") ∈ lw_all := lw_g (lw_at lw_m1 145 rfl) rfl
theorem q265 : (Jvm.Cond.lays "TracePeaks$Peak" "TracePeaks$Peak" "came" "I") ∈ lw_all := lw_g (lw_at lw_m1 146 rfl) rfl
theorem q266 : (Jvm.Cond.soleField "TracePeaks$Peak" "came") ∈ lw_all := lw_g (lw_at lw_m1 147 rfl) rfl
theorem q267 : (Jvm.Cond.lays "TracePeaks$Peak" "TracePeaks$Peak" "parent" "LTracePeaks$Peak;") ∈ lw_all := lw_g (lw_at lw_m1 148 rfl) rfl
theorem q268 : (Jvm.Cond.soleField "TracePeaks$Peak" "parent") ∈ lw_all := lw_g (lw_at lw_m1 149 rfl) rfl
theorem q269 : (Jvm.Cond.lays "TracePeaks$Peak" "TracePeaks$Peak" "isKept" "Z") ∈ lw_all := lw_g (lw_at lw_m1 150 rfl) rfl
theorem q270 : (Jvm.Cond.soleField "TracePeaks$Peak" "isKept") ∈ lw_all := lw_g (lw_at lw_m1 151 rfl) rfl
theorem q271 : (Jvm.Cond.superclass "TracePeaks$Peak" "java/lang/Object") ∈ lw_all := lw_g (lw_at lw_m1 152 rfl) rfl
theorem q1015 : (Jvm.Cond.instanceMethod ({ cls := "TracePeaks$Peak", name := "begins", desc := "(III)LTracePeaks$Peak;" } : Jvm.MethodName)) ∈ lw_all := lw_g (lw_at lw_m4 176 rfl) rfl
theorem q1016 : (Jvm.Cond.selects "TracePeaks$Peak" ({ cls := "TracePeaks$Peak", name := "begins", desc := "(III)LTracePeaks$Peak;" } : Jvm.MethodName) ({ cls := "TracePeaks$Peak", name := "begins", desc := "(III)LTracePeaks$Peak;" } : Jvm.MethodName)) ∈ lw_all := lw_g (lw_at lw_m4 177 rfl) rfl
theorem q1017 : (Jvm.Cond.code ({ cls := "TracePeaks$Peak", name := "begins", desc := "(III)LTracePeaks$Peak;" } : Jvm.MethodName) prog_7_method_2_code (4 : Nat) (Option.some (Jvm.ClassFile.FieldType.object "TracePeaks$Peak"))) ∈ lw_all := lw_g (lw_at lw_m4 178 rfl) rfl
theorem q1023 : (Jvm.Cond.instanceMethod ({ cls := "TracePeaks$Peak", name := "dies", desc := "(IILTracePeaks$Peak;)V" } : Jvm.MethodName)) ∈ lw_all := lw_g (lw_at lw_m4 184 rfl) rfl
theorem q1024 : (Jvm.Cond.selects "TracePeaks$Peak" ({ cls := "TracePeaks$Peak", name := "dies", desc := "(IILTracePeaks$Peak;)V" } : Jvm.MethodName) ({ cls := "TracePeaks$Peak", name := "dies", desc := "(IILTracePeaks$Peak;)V" } : Jvm.MethodName)) ∈ lw_all := lw_g (lw_at lw_m4 185 rfl) rfl
theorem q1025 : (Jvm.Cond.code ({ cls := "TracePeaks$Peak", name := "dies", desc := "(IILTracePeaks$Peak;)V" } : Jvm.MethodName) prog_7_method_4_code (4 : Nat) (Option.none : Option Jvm.ClassFile.FieldType)) ∈ lw_all := lw_g (lw_at lw_m4 186 rfl) rfl
theorem q1046 : (Jvm.Cond.instanceMethod ({ cls := "TracePeaks$Peak", name := "persistence", desc := "()I" } : Jvm.MethodName)) ∈ lw_all := lw_g (lw_at lw_m4 207 rfl) rfl
theorem q1047 : (Jvm.Cond.selects "TracePeaks$Peak" ({ cls := "TracePeaks$Peak", name := "persistence", desc := "()I" } : Jvm.MethodName) ({ cls := "TracePeaks$Peak", name := "persistence", desc := "()I" } : Jvm.MethodName)) ∈ lw_all := lw_g (lw_at lw_m4 208 rfl) rfl
theorem q1048 : (Jvm.Cond.code ({ cls := "TracePeaks$Peak", name := "persistence", desc := "()I" } : Jvm.MethodName) prog_7_method_3_code (1 : Nat) (Option.some Jvm.ClassFile.FieldType.int)) ∈ lw_all := lw_g (lw_at lw_m4 209 rfl) rfl
theorem q1070 : (Jvm.Cond.instanceMethod ({ cls := "TracePeaks$Peak", name := "isAhead", desc := "(LTracePeaks$Peak;)Z" } : Jvm.MethodName)) ∈ lw_all := lw_g (lw_at lw_m4 231 rfl) rfl
theorem q1071 : (Jvm.Cond.selects "TracePeaks$Peak" ({ cls := "TracePeaks$Peak", name := "isAhead", desc := "(LTracePeaks$Peak;)Z" } : Jvm.MethodName) ({ cls := "TracePeaks$Peak", name := "isAhead", desc := "(LTracePeaks$Peak;)Z" } : Jvm.MethodName)) ∈ lw_all := lw_g (lw_at lw_m4 232 rfl) rfl
theorem q1072 : (Jvm.Cond.code ({ cls := "TracePeaks$Peak", name := "isAhead", desc := "(LTracePeaks$Peak;)Z" } : Jvm.MethodName) prog_7_method_5_code (2 : Nat) (Option.some Jvm.ClassFile.FieldType.boolean)) ∈ lw_all := lw_g (lw_at lw_m4 233 rfl) rfl
theorem q1073 : (Jvm.Cond.methodLink "TracePeaks$Peak" (31 : Nat) ({ cls := "TracePeaks$Peak", name := "persistence", desc := "()I" } : Jvm.MethodName)) ∈ lw_all := lw_g (lw_at lw_m4 234 rfl) rfl
theorem q1445 : (Jvm.Cond.selects "TracePeaks$Peak" ({ cls := "java/lang/Object", name := "toString", desc := "()Ljava/lang/String;" } : Jvm.MethodName) ({ cls := "java/lang/Object", name := "toString", desc := "()Ljava/lang/String;" } : Jvm.MethodName)) ∈ lw_all := lw_g (lw_at lw_m6 126 rfl) rfl
theorem q1461 : (Jvm.Cond.selects "TracePeaks$Peak" ({ cls := "java/lang/Object", name := "getClass", desc := "()Ljava/lang/Class;" } : Jvm.MethodName) ({ cls := "java/lang/Object", name := "getClass", desc := "()Ljava/lang/Class;" } : Jvm.MethodName)) ∈ lw_all := lw_g (lw_at lw_m6 142 rfl) rfl
theorem q2364 : (Jvm.Cond.castable "TracePeaks$Peak" "java/lang/Object") ∈ lw_tbl := lw_at lw_m10 85 rfl
theorem in_X6 : ∀ w ∈ wsX60, w ∈ lw_all := lw_in wsX60 [257, 259, 261, 263, 265, 267, 269] (by decide +kernel) (by decide +kernel)
def RX7 : String := "TracePeaks$Samples"
def TX7 : u_T := fun k => match k with
  | 0 => ("TracePeaks$Samples", "row", "[I", true)
  | _ => ("TracePeaks$Samples", "many", "I", false)
def tyX7 : Nat → FieldType := fun k => match k with
  | 0 => .array .int
  | _ => .int
abbrev wsX70 : List Cond := u_ws RX7 TX7 2
theorem nmX7 : ∀ a, a < 2 → ∀ b, b < 2 → a ≠ b → (TX7 a).2.1 ≠ (TX7 b).2.1 := by decide +kernel
theorem tyX7_ok : ∀ k, k < 2 → parseFieldDescriptor (TX7 k).2.2.1 = some (tyX7 k) := by decide +kernel
abbrev cX7_init : ByteArray := prog_11_method_1_code
def yX7_init : MethodName := ⟨RX7, "<init>", "()V"⟩
abbrev cX7_add : ByteArray := prog_11_method_3_code
def yX7_add : MethodName := ⟨RX7, "add", "(I)V"⟩
abbrev cX7_becomes : ByteArray := prog_11_method_2_code
def yX7_becomes : MethodName := ⟨RX7, "becomes", "(LTracePeaks$Samples;)V"⟩
abbrev cX7_near : ByteArray := prog_11_method_6_code
def yX7_near : MethodName := ⟨RX7, "near", "(I)I"⟩
abbrev cX7_at : ByteArray := prog_11_method_5_code
def yX7_at : MethodName := ⟨RX7, "at", "(I)I"⟩
abbrev cX7_many : ByteArray := prog_11_method_4_code
def yX7_many : MethodName := ⟨RX7, "many", "()I"⟩
abbrev cX7_lowest : ByteArray := prog_11_method_7_code
def yX7_lowest : MethodName := ⟨RX7, "lowest", "(II)I"⟩
theorem q127 : (Jvm.Cond.initialized "TracePeaks$Samples") ∈ lw_all := lw_g (lw_at lw_m1 8 rfl) rfl
theorem q311 : (Jvm.Cond.instantiable "TracePeaks$Samples" (2 : Nat)) ∈ lw_all := lw_g (lw_at lw_m1 192 rfl) rfl
theorem q313 : (Jvm.Cond.instanceMethod ({ cls := "TracePeaks$Samples", name := "<init>", desc := "()V" } : Jvm.MethodName)) ∈ lw_all := lw_g (lw_at lw_m1 194 rfl) rfl
theorem q314 : (Jvm.Cond.code ({ cls := "TracePeaks$Samples", name := "<init>", desc := "()V" } : Jvm.MethodName) prog_11_method_1_code (1 : Nat) (Option.none : Option Jvm.ClassFile.FieldType)) ∈ lw_all := lw_g (lw_at lw_m1 195 rfl) rfl
theorem q315 : (Jvm.Cond.methodLink "TracePeaks$Samples" (3 : Nat) ({ cls := "java/lang/Object", name := "<init>", desc := "()V" } : Jvm.MethodName)) ∈ lw_all := lw_g (lw_at lw_m1 196 rfl) rfl
theorem q316 : (Jvm.Cond.fieldLink "TracePeaks$Samples" (9 : Nat) "TracePeaks$Samples" "row" "[I") ∈ lw_all := lw_g (lw_at lw_m1 197 rfl) rfl
theorem q320 : (Jvm.Cond.fieldLink "TracePeaks$Samples" (15 : Nat) "TracePeaks$Samples" "many" "I") ∈ lw_all := lw_g (lw_at lw_m1 201 rfl) rfl
theorem q325 : (Jvm.Cond.laysFinal "TracePeaks$Samples" "TracePeaks$Samples" "row" "[I") ∈ lw_all := lw_g (lw_at lw_m1 206 rfl) rfl
theorem q326 : (Jvm.Cond.soleField "TracePeaks$Samples" "row") ∈ lw_all := lw_g (lw_at lw_m1 207 rfl) rfl
theorem q327 : (Jvm.Cond.lays "TracePeaks$Samples" "TracePeaks$Samples" "many" "I") ∈ lw_all := lw_g (lw_at lw_m1 208 rfl) rfl
theorem q328 : (Jvm.Cond.soleField "TracePeaks$Samples" "many") ∈ lw_all := lw_g (lw_at lw_m1 209 rfl) rfl
theorem q329 : (Jvm.Cond.superclass "TracePeaks$Samples" "java/lang/Object") ∈ lw_all := lw_g (lw_at lw_m1 210 rfl) rfl
theorem q861 : (Jvm.Cond.instanceMethod ({ cls := "TracePeaks$Samples", name := "add", desc := "(I)V" } : Jvm.MethodName)) ∈ lw_all := lw_g (lw_at lw_m4 22 rfl) rfl
theorem q862 : (Jvm.Cond.selects "TracePeaks$Samples" ({ cls := "TracePeaks$Samples", name := "add", desc := "(I)V" } : Jvm.MethodName) ({ cls := "TracePeaks$Samples", name := "add", desc := "(I)V" } : Jvm.MethodName)) ∈ lw_all := lw_g (lw_at lw_m4 23 rfl) rfl
theorem q863 : (Jvm.Cond.code ({ cls := "TracePeaks$Samples", name := "add", desc := "(I)V" } : Jvm.MethodName) prog_11_method_3_code (2 : Nat) (Option.none : Option Jvm.ClassFile.FieldType)) ∈ lw_all := lw_g (lw_at lw_m4 24 rfl) rfl
theorem q955 : (Jvm.Cond.instanceMethod ({ cls := "TracePeaks$Samples", name := "becomes", desc := "(LTracePeaks$Samples;)V" } : Jvm.MethodName)) ∈ lw_all := lw_g (lw_at lw_m4 116 rfl) rfl
theorem q956 : (Jvm.Cond.selects "TracePeaks$Samples" ({ cls := "TracePeaks$Samples", name := "becomes", desc := "(LTracePeaks$Samples;)V" } : Jvm.MethodName) ({ cls := "TracePeaks$Samples", name := "becomes", desc := "(LTracePeaks$Samples;)V" } : Jvm.MethodName)) ∈ lw_all := lw_g (lw_at lw_m4 117 rfl) rfl
theorem q957 : (Jvm.Cond.code ({ cls := "TracePeaks$Samples", name := "becomes", desc := "(LTracePeaks$Samples;)V" } : Jvm.MethodName) prog_11_method_2_code (2 : Nat) (Option.none : Option Jvm.ClassFile.FieldType)) ∈ lw_all := lw_g (lw_at lw_m4 118 rfl) rfl
theorem q958 : (Jvm.Cond.methodLink "TracePeaks$Samples" (19 : Nat) ({ cls := "java/lang/System", name := "arraycopy", desc := "(Ljava/lang/Object;ILjava/lang/Object;II)V" } : Jvm.MethodName)) ∈ lw_all := lw_g (lw_at lw_m4 119 rfl) rfl
theorem q989 : (Jvm.Cond.instanceMethod ({ cls := "TracePeaks$Samples", name := "near", desc := "(I)I" } : Jvm.MethodName)) ∈ lw_all := lw_g (lw_at lw_m4 150 rfl) rfl
theorem q990 : (Jvm.Cond.selects "TracePeaks$Samples" ({ cls := "TracePeaks$Samples", name := "near", desc := "(I)I" } : Jvm.MethodName) ({ cls := "TracePeaks$Samples", name := "near", desc := "(I)I" } : Jvm.MethodName)) ∈ lw_all := lw_g (lw_at lw_m4 151 rfl) rfl
theorem q991 : (Jvm.Cond.code ({ cls := "TracePeaks$Samples", name := "near", desc := "(I)I" } : Jvm.MethodName) prog_11_method_6_code (2 : Nat) (Option.some Jvm.ClassFile.FieldType.int)) ∈ lw_all := lw_g (lw_at lw_m4 152 rfl) rfl
theorem q992 : (Jvm.Cond.methodLink "TracePeaks$Samples" (25 : Nat) ({ cls := "java/lang/Math", name := "min", desc := "(II)I" } : Jvm.MethodName)) ∈ lw_all := lw_g (lw_at lw_m4 153 rfl) rfl
theorem q993 : (Jvm.Cond.methodLink "TracePeaks$Samples" (31 : Nat) ({ cls := "java/lang/Math", name := "max", desc := "(II)I" } : Jvm.MethodName)) ∈ lw_all := lw_g (lw_at lw_m4 154 rfl) rfl
theorem q1031 : (Jvm.Cond.unhidden "TracePeaks$Samples" "least" "()I") ∈ lw_tbl := lw_at lw_m4 192 rfl
theorem q1049 : (Jvm.Cond.castable "TracePeaks$Samples" "TracePeaks$Numbers") ∈ lw_tbl := lw_at lw_m4 210 rfl
theorem q1050 : (Jvm.Cond.selects "TracePeaks$Samples" ({ cls := "TracePeaks$Numbers", name := "at", desc := "(I)I" } : Jvm.MethodName) ({ cls := "TracePeaks$Samples", name := "at", desc := "(I)I" } : Jvm.MethodName)) ∈ lw_all := lw_g (lw_at lw_m4 211 rfl) rfl
theorem q1051 : (Jvm.Cond.unhidden "TracePeaks$Samples" "at" "(I)I") ∈ lw_tbl := lw_at lw_m4 212 rfl
theorem q1052 : (Jvm.Cond.instanceMethod ({ cls := "TracePeaks$Samples", name := "at", desc := "(I)I" } : Jvm.MethodName)) ∈ lw_all := lw_g (lw_at lw_m4 213 rfl) rfl
theorem q1053 : (Jvm.Cond.publicMethod ({ cls := "TracePeaks$Samples", name := "at", desc := "(I)I" } : Jvm.MethodName)) ∈ lw_tbl := lw_at lw_m4 214 rfl
theorem q1054 : (Jvm.Cond.code ({ cls := "TracePeaks$Samples", name := "at", desc := "(I)I" } : Jvm.MethodName) prog_11_method_5_code (2 : Nat) (Option.some Jvm.ClassFile.FieldType.int)) ∈ lw_all := lw_g (lw_at lw_m4 215 rfl) rfl
theorem q1064 : (Jvm.Cond.selects "TracePeaks$Samples" ({ cls := "TracePeaks$Numbers", name := "many", desc := "()I" } : Jvm.MethodName) ({ cls := "TracePeaks$Samples", name := "many", desc := "()I" } : Jvm.MethodName)) ∈ lw_all := lw_g (lw_at lw_m4 225 rfl) rfl
theorem q1065 : (Jvm.Cond.unhidden "TracePeaks$Samples" "many" "()I") ∈ lw_tbl := lw_at lw_m4 226 rfl
theorem q1066 : (Jvm.Cond.instanceMethod ({ cls := "TracePeaks$Samples", name := "many", desc := "()I" } : Jvm.MethodName)) ∈ lw_all := lw_g (lw_at lw_m4 227 rfl) rfl
theorem q1067 : (Jvm.Cond.publicMethod ({ cls := "TracePeaks$Samples", name := "many", desc := "()I" } : Jvm.MethodName)) ∈ lw_tbl := lw_at lw_m4 228 rfl
theorem q1068 : (Jvm.Cond.code ({ cls := "TracePeaks$Samples", name := "many", desc := "()I" } : Jvm.MethodName) prog_11_method_4_code (1 : Nat) (Option.some Jvm.ClassFile.FieldType.int)) ∈ lw_all := lw_g (lw_at lw_m4 229 rfl) rfl
theorem q1128 : (Jvm.Cond.unhidden "TracePeaks$Samples" "greatest" "()I") ∈ lw_tbl := lw_at lw_m5 49 rfl
theorem q1230 : (Jvm.Cond.unhidden "TracePeaks$Samples" "sum" "()I") ∈ lw_tbl := lw_at lw_m5 151 rfl
theorem q1260 : (Jvm.Cond.instanceMethod ({ cls := "TracePeaks$Samples", name := "lowest", desc := "(II)I" } : Jvm.MethodName)) ∈ lw_all := lw_g (lw_at lw_m5 181 rfl) rfl
theorem q1261 : (Jvm.Cond.selects "TracePeaks$Samples" ({ cls := "TracePeaks$Samples", name := "lowest", desc := "(II)I" } : Jvm.MethodName) ({ cls := "TracePeaks$Samples", name := "lowest", desc := "(II)I" } : Jvm.MethodName)) ∈ lw_all := lw_g (lw_at lw_m5 182 rfl) rfl
theorem q1262 : (Jvm.Cond.code ({ cls := "TracePeaks$Samples", name := "lowest", desc := "(II)I" } : Jvm.MethodName) prog_11_method_7_code (5 : Nat) (Option.some Jvm.ClassFile.FieldType.int)) ∈ lw_all := lw_g (lw_at lw_m5 183 rfl) rfl
theorem q1279 : (Jvm.Cond.unhidden "TracePeaks$Samples" "run" "(II)I") ∈ lw_tbl := lw_at lw_m5 200 rfl
theorem q1448 : (Jvm.Cond.selects "TracePeaks$Samples" ({ cls := "java/lang/Object", name := "toString", desc := "()Ljava/lang/String;" } : Jvm.MethodName) ({ cls := "java/lang/Object", name := "toString", desc := "()Ljava/lang/String;" } : Jvm.MethodName)) ∈ lw_all := lw_g (lw_at lw_m6 129 rfl) rfl
theorem q1464 : (Jvm.Cond.selects "TracePeaks$Samples" ({ cls := "java/lang/Object", name := "getClass", desc := "()Ljava/lang/Class;" } : Jvm.MethodName) ({ cls := "java/lang/Object", name := "getClass", desc := "()Ljava/lang/Class;" } : Jvm.MethodName)) ∈ lw_all := lw_g (lw_at lw_m6 145 rfl) rfl
theorem q2365 : (Jvm.Cond.castable "TracePeaks$Samples" "java/lang/Object") ∈ lw_tbl := lw_at lw_m10 86 rfl
theorem in_X7 : ∀ w ∈ wsX70, w ∈ lw_all := lw_in wsX70 [325, 327] (by decide +kernel) (by decide +kernel)
def RX8 : String := "TracePeaks$State"
def TX8 : u_T := fun k => match k with
  | 0 => ("TracePeaks$State", "samples", "LTracePeaks$Samples;", true)
  | 1 => ("TracePeaks$State", "notes", "[I", true)
  | 2 => ("TracePeaks$State", "noise", "I", false)
  | 3 => ("TracePeaks$State", "noteMany", "I", false)
  | 4 => ("TracePeaks$State", "came", "I", false)
  | _ => ("TracePeaks$State", "this$0", "LTracePeaks;", true)
def tyX8 : Nat → FieldType := fun k => match k with
  | 0 => .object "TracePeaks$Samples"
  | 1 => .array .int
  | 2 => .int
  | 3 => .int
  | 4 => .int
  | _ => .object "TracePeaks"
abbrev wsX80 : List Cond := u_ws RX8 TX8 6
theorem nmX8 : ∀ a, a < 6 → ∀ b, b < 6 → a ≠ b → (TX8 a).2.1 ≠ (TX8 b).2.1 := by decide +kernel
theorem tyX8_ok : ∀ k, k < 6 → parseFieldDescriptor (TX8 k).2.2.1 = some (tyX8 k) := by decide +kernel
abbrev cX8_init : ByteArray := prog_13_method_1_code
def yX8_init : MethodName := ⟨RX8, "<init>", "(LTracePeaks;)V"⟩
abbrev cX8_starts : ByteArray := prog_13_method_2_code
def yX8_starts : MethodName := ⟨RX8, "starts", "(LTracePeaks$Trace;)V"⟩
abbrev cX8_becomes : ByteArray := prog_13_method_4_code
def yX8_becomes : MethodName := ⟨RX8, "becomes", "(LTracePeaks$State;)V"⟩
abbrev cX8_sees : ByteArray := prog_13_method_3_code
def yX8_sees : MethodName := ⟨RX8, "sees", "(LTracePeaks$State;)V"⟩
abbrev cX8_deed : ByteArray := prog_13_method_22_code
def yX8_deed : MethodName := ⟨RX8, "deed", "(III)I"⟩
abbrev cX8_filters : ByteArray := prog_13_method_9_code
def yX8_filters : MethodName := ⟨RX8, "filters", "(LTracePeaks$Filter;)I"⟩
abbrev cX8_kept : ByteArray := prog_13_method_7_code
def yX8_kept : MethodName := ⟨RX8, "kept", "()I"⟩
abbrev cX8_done : ByteArray := prog_13_method_6_code
def yX8_done : MethodName := ⟨RX8, "done", "(I)I"⟩
abbrev cX8_flattens : ByteArray := prog_13_method_12_code
def yX8_flattens : MethodName := ⟨RX8, "flattens", "()I"⟩
abbrev cX8_flattens_2 : ByteArray := prog_13_method_13_code
def yX8_flattens_2 : MethodName := ⟨RX8, "flattens", "(LTracePeaks$Peak;)V"⟩
abbrev cX8_lowers : ByteArray := prog_13_method_14_code
def yX8_lowers : MethodName := ⟨RX8, "lowers", "(II)V"⟩
abbrev cX8_less : ByteArray := prog_13_method_11_code
def yX8_less : MethodName := ⟨RX8, "less", "()I"⟩
abbrev cX8_turns : ByteArray := prog_13_method_15_code
def yX8_turns : MethodName := ⟨RX8, "turns", "()I"⟩
abbrev cX8_clips : ByteArray := prog_13_method_16_code
def yX8_clips : MethodName := ⟨RX8, "clips", "(I)I"⟩
abbrev cX8_changes : ByteArray := prog_13_method_10_code
def yX8_changes : MethodName := ⟨RX8, "changes", "(LTracePeaks$Change;II)V"⟩
abbrev cX8_lifts : ByteArray := prog_13_method_17_code
def yX8_lifts : MethodName := ⟨RX8, "lifts", "(I)I"⟩
abbrev cX8_scales : ByteArray := prog_13_method_18_code
def yX8_scales : MethodName := ⟨RX8, "scales", "(II)I"⟩
abbrev cX8_sets : ByteArray := prog_13_method_19_code
def yX8_sets : MethodName := ⟨RX8, "sets", "(II)I"⟩
abbrev cX8_isPlace : ByteArray := prog_13_method_8_code
def yX8_isPlace : MethodName := ⟨RX8, "isPlace", "(I)Z"⟩
abbrev cX8_hushes : ByteArray := prog_13_method_20_code
def yX8_hushes : MethodName := ⟨RX8, "hushes", "(I)I"⟩
abbrev cX8_cuts : ByteArray := prog_13_method_21_code
def yX8_cuts : MethodName := ⟨RX8, "cuts", "(II)I"⟩
abbrev cX8_notes : ByteArray := prog_13_method_5_code
def yX8_notes : MethodName := ⟨RX8, "notes", "(III)V"⟩
theorem q128 : (Jvm.Cond.initialized "TracePeaks$State") ∈ lw_all := lw_g (lw_at lw_m1 9 rfl) rfl
theorem q182 : (Jvm.Cond.fieldLinkNest "TracePeaks$State" (169 : Nat) "TracePeaks$Beside" "filter" "LTracePeaks$Filter;" "TracePeaks") ∈ lw_tbl := lw_at lw_m1 63 rfl
theorem q208 : (Jvm.Cond.fieldLinkNest "TracePeaks$State" (137 : Nat) "TracePeaks$Each" "change" "LTracePeaks$Change;" "TracePeaks") ∈ lw_tbl := lw_at lw_m1 89 rfl
theorem q238 : (Jvm.Cond.fieldLinkNest "TracePeaks$State" (115 : Nat) "TracePeaks$Peak" "place" "I" "TracePeaks") ∈ lw_tbl := lw_at lw_m1 119 rfl
theorem q247 : (Jvm.Cond.fieldLinkNest "TracePeaks$State" (118 : Nat) "TracePeaks$Peak" "death" "I" "TracePeaks") ∈ lw_tbl := lw_at lw_m1 128 rfl
theorem q255 : (Jvm.Cond.fieldLinkNest "TracePeaks$State" (102 : Nat) "TracePeaks$Peak" "isKept" "Z" "TracePeaks") ∈ lw_tbl := lw_at lw_m1 136 rfl
theorem q276 : (Jvm.Cond.fieldLinkNest "TracePeaks$State" (99 : Nat) "TracePeaks$Peaks" "row" "[LTracePeaks$Peak;" "TracePeaks") ∈ lw_tbl := lw_at lw_m1 157 rfl
theorem q282 : (Jvm.Cond.fieldLinkNest "TracePeaks$State" (98 : Nat) "TracePeaks$Peaks" "many" "I" "TracePeaks") ∈ lw_tbl := lw_at lw_m1 163 rfl
theorem q284 : (Jvm.Cond.fieldLinkNest "TracePeaks$State" (64 : Nat) "TracePeaks$Peaks" "kept" "I" "TracePeaks") ∈ lw_tbl := lw_at lw_m1 165 rfl
theorem q318 : (Jvm.Cond.fieldLinkNest "TracePeaks$State" (77 : Nat) "TracePeaks$Samples" "row" "[I" "TracePeaks") ∈ lw_tbl := lw_at lw_m1 199 rfl
theorem q322 : (Jvm.Cond.fieldLinkNest "TracePeaks$State" (67 : Nat) "TracePeaks$Samples" "many" "I" "TracePeaks") ∈ lw_tbl := lw_at lw_m1 203 rfl
theorem q331 : (Jvm.Cond.instantiable "TracePeaks$State" (6 : Nat)) ∈ lw_all := lw_g (lw_at lw_m1 212 rfl) rfl
theorem q333 : (Jvm.Cond.instanceMethod ({ cls := "TracePeaks$State", name := "<init>", desc := "(LTracePeaks;)V" } : Jvm.MethodName)) ∈ lw_all := lw_g (lw_at lw_m1 214 rfl) rfl
theorem q334 : (Jvm.Cond.code ({ cls := "TracePeaks$State", name := "<init>", desc := "(LTracePeaks;)V" } : Jvm.MethodName) prog_13_method_1_code (2 : Nat) (Option.none : Option Jvm.ClassFile.FieldType)) ∈ lw_all := lw_g (lw_at lw_m1 215 rfl) rfl
theorem q335 : (Jvm.Cond.methodLink "TracePeaks$State" (9 : Nat) ({ cls := "java/lang/Object", name := "<init>", desc := "()V" } : Jvm.MethodName)) ∈ lw_all := lw_g (lw_at lw_m1 216 rfl) rfl
theorem q336 : (Jvm.Cond.classLink "TracePeaks$State" (15 : Nat) "TracePeaks$Samples") ∈ lw_all := lw_g (lw_at lw_m1 217 rfl) rfl
theorem q337 : (Jvm.Cond.methodLinkNest "TracePeaks$State" (17 : Nat) ({ cls := "TracePeaks$Samples", name := "<init>", desc := "()V" } : Jvm.MethodName) "TracePeaks") ∈ lw_tbl := lw_at lw_m1 218 rfl
theorem q338 : (Jvm.Cond.fieldLink "TracePeaks$State" (18 : Nat) "TracePeaks$State" "samples" "LTracePeaks$Samples;") ∈ lw_all := lw_g (lw_at lw_m1 219 rfl) rfl
theorem q340 : (Jvm.Cond.fieldLink "TracePeaks$State" (22 : Nat) "TracePeaks$State" "notes" "[I") ∈ lw_all := lw_g (lw_at lw_m1 221 rfl) rfl
theorem q342 : (Jvm.Cond.fieldLink "TracePeaks$State" (37 : Nat) "TracePeaks$State" "noise" "I") ∈ lw_all := lw_g (lw_at lw_m1 223 rfl) rfl
theorem q344 : (Jvm.Cond.fieldLink "TracePeaks$State" (38 : Nat) "TracePeaks$State" "noteMany" "I") ∈ lw_all := lw_g (lw_at lw_m1 225 rfl) rfl
theorem q346 : (Jvm.Cond.fieldLink "TracePeaks$State" (51 : Nat) "TracePeaks$State" "came" "I") ∈ lw_all := lw_g (lw_at lw_m1 227 rfl) rfl
theorem q348 : (Jvm.Cond.fieldLink "TracePeaks$State" (3 : Nat) "TracePeaks$State" "this$0" "LTracePeaks;") ∈ lw_all := lw_g (lw_at lw_m1 229 rfl) rfl
theorem q349 : (Jvm.Cond.laysFinal "TracePeaks$State" "TracePeaks$State" "samples" "LTracePeaks$Samples;") ∈ lw_all := lw_g (lw_at lw_m1 230 rfl) rfl
theorem q350 : (Jvm.Cond.soleField "TracePeaks$State" "samples") ∈ lw_all := lw_g (lw_at lw_m1 231 rfl) rfl
theorem q351 : (Jvm.Cond.laysFinal "TracePeaks$State" "TracePeaks$State" "notes" "[I") ∈ lw_all := lw_g (lw_at lw_m1 232 rfl) rfl
theorem q352 : (Jvm.Cond.soleField "TracePeaks$State" "notes") ∈ lw_all := lw_g (lw_at lw_m1 233 rfl) rfl
theorem q353 : (Jvm.Cond.lays "TracePeaks$State" "TracePeaks$State" "noise" "I") ∈ lw_all := lw_g (lw_at lw_m1 234 rfl) rfl
theorem q354 : (Jvm.Cond.soleField "TracePeaks$State" "noise") ∈ lw_all := lw_g (lw_at lw_m1 235 rfl) rfl
theorem q355 : (Jvm.Cond.lays "TracePeaks$State" "TracePeaks$State" "noteMany" "I") ∈ lw_all := lw_g (lw_at lw_m1 236 rfl) rfl
theorem q356 : (Jvm.Cond.soleField "TracePeaks$State" "noteMany") ∈ lw_all := lw_g (lw_at lw_m1 237 rfl) rfl
theorem q357 : (Jvm.Cond.lays "TracePeaks$State" "TracePeaks$State" "came" "I") ∈ lw_all := lw_g (lw_at lw_m1 238 rfl) rfl
theorem q358 : (Jvm.Cond.soleField "TracePeaks$State" "came") ∈ lw_all := lw_g (lw_at lw_m1 239 rfl) rfl
theorem q359 : (Jvm.Cond.laysFinal "TracePeaks$State" "TracePeaks$State" "this$0" "LTracePeaks;") ∈ lw_all := lw_g (lw_at lw_m2 0 rfl) rfl
theorem q360 : (Jvm.Cond.soleField "TracePeaks$State" "this$0") ∈ lw_all := lw_g (lw_at lw_m2 1 rfl) rfl
theorem q361 : (Jvm.Cond.superclass "TracePeaks$State" "java/lang/Object") ∈ lw_all := lw_g (lw_at lw_m2 2 rfl) rfl
theorem q364 : (Jvm.Cond.fieldLinkNest "TracePeaks$State" (165 : Nat) "TracePeaks" "besides" "[LTracePeaks$Beside;" "TracePeaks") ∈ lw_tbl := lw_at lw_m2 5 rfl
theorem q366 : (Jvm.Cond.fieldLinkNest "TracePeaks$State" (133 : Nat) "TracePeaks" "eachs" "[LTracePeaks$Each;" "TracePeaks") ∈ lw_tbl := lw_at lw_m2 7 rfl
theorem q377 : (Jvm.Cond.fieldLinkNest "TracePeaks$State" (54 : Nat) "TracePeaks" "peaks" "LTracePeaks$Peaks;" "TracePeaks") ∈ lw_tbl := lw_at lw_m2 18 rfl
theorem q380 : (Jvm.Cond.fieldLinkNest "TracePeaks$State" (74 : Nat) "TracePeaks" "was" "LTracePeaks$Samples;" "TracePeaks") ∈ lw_tbl := lw_at lw_m2 21 rfl
theorem q472 : (Jvm.Cond.fieldLinkNest "TracePeaks$State" (26 : Nat) "TracePeaks$Trace" "samples" "LTracePeaks$Samples;" "TracePeaks") ∈ lw_tbl := lw_at lw_m2 113 rfl
theorem q485 : (Jvm.Cond.fieldLinkNest "TracePeaks$State" (33 : Nat) "TracePeaks$Trace" "noise" "I" "TracePeaks") ∈ lw_tbl := lw_at lw_m2 126 rfl
theorem q951 : (Jvm.Cond.instanceMethod ({ cls := "TracePeaks$State", name := "starts", desc := "(LTracePeaks$Trace;)V" } : Jvm.MethodName)) ∈ lw_all := lw_g (lw_at lw_m4 112 rfl) rfl
theorem q952 : (Jvm.Cond.selects "TracePeaks$State" ({ cls := "TracePeaks$State", name := "starts", desc := "(LTracePeaks$Trace;)V" } : Jvm.MethodName) ({ cls := "TracePeaks$State", name := "starts", desc := "(LTracePeaks$Trace;)V" } : Jvm.MethodName)) ∈ lw_all := lw_g (lw_at lw_m4 113 rfl) rfl
theorem q953 : (Jvm.Cond.code ({ cls := "TracePeaks$State", name := "starts", desc := "(LTracePeaks$Trace;)V" } : Jvm.MethodName) prog_13_method_2_code (2 : Nat) (Option.none : Option Jvm.ClassFile.FieldType)) ∈ lw_all := lw_g (lw_at lw_m4 114 rfl) rfl
theorem q954 : (Jvm.Cond.methodLink "TracePeaks$State" (29 : Nat) ({ cls := "TracePeaks$Samples", name := "becomes", desc := "(LTracePeaks$Samples;)V" } : Jvm.MethodName)) ∈ lw_all := lw_g (lw_at lw_m4 115 rfl) rfl
theorem q972 : (Jvm.Cond.instanceMethod ({ cls := "TracePeaks$State", name := "becomes", desc := "(LTracePeaks$State;)V" } : Jvm.MethodName)) ∈ lw_all := lw_g (lw_at lw_m4 133 rfl) rfl
theorem q973 : (Jvm.Cond.selects "TracePeaks$State" ({ cls := "TracePeaks$State", name := "becomes", desc := "(LTracePeaks$State;)V" } : Jvm.MethodName) ({ cls := "TracePeaks$State", name := "becomes", desc := "(LTracePeaks$State;)V" } : Jvm.MethodName)) ∈ lw_all := lw_g (lw_at lw_m4 134 rfl) rfl
theorem q974 : (Jvm.Cond.code ({ cls := "TracePeaks$State", name := "becomes", desc := "(LTracePeaks$State;)V" } : Jvm.MethodName) prog_13_method_4_code (2 : Nat) (Option.none : Option Jvm.ClassFile.FieldType)) ∈ lw_all := lw_g (lw_at lw_m4 135 rfl) rfl
theorem q975 : (Jvm.Cond.methodLink "TracePeaks$State" (41 : Nat) ({ cls := "TracePeaks$State", name := "sees", desc := "(LTracePeaks$State;)V" } : Jvm.MethodName)) ∈ lw_all := lw_g (lw_at lw_m4 136 rfl) rfl
theorem q976 : (Jvm.Cond.instanceMethod ({ cls := "TracePeaks$State", name := "sees", desc := "(LTracePeaks$State;)V" } : Jvm.MethodName)) ∈ lw_all := lw_g (lw_at lw_m4 137 rfl) rfl
theorem q977 : (Jvm.Cond.selects "TracePeaks$State" ({ cls := "TracePeaks$State", name := "sees", desc := "(LTracePeaks$State;)V" } : Jvm.MethodName) ({ cls := "TracePeaks$State", name := "sees", desc := "(LTracePeaks$State;)V" } : Jvm.MethodName)) ∈ lw_all := lw_g (lw_at lw_m4 138 rfl) rfl
theorem q978 : (Jvm.Cond.code ({ cls := "TracePeaks$State", name := "sees", desc := "(LTracePeaks$State;)V" } : Jvm.MethodName) prog_13_method_3_code (2 : Nat) (Option.none : Option Jvm.ClassFile.FieldType)) ∈ lw_all := lw_g (lw_at lw_m4 139 rfl) rfl
theorem q979 : (Jvm.Cond.methodLink "TracePeaks$State" (45 : Nat) ({ cls := "java/lang/System", name := "arraycopy", desc := "(Ljava/lang/Object;ILjava/lang/Object;II)V" } : Jvm.MethodName)) ∈ lw_all := lw_g (lw_at lw_m4 140 rfl) rfl
theorem q981 : (Jvm.Cond.instanceMethod ({ cls := "TracePeaks$State", name := "deed", desc := "(III)I" } : Jvm.MethodName)) ∈ lw_all := lw_g (lw_at lw_m4 142 rfl) rfl
theorem q982 : (Jvm.Cond.selects "TracePeaks$State" ({ cls := "TracePeaks$State", name := "deed", desc := "(III)I" } : Jvm.MethodName) ({ cls := "TracePeaks$State", name := "deed", desc := "(III)I" } : Jvm.MethodName)) ∈ lw_all := lw_g (lw_at lw_m4 143 rfl) rfl
theorem q983 : (Jvm.Cond.code ({ cls := "TracePeaks$State", name := "deed", desc := "(III)I" } : Jvm.MethodName) prog_13_method_22_code (4 : Nat) (Option.some Jvm.ClassFile.FieldType.int)) ∈ lw_all := lw_g (lw_at lw_m4 144 rfl) rfl
theorem q984 : (Jvm.Cond.methodLink "TracePeaks$State" (175 : Nat) ({ cls := "TracePeaks$State", name := "filters", desc := "(LTracePeaks$Filter;)I" } : Jvm.MethodName)) ∈ lw_all := lw_g (lw_at lw_m4 145 rfl) rfl
theorem q985 : (Jvm.Cond.instanceMethod ({ cls := "TracePeaks$State", name := "filters", desc := "(LTracePeaks$Filter;)I" } : Jvm.MethodName)) ∈ lw_all := lw_g (lw_at lw_m4 146 rfl) rfl
theorem q986 : (Jvm.Cond.selects "TracePeaks$State" ({ cls := "TracePeaks$State", name := "filters", desc := "(LTracePeaks$Filter;)I" } : Jvm.MethodName) ({ cls := "TracePeaks$State", name := "filters", desc := "(LTracePeaks$Filter;)I" } : Jvm.MethodName)) ∈ lw_all := lw_g (lw_at lw_m4 147 rfl) rfl
theorem q987 : (Jvm.Cond.code ({ cls := "TracePeaks$State", name := "filters", desc := "(LTracePeaks$Filter;)I" } : Jvm.MethodName) prog_13_method_9_code (3 : Nat) (Option.some Jvm.ClassFile.FieldType.int)) ∈ lw_all := lw_g (lw_at lw_m4 148 rfl) rfl
theorem q988 : (Jvm.Cond.methodLink "TracePeaks$State" (80 : Nat) ({ cls := "TracePeaks$Samples", name := "near", desc := "(I)I" } : Jvm.MethodName)) ∈ lw_all := lw_g (lw_at lw_m4 149 rfl) rfl
theorem q994 : (Jvm.Cond.interfaceEntry "TracePeaks$State" (84 : Nat)) ∈ lw_tbl := lw_at lw_m4 155 rfl
theorem q995 : (Jvm.Cond.methodLink "TracePeaks$State" (84 : Nat) ({ cls := "TracePeaks$Filter", name := "of", desc := "(III)I" } : Jvm.MethodName)) ∈ lw_all := lw_g (lw_at lw_m4 156 rfl) rfl
theorem q998 : (Jvm.Cond.methodLink "TracePeaks$State" (89 : Nat) ({ cls := "TracePeaks$State", name := "kept", desc := "()I" } : Jvm.MethodName)) ∈ lw_all := lw_g (lw_at lw_m4 159 rfl) rfl
theorem q999 : (Jvm.Cond.instanceMethod ({ cls := "TracePeaks$State", name := "kept", desc := "()I" } : Jvm.MethodName)) ∈ lw_all := lw_g (lw_at lw_m4 160 rfl) rfl
theorem q1000 : (Jvm.Cond.selects "TracePeaks$State" ({ cls := "TracePeaks$State", name := "kept", desc := "()I" } : Jvm.MethodName) ({ cls := "TracePeaks$State", name := "kept", desc := "()I" } : Jvm.MethodName)) ∈ lw_all := lw_g (lw_at lw_m4 161 rfl) rfl
theorem q1001 : (Jvm.Cond.code ({ cls := "TracePeaks$State", name := "kept", desc := "()I" } : Jvm.MethodName) prog_13_method_7_code (1 : Nat) (Option.some Jvm.ClassFile.FieldType.int)) ∈ lw_all := lw_g (lw_at lw_m4 162 rfl) rfl
theorem q1002 : (Jvm.Cond.methodLink "TracePeaks$State" (58 : Nat) ({ cls := "TracePeaks$Peaks", name := "of", desc := "(LTracePeaks$Samples;I)LTracePeaks$Peaks;" } : Jvm.MethodName)) ∈ lw_all := lw_g (lw_at lw_m4 163 rfl) rfl
theorem q1078 : (Jvm.Cond.methodLink "TracePeaks$State" (92 : Nat) ({ cls := "TracePeaks$State", name := "done", desc := "(I)I" } : Jvm.MethodName)) ∈ lw_all := lw_g (lw_at lw_m4 239 rfl) rfl
theorem q1079 : (Jvm.Cond.privateMethod ({ cls := "TracePeaks$State", name := "done", desc := "(I)I" } : Jvm.MethodName)) ∈ lw_tbl := lw_at lw_m5 0 rfl
theorem q1080 : (Jvm.Cond.instanceMethod ({ cls := "TracePeaks$State", name := "done", desc := "(I)I" } : Jvm.MethodName)) ∈ lw_all := lw_g (lw_at lw_m5 1 rfl) rfl
theorem q1081 : (Jvm.Cond.code ({ cls := "TracePeaks$State", name := "done", desc := "(I)I" } : Jvm.MethodName) prog_13_method_6_code (2 : Nat) (Option.some Jvm.ClassFile.FieldType.int)) ∈ lw_all := lw_g (lw_at lw_m5 2 rfl) rfl
theorem q1082 : (Jvm.Cond.methodLink "TracePeaks$State" (179 : Nat) ({ cls := "TracePeaks$State", name := "flattens", desc := "()I" } : Jvm.MethodName)) ∈ lw_all := lw_g (lw_at lw_m5 3 rfl) rfl
theorem q1083 : (Jvm.Cond.instanceMethod ({ cls := "TracePeaks$State", name := "flattens", desc := "()I" } : Jvm.MethodName)) ∈ lw_all := lw_g (lw_at lw_m5 4 rfl) rfl
theorem q1084 : (Jvm.Cond.selects "TracePeaks$State" ({ cls := "TracePeaks$State", name := "flattens", desc := "()I" } : Jvm.MethodName) ({ cls := "TracePeaks$State", name := "flattens", desc := "()I" } : Jvm.MethodName)) ∈ lw_all := lw_g (lw_at lw_m5 5 rfl) rfl
theorem q1085 : (Jvm.Cond.code ({ cls := "TracePeaks$State", name := "flattens", desc := "()I" } : Jvm.MethodName) prog_13_method_12_code (3 : Nat) (Option.some Jvm.ClassFile.FieldType.int)) ∈ lw_all := lw_g (lw_at lw_m5 6 rfl) rfl
theorem q1086 : (Jvm.Cond.methodLink "TracePeaks$State" (108 : Nat) ({ cls := "TracePeaks$State", name := "flattens", desc := "(LTracePeaks$Peak;)V" } : Jvm.MethodName)) ∈ lw_all := lw_g (lw_at lw_m5 7 rfl) rfl
theorem q1087 : (Jvm.Cond.privateMethod ({ cls := "TracePeaks$State", name := "flattens", desc := "(LTracePeaks$Peak;)V" } : Jvm.MethodName)) ∈ lw_tbl := lw_at lw_m5 8 rfl
theorem q1088 : (Jvm.Cond.instanceMethod ({ cls := "TracePeaks$State", name := "flattens", desc := "(LTracePeaks$Peak;)V" } : Jvm.MethodName)) ∈ lw_all := lw_g (lw_at lw_m5 9 rfl) rfl
theorem q1089 : (Jvm.Cond.code ({ cls := "TracePeaks$State", name := "flattens", desc := "(LTracePeaks$Peak;)V" } : Jvm.MethodName) prog_13_method_13_code (3 : Nat) (Option.none : Option Jvm.ClassFile.FieldType)) ∈ lw_all := lw_g (lw_at lw_m5 10 rfl) rfl
theorem q1090 : (Jvm.Cond.methodLink "TracePeaks$State" (121 : Nat) ({ cls := "TracePeaks$State", name := "lowers", desc := "(II)V" } : Jvm.MethodName)) ∈ lw_all := lw_g (lw_at lw_m5 11 rfl) rfl
theorem q1091 : (Jvm.Cond.privateMethod ({ cls := "TracePeaks$State", name := "lowers", desc := "(II)V" } : Jvm.MethodName)) ∈ lw_tbl := lw_at lw_m5 12 rfl
theorem q1092 : (Jvm.Cond.instanceMethod ({ cls := "TracePeaks$State", name := "lowers", desc := "(II)V" } : Jvm.MethodName)) ∈ lw_all := lw_g (lw_at lw_m5 13 rfl) rfl
theorem q1093 : (Jvm.Cond.code ({ cls := "TracePeaks$State", name := "lowers", desc := "(II)V" } : Jvm.MethodName) prog_13_method_14_code (3 : Nat) (Option.none : Option Jvm.ClassFile.FieldType)) ∈ lw_all := lw_g (lw_at lw_m5 14 rfl) rfl
theorem q1094 : (Jvm.Cond.methodLink "TracePeaks$State" (125 : Nat) ({ cls := "java/lang/Math", name := "min", desc := "(II)I" } : Jvm.MethodName)) ∈ lw_all := lw_g (lw_at lw_m5 15 rfl) rfl
theorem q1095 : (Jvm.Cond.methodLink "TracePeaks$State" (112 : Nat) ({ cls := "TracePeaks$State", name := "less", desc := "()I" } : Jvm.MethodName)) ∈ lw_all := lw_g (lw_at lw_m5 16 rfl) rfl
theorem q1096 : (Jvm.Cond.privateMethod ({ cls := "TracePeaks$State", name := "less", desc := "()I" } : Jvm.MethodName)) ∈ lw_tbl := lw_at lw_m5 17 rfl
theorem q1097 : (Jvm.Cond.instanceMethod ({ cls := "TracePeaks$State", name := "less", desc := "()I" } : Jvm.MethodName)) ∈ lw_all := lw_g (lw_at lw_m5 18 rfl) rfl
theorem q1098 : (Jvm.Cond.code ({ cls := "TracePeaks$State", name := "less", desc := "()I" } : Jvm.MethodName) prog_13_method_11_code (3 : Nat) (Option.some Jvm.ClassFile.FieldType.int)) ∈ lw_all := lw_g (lw_at lw_m5 19 rfl) rfl
theorem q1099 : (Jvm.Cond.methodLink "TracePeaks$State" (181 : Nat) ({ cls := "TracePeaks$State", name := "turns", desc := "()I" } : Jvm.MethodName)) ∈ lw_all := lw_g (lw_at lw_m5 20 rfl) rfl
theorem q1100 : (Jvm.Cond.instanceMethod ({ cls := "TracePeaks$State", name := "turns", desc := "()I" } : Jvm.MethodName)) ∈ lw_all := lw_g (lw_at lw_m5 21 rfl) rfl
theorem q1101 : (Jvm.Cond.selects "TracePeaks$State" ({ cls := "TracePeaks$State", name := "turns", desc := "()I" } : Jvm.MethodName) ({ cls := "TracePeaks$State", name := "turns", desc := "()I" } : Jvm.MethodName)) ∈ lw_all := lw_g (lw_at lw_m5 22 rfl) rfl
theorem q1102 : (Jvm.Cond.code ({ cls := "TracePeaks$State", name := "turns", desc := "()I" } : Jvm.MethodName) prog_13_method_15_code (2 : Nat) (Option.some Jvm.ClassFile.FieldType.int)) ∈ lw_all := lw_g (lw_at lw_m5 23 rfl) rfl
theorem q1103 : (Jvm.Cond.methodLink "TracePeaks$State" (184 : Nat) ({ cls := "TracePeaks$State", name := "clips", desc := "(I)I" } : Jvm.MethodName)) ∈ lw_all := lw_g (lw_at lw_m5 24 rfl) rfl
theorem q1104 : (Jvm.Cond.instanceMethod ({ cls := "TracePeaks$State", name := "clips", desc := "(I)I" } : Jvm.MethodName)) ∈ lw_all := lw_g (lw_at lw_m5 25 rfl) rfl
theorem q1105 : (Jvm.Cond.selects "TracePeaks$State" ({ cls := "TracePeaks$State", name := "clips", desc := "(I)I" } : Jvm.MethodName) ({ cls := "TracePeaks$State", name := "clips", desc := "(I)I" } : Jvm.MethodName)) ∈ lw_all := lw_g (lw_at lw_m5 26 rfl) rfl
theorem q1106 : (Jvm.Cond.code ({ cls := "TracePeaks$State", name := "clips", desc := "(I)I" } : Jvm.MethodName) prog_13_method_16_code (2 : Nat) (Option.some Jvm.ClassFile.FieldType.int)) ∈ lw_all := lw_g (lw_at lw_m5 27 rfl) rfl
theorem q1107 : (Jvm.Cond.constantLong "TracePeaks$State" (131 : Nat) (999 : Int64)) ∈ lw_all := lw_g (lw_at lw_m5 28 rfl) rfl
theorem q1108 : (Jvm.Cond.methodLinkNest "TracePeaks$State" (70 : Nat) ({ cls := "TracePeaks", name := "isIn", desc := "(JJJ)Z" } : Jvm.MethodName) "TracePeaks") ∈ lw_tbl := lw_at lw_m5 29 rfl
theorem q1109 : (Jvm.Cond.methodLink "TracePeaks$State" (143 : Nat) ({ cls := "TracePeaks$State", name := "changes", desc := "(LTracePeaks$Change;II)V" } : Jvm.MethodName)) ∈ lw_all := lw_g (lw_at lw_m5 30 rfl) rfl
theorem q1110 : (Jvm.Cond.privateMethod ({ cls := "TracePeaks$State", name := "changes", desc := "(LTracePeaks$Change;II)V" } : Jvm.MethodName)) ∈ lw_tbl := lw_at lw_m5 31 rfl
theorem q1111 : (Jvm.Cond.instanceMethod ({ cls := "TracePeaks$State", name := "changes", desc := "(LTracePeaks$Change;II)V" } : Jvm.MethodName)) ∈ lw_all := lw_g (lw_at lw_m5 32 rfl) rfl
theorem q1112 : (Jvm.Cond.code ({ cls := "TracePeaks$State", name := "changes", desc := "(LTracePeaks$Change;II)V" } : Jvm.MethodName) prog_13_method_10_code (5 : Nat) (Option.none : Option Jvm.ClassFile.FieldType)) ∈ lw_all := lw_g (lw_at lw_m5 33 rfl) rfl
theorem q1113 : (Jvm.Cond.interfaceEntry "TracePeaks$State" (95 : Nat)) ∈ lw_tbl := lw_at lw_m5 34 rfl
theorem q1114 : (Jvm.Cond.methodLink "TracePeaks$State" (95 : Nat) ({ cls := "TracePeaks$Change", name := "of", desc := "(III)I" } : Jvm.MethodName)) ∈ lw_all := lw_g (lw_at lw_m5 35 rfl) rfl
theorem q1117 : (Jvm.Cond.methodLink "TracePeaks$State" (187 : Nat) ({ cls := "TracePeaks$State", name := "lifts", desc := "(I)I" } : Jvm.MethodName)) ∈ lw_all := lw_g (lw_at lw_m5 38 rfl) rfl
theorem q1118 : (Jvm.Cond.instanceMethod ({ cls := "TracePeaks$State", name := "lifts", desc := "(I)I" } : Jvm.MethodName)) ∈ lw_all := lw_g (lw_at lw_m5 39 rfl) rfl
theorem q1119 : (Jvm.Cond.selects "TracePeaks$State" ({ cls := "TracePeaks$State", name := "lifts", desc := "(I)I" } : Jvm.MethodName) ({ cls := "TracePeaks$State", name := "lifts", desc := "(I)I" } : Jvm.MethodName)) ∈ lw_all := lw_g (lw_at lw_m5 40 rfl) rfl
theorem q1120 : (Jvm.Cond.code ({ cls := "TracePeaks$State", name := "lifts", desc := "(I)I" } : Jvm.MethodName) prog_13_method_17_code (2 : Nat) (Option.some Jvm.ClassFile.FieldType.int)) ∈ lw_all := lw_g (lw_at lw_m5 41 rfl) rfl
theorem q1121 : (Jvm.Cond.constantLong "TracePeaks$State" (147 : Nat) (-999 : Int64)) ∈ lw_all := lw_g (lw_at lw_m5 42 rfl) rfl
theorem q1122 : (Jvm.Cond.methodLink "TracePeaks$State" (190 : Nat) ({ cls := "TracePeaks$State", name := "scales", desc := "(II)I" } : Jvm.MethodName)) ∈ lw_all := lw_g (lw_at lw_m5 43 rfl) rfl
theorem q1123 : (Jvm.Cond.instanceMethod ({ cls := "TracePeaks$State", name := "scales", desc := "(II)I" } : Jvm.MethodName)) ∈ lw_all := lw_g (lw_at lw_m5 44 rfl) rfl
theorem q1124 : (Jvm.Cond.selects "TracePeaks$State" ({ cls := "TracePeaks$State", name := "scales", desc := "(II)I" } : Jvm.MethodName) ({ cls := "TracePeaks$State", name := "scales", desc := "(II)I" } : Jvm.MethodName)) ∈ lw_all := lw_g (lw_at lw_m5 45 rfl) rfl
theorem q1125 : (Jvm.Cond.code ({ cls := "TracePeaks$State", name := "scales", desc := "(II)I" } : Jvm.MethodName) prog_13_method_18_code (3 : Nat) (Option.some Jvm.ClassFile.FieldType.int)) ∈ lw_all := lw_g (lw_at lw_m5 46 rfl) rfl
theorem q1126 : (Jvm.Cond.constantLong "TracePeaks$State" (152 : Nat) (99 : Int64)) ∈ lw_all := lw_g (lw_at lw_m5 47 rfl) rfl
theorem q1132 : (Jvm.Cond.methodLink "TracePeaks$State" (193 : Nat) ({ cls := "TracePeaks$State", name := "sets", desc := "(II)I" } : Jvm.MethodName)) ∈ lw_all := lw_g (lw_at lw_m5 53 rfl) rfl
theorem q1133 : (Jvm.Cond.instanceMethod ({ cls := "TracePeaks$State", name := "sets", desc := "(II)I" } : Jvm.MethodName)) ∈ lw_all := lw_g (lw_at lw_m5 54 rfl) rfl
theorem q1134 : (Jvm.Cond.selects "TracePeaks$State" ({ cls := "TracePeaks$State", name := "sets", desc := "(II)I" } : Jvm.MethodName) ({ cls := "TracePeaks$State", name := "sets", desc := "(II)I" } : Jvm.MethodName)) ∈ lw_all := lw_g (lw_at lw_m5 55 rfl) rfl
theorem q1135 : (Jvm.Cond.code ({ cls := "TracePeaks$State", name := "sets", desc := "(II)I" } : Jvm.MethodName) prog_13_method_19_code (4 : Nat) (Option.some Jvm.ClassFile.FieldType.int)) ∈ lw_all := lw_g (lw_at lw_m5 56 rfl) rfl
theorem q1136 : (Jvm.Cond.methodLink "TracePeaks$State" (157 : Nat) ({ cls := "TracePeaks$State", name := "isPlace", desc := "(I)Z" } : Jvm.MethodName)) ∈ lw_all := lw_g (lw_at lw_m5 57 rfl) rfl
theorem q1137 : (Jvm.Cond.instanceMethod ({ cls := "TracePeaks$State", name := "isPlace", desc := "(I)Z" } : Jvm.MethodName)) ∈ lw_all := lw_g (lw_at lw_m5 58 rfl) rfl
theorem q1138 : (Jvm.Cond.selects "TracePeaks$State" ({ cls := "TracePeaks$State", name := "isPlace", desc := "(I)Z" } : Jvm.MethodName) ({ cls := "TracePeaks$State", name := "isPlace", desc := "(I)Z" } : Jvm.MethodName)) ∈ lw_all := lw_g (lw_at lw_m5 59 rfl) rfl
theorem q1139 : (Jvm.Cond.code ({ cls := "TracePeaks$State", name := "isPlace", desc := "(I)Z" } : Jvm.MethodName) prog_13_method_8_code (2 : Nat) (Option.some Jvm.ClassFile.FieldType.boolean)) ∈ lw_all := lw_g (lw_at lw_m5 60 rfl) rfl
theorem q1140 : (Jvm.Cond.methodLink "TracePeaks$State" (196 : Nat) ({ cls := "TracePeaks$State", name := "hushes", desc := "(I)I" } : Jvm.MethodName)) ∈ lw_all := lw_g (lw_at lw_m5 61 rfl) rfl
theorem q1141 : (Jvm.Cond.instanceMethod ({ cls := "TracePeaks$State", name := "hushes", desc := "(I)I" } : Jvm.MethodName)) ∈ lw_all := lw_g (lw_at lw_m5 62 rfl) rfl
theorem q1142 : (Jvm.Cond.selects "TracePeaks$State" ({ cls := "TracePeaks$State", name := "hushes", desc := "(I)I" } : Jvm.MethodName) ({ cls := "TracePeaks$State", name := "hushes", desc := "(I)I" } : Jvm.MethodName)) ∈ lw_all := lw_g (lw_at lw_m5 63 rfl) rfl
theorem q1143 : (Jvm.Cond.code ({ cls := "TracePeaks$State", name := "hushes", desc := "(I)I" } : Jvm.MethodName) prog_13_method_20_code (3 : Nat) (Option.some Jvm.ClassFile.FieldType.int)) ∈ lw_all := lw_g (lw_at lw_m5 64 rfl) rfl
theorem q1144 : (Jvm.Cond.methodLink "TracePeaks$State" (199 : Nat) ({ cls := "TracePeaks$State", name := "cuts", desc := "(II)I" } : Jvm.MethodName)) ∈ lw_all := lw_g (lw_at lw_m5 65 rfl) rfl
theorem q1145 : (Jvm.Cond.instanceMethod ({ cls := "TracePeaks$State", name := "cuts", desc := "(II)I" } : Jvm.MethodName)) ∈ lw_all := lw_g (lw_at lw_m5 66 rfl) rfl
theorem q1146 : (Jvm.Cond.selects "TracePeaks$State" ({ cls := "TracePeaks$State", name := "cuts", desc := "(II)I" } : Jvm.MethodName) ({ cls := "TracePeaks$State", name := "cuts", desc := "(II)I" } : Jvm.MethodName)) ∈ lw_all := lw_g (lw_at lw_m5 67 rfl) rfl
theorem q1147 : (Jvm.Cond.code ({ cls := "TracePeaks$State", name := "cuts", desc := "(II)I" } : Jvm.MethodName) prog_13_method_21_code (4 : Nat) (Option.some Jvm.ClassFile.FieldType.int)) ∈ lw_all := lw_g (lw_at lw_m5 68 rfl) rfl
theorem q1148 : (Jvm.Cond.methodLink "TracePeaks$State" (161 : Nat) ({ cls := "TracePeaks$Samples", name := "add", desc := "(I)V" } : Jvm.MethodName)) ∈ lw_all := lw_g (lw_at lw_m5 69 rfl) rfl
theorem q1152 : (Jvm.Cond.instanceMethod ({ cls := "TracePeaks$State", name := "notes", desc := "(III)V" } : Jvm.MethodName)) ∈ lw_all := lw_g (lw_at lw_m5 73 rfl) rfl
theorem q1153 : (Jvm.Cond.selects "TracePeaks$State" ({ cls := "TracePeaks$State", name := "notes", desc := "(III)V" } : Jvm.MethodName) ({ cls := "TracePeaks$State", name := "notes", desc := "(III)V" } : Jvm.MethodName)) ∈ lw_all := lw_g (lw_at lw_m5 74 rfl) rfl
theorem q1154 : (Jvm.Cond.code ({ cls := "TracePeaks$State", name := "notes", desc := "(III)V" } : Jvm.MethodName) prog_13_method_5_code (4 : Nat) (Option.none : Option Jvm.ClassFile.FieldType)) ∈ lw_all := lw_g (lw_at lw_m5 75 rfl) rfl
theorem q1450 : (Jvm.Cond.selects "TracePeaks$State" ({ cls := "java/lang/Object", name := "toString", desc := "()Ljava/lang/String;" } : Jvm.MethodName) ({ cls := "java/lang/Object", name := "toString", desc := "()Ljava/lang/String;" } : Jvm.MethodName)) ∈ lw_all := lw_g (lw_at lw_m6 131 rfl) rfl
theorem q1466 : (Jvm.Cond.selects "TracePeaks$State" ({ cls := "java/lang/Object", name := "getClass", desc := "()Ljava/lang/Class;" } : Jvm.MethodName) ({ cls := "java/lang/Object", name := "getClass", desc := "()Ljava/lang/Class;" } : Jvm.MethodName)) ∈ lw_all := lw_g (lw_at lw_m6 147 rfl) rfl
theorem q2366 : (Jvm.Cond.castable "TracePeaks$State" "java/lang/Object") ∈ lw_tbl := lw_at lw_m10 87 rfl
theorem in_X8 : ∀ w ∈ wsX80, w ∈ lw_all := lw_in wsX80 [349, 351, 353, 355, 357, 359] (by decide +kernel) (by decide +kernel)
def RX9 : String := "TracePeaksModel"
def TX9 : u_T := fun k => match k with
  | 0 => ("TracePeaksModel", "thrown", "I", false)
  | 1 => ("TracePeaksModel", "tape", "[I", true)
  | 2 => ("TracePeaksModel", "taped", "I", false)
  | 3 => ("TracePeaksModel", "at", "I", false)
  | 4 => ("TracePeaksModel", "part", "I", false)
  | 5 => ("TracePeaksModel", "partFrom", "I", false)
  | 6 => ("TracePeaksModel", "partNumber", "I", false)
  | 7 => ("TracePeaksModel", "partLong", "I", false)
  | 8 => ("TracePeaksModel", "wrong", "I", false)
  | 9 => ("TracePeaksModel", "partWord", "J", false)
  | 10 => ("TracePeaksModel", "isMinus", "Z", false)
  | 11 => ("TracePeaksModel", "readSample", "[I", true)
  | 12 => ("TracePeaksModel", "readPlace", "[I", true)
  | 13 => ("TracePeaksModel", "readLong", "[I", true)
  | 14 => ("TracePeaksModel", "readName", "[J", true)
  | 15 => ("TracePeaksModel", "readMany", "I", false)
  | 16 => ("TracePeaksModel", "readLines", "I", false)
  | 17 => ("TracePeaksModel", "readNoise", "I", false)
  | 18 => ("TracePeaksModel", "readReach", "I", false)
  | 19 => ("TracePeaksModel", "script", "[I", true)
  | 20 => ("TracePeaksModel", "scriptLong", "[I", true)
  | 21 => ("TracePeaksModel", "scripts", "I", false)
  | 22 => ("TracePeaksModel", "now", "[I", true)
  | 23 => ("TracePeaksModel", "refused", "[I", true)
  | 24 => ("TracePeaksModel", "linePlace", "[I", true)
  | 25 => ("TracePeaksModel", "lineLong", "[I", true)
  | 26 => ("TracePeaksModel", "lineName", "[J", true)
  | 27 => ("TracePeaksModel", "lines", "I", false)
  | 28 => ("TracePeaksModel", "reach", "I", false)
  | 29 => ("TracePeaksModel", "isTrace", "Z", false)
  | 30 => ("TracePeaksModel", "place", "[I", true)
  | 31 => ("TracePeaksModel", "valley", "[I", true)
  | 32 => ("TracePeaksModel", "death", "[I", true)
  | 33 => ("TracePeaksModel", "parent", "[I", true)
  | 34 => ("TracePeaksModel", "belongs", "[I", true)
  | 35 => ("TracePeaksModel", "came", "I", false)
  | 36 => ("TracePeaksModel", "which", "[I", true)
  | 37 => ("TracePeaksModel", "numberOf", "[I", true)
  | 38 => ("TracePeaksModel", "kept", "I", false)
  | 39 => ("TracePeaksModel", "lineOf", "[I", true)
  | 40 => ("TracePeaksModel", "takenBy", "[I", true)
  | 41 => ("TracePeaksModel", "taken", "I", false)
  | 42 => ("TracePeaksModel", "was", "[I", true)
  | 43 => ("TracePeaksModel", "held", "[I", true)
  | 44 => ("TracePeaksModel", "acts", "I", false)
  | 45 => ("TracePeaksModel", "drawn", "J", false)
  | 46 => ("TracePeaksModel", "image", "[I", true)
  | 47 => ("TracePeaksModel", "hasImage", "Z", false)
  | 48 => ("TracePeaksModel", "aside", "[I", true)
  | 49 => ("TracePeaksModel", "lives", "[I", true)
  | 50 => ("TracePeaksModel", "spelled", "[I", true)
  | _ => ("TracePeaksModel", "spelledMany", "I", false)
def tyX9 : Nat → FieldType := fun k => match k with
  | 0 => .int
  | 1 => .array .int
  | 2 => .int
  | 3 => .int
  | 4 => .int
  | 5 => .int
  | 6 => .int
  | 7 => .int
  | 8 => .int
  | 9 => .long
  | 10 => .boolean
  | 11 => .array .int
  | 12 => .array .int
  | 13 => .array .int
  | 14 => .array .long
  | 15 => .int
  | 16 => .int
  | 17 => .int
  | 18 => .int
  | 19 => .array .int
  | 20 => .array .int
  | 21 => .int
  | 22 => .array .int
  | 23 => .array .int
  | 24 => .array .int
  | 25 => .array .int
  | 26 => .array .long
  | 27 => .int
  | 28 => .int
  | 29 => .boolean
  | 30 => .array .int
  | 31 => .array .int
  | 32 => .array .int
  | 33 => .array .int
  | 34 => .array .int
  | 35 => .int
  | 36 => .array .int
  | 37 => .array .int
  | 38 => .int
  | 39 => .array .int
  | 40 => .array .int
  | 41 => .int
  | 42 => .array .int
  | 43 => .array .int
  | 44 => .int
  | 45 => .long
  | 46 => .array .int
  | 47 => .boolean
  | 48 => .array .int
  | 49 => .array .int
  | 50 => .array .int
  | _ => .int
abbrev wsX90 : List Cond := u_ws RX9 TX9 52
theorem nmX9 : ∀ a, a < 52 → ∀ b, b < 52 → a ≠ b → (TX9 a).2.1 ≠ (TX9 b).2.1 := by decide +kernel
theorem tyX9_ok : ∀ k, k < 52 → parseFieldDescriptor (TX9 k).2.2.1 = some (tyX9 k) := by decide +kernel
abbrev cX9_init : ByteArray := prog_17_method_4_code
def yX9_init : MethodName := ⟨RX9, "<init>", "()V"⟩
abbrev cX9_thrown : ByteArray := prog_17_method_5_code
def yX9_thrown : MethodName := ⟨RX9, "thrown", "()I"⟩
abbrev cX9_feed : ByteArray := prog_17_method_7_code
def yX9_feed : MethodName := ⟨RX9, "feed", "(IIIII)I"⟩
abbrev cX9_byteOf : ByteArray := prog_17_method_6_code
def yX9_byteOf : MethodName := ⟨RX9, "byteOf", "(IIIIII)I"⟩
abbrev cX9_end : ByteArray := prog_17_method_8_code
def yX9_end : MethodName := ⟨RX9, "end", "(I)Z"⟩
abbrev cX9_in : ByteArray := prog_17_method_1_code
def yX9_in : MethodName := ⟨RX9, "in", "(III)Z"⟩
abbrev cX9_fault : ByteArray := prog_17_method_28_code
def yX9_fault : MethodName := ⟨RX9, "fault", "(I)I"⟩
abbrev cX9_readTrace : ByteArray := prog_17_method_23_code
def yX9_readTrace : MethodName := ⟨RX9, "readTrace", "()I"⟩
abbrev cX9_begins : ByteArray := prog_17_method_22_code
def yX9_begins : MethodName := ⟨RX9, "begins", "()V"⟩
abbrev cX9_next : ByteArray := prog_17_method_14_code
def yX9_next : MethodName := ⟨RX9, "next", "()V"⟩
abbrev cX9_here : ByteArray := prog_17_method_9_code
def yX9_here : MethodName := ⟨RX9, "here", "()I"⟩
abbrev cX9_isLetter : ByteArray := prog_17_method_11_code
def yX9_isLetter : MethodName := ⟨RX9, "isLetter", "(I)Z"⟩
abbrev cX9_readWord : ByteArray := prog_17_method_12_code
def yX9_readWord : MethodName := ⟨RX9, "readWord", "()V"⟩
abbrev cX9_isDigit : ByteArray := prog_17_method_10_code
def yX9_isDigit : MethodName := ⟨RX9, "isDigit", "(I)Z"⟩
abbrev cX9_readNumber : ByteArray := prog_17_method_13_code
def yX9_readNumber : MethodName := ⟨RX9, "readNumber", "()V"⟩
abbrev cX9_clause : ByteArray := prog_17_method_21_code
def yX9_clause : MethodName := ⟨RX9, "clause", "(I)I"⟩
abbrev cX9_isWord : ByteArray := prog_17_method_16_code
def yX9_isWord : MethodName := ⟨RX9, "isWord", "(J)Z"⟩
abbrev cX9_has : ByteArray := prog_17_method_2_code
def yX9_has : MethodName := ⟨RX9, "has", "(II)Z"⟩
abbrev cX9_bad : ByteArray := prog_17_method_17_code
def yX9_bad : MethodName := ⟨RX9, "bad", "()V"⟩
abbrev cX9_readSamples : ByteArray := prog_17_method_19_code
def yX9_readSamples : MethodName := ⟨RX9, "readSamples", "()V"⟩
abbrev cX9_number : ByteArray := prog_17_method_18_code
def yX9_number : MethodName := ⟨RX9, "number", "(II)I"⟩
abbrev cX9_readLine : ByteArray := prog_17_method_20_code
def yX9_readLine : MethodName := ⟨RX9, "readLine", "()V"⟩
abbrev cX9_readScript : ByteArray := prog_17_method_27_code
def yX9_readScript : MethodName := ⟨RX9, "readScript", "(I)I"⟩
abbrev cX9_readStep : ByteArray := prog_17_method_26_code
def yX9_readStep : MethodName := ⟨RX9, "readStep", "(I)V"⟩
abbrev cX9_wordOf : ByteArray := prog_17_method_24_code
def yX9_wordOf : MethodName := ⟨RX9, "wordOf", "(I)J"⟩
abbrev cX9_numbersOf : ByteArray := prog_17_method_25_code
def yX9_numbersOf : MethodName := ⟨RX9, "numbersOf", "(I)I"⟩
abbrev cX9_text : ByteArray := prog_17_method_32_code
def yX9_text : MethodName := ⟨RX9, "text", "(I)I"⟩
abbrev cX9_takeTrace : ByteArray := prog_17_method_31_code
def yX9_takeTrace : MethodName := ⟨RX9, "takeTrace", "()I"⟩
abbrev cX9_many : ByteArray := prog_17_method_29_code
def yX9_many : MethodName := ⟨RX9, "many", "()I"⟩
abbrev cX9_smooth : ByteArray := prog_17_method_74_code
def yX9_smooth : MethodName := ⟨RX9, "smooth", "()I"⟩
abbrev cX9_hand : ByteArray := prog_17_method_73_code
def yX9_hand : MethodName := ⟨RX9, "hand", "(III)I"⟩
abbrev cX9_whyNot : ByteArray := prog_17_method_68_code
def yX9_whyNot : MethodName := ⟨RX9, "whyNot", "(III)I"⟩
abbrev cX9_isPlace : ByteArray := prog_17_method_30_code
def yX9_isPlace : MethodName := ⟨RX9, "isPlace", "(I)Z"⟩
abbrev cX9_act : ByteArray := prog_17_method_72_code
def yX9_act : MethodName := ⟨RX9, "act", "(III)I"⟩
abbrev cX9_keep : ByteArray := prog_17_method_70_code
def yX9_keep : MethodName := ⟨RX9, "keep", "()V"⟩
abbrev cX9_doNow : ByteArray := prog_17_method_69_code
def yX9_doNow : MethodName := ⟨RX9, "doNow", "(III)I"⟩
abbrev cX9_blends : ByteArray := prog_17_method_57_code
def yX9_blends : MethodName := ⟨RX9, "blends", "(Z)V"⟩
abbrev cX9_keepWas : ByteArray := prog_17_method_55_code
def yX9_keepWas : MethodName := ⟨RX9, "keepWas", "()V"⟩
abbrev cX9_middle : ByteArray := prog_17_method_56_code
def yX9_middle : MethodName := ⟨RX9, "middle", "(III)I"⟩
abbrev cX9_keptNow : ByteArray := prog_17_method_67_code
def yX9_keptNow : MethodName := ⟨RX9, "keptNow", "()I"⟩
abbrev cX9_finds : ByteArray := prog_17_method_41_code
def yX9_finds : MethodName := ⟨RX9, "finds", "()V"⟩
abbrev cX9_lets : ByteArray := prog_17_method_39_code
def yX9_lets : MethodName := ⟨RX9, "lets", "()V"⟩
abbrev cX9_nextBehind : ByteArray := prog_17_method_34_code
def yX9_nextBehind : MethodName := ⟨RX9, "nextBehind", "(I)I"⟩
abbrev cX9_isAhead : ByteArray := prog_17_method_33_code
def yX9_isAhead : MethodName := ⟨RX9, "isAhead", "(II)Z"⟩
abbrev cX9_belongsAt : ByteArray := prog_17_method_35_code
def yX9_belongsAt : MethodName := ⟨RX9, "belongsAt", "(I)I"⟩
abbrev cX9_beginsAt : ByteArray := prog_17_method_36_code
def yX9_beginsAt : MethodName := ⟨RX9, "beginsAt", "(I)V"⟩
abbrev cX9_joins : ByteArray := prog_17_method_37_code
def yX9_joins : MethodName := ⟨RX9, "joins", "(III)V"⟩
abbrev cX9_least : ByteArray := prog_17_method_38_code
def yX9_least : MethodName := ⟨RX9, "least", "()I"⟩
abbrev cX9_lifeOf : ByteArray := prog_17_method_40_code
def yX9_lifeOf : MethodName := ⟨RX9, "lifeOf", "(I)I"⟩
abbrev cX9_matches : ByteArray := prog_17_method_46_code
def yX9_matches : MethodName := ⟨RX9, "matches", "(I)V"⟩
abbrev cX9_placeOf : ByteArray := prog_17_method_42_code
def yX9_placeOf : MethodName := ⟨RX9, "placeOf", "(I)I"⟩
abbrev cX9_apart : ByteArray := prog_17_method_3_code
def yX9_apart : MethodName := ⟨RX9, "apart", "(II)I"⟩
abbrev cX9_flattens : ByteArray := prog_17_method_59_code
def yX9_flattens : MethodName := ⟨RX9, "flattens", "()I"⟩
abbrev cX9_fell : ByteArray := prog_17_method_58_code
def yX9_fell : MethodName := ⟨RX9, "fell", "()I"⟩
abbrev cX9_turns : ByteArray := prog_17_method_61_code
def yX9_turns : MethodName := ⟨RX9, "turns", "()I"⟩
abbrev cX9_clips : ByteArray := prog_17_method_60_code
def yX9_clips : MethodName := ⟨RX9, "clips", "(I)I"⟩
abbrev cX9_lifts : ByteArray := prog_17_method_62_code
def yX9_lifts : MethodName := ⟨RX9, "lifts", "(I)I"⟩
abbrev cX9_scales : ByteArray := prog_17_method_64_code
def yX9_scales : MethodName := ⟨RX9, "scales", "(II)I"⟩
abbrev cX9_greatest : ByteArray := prog_17_method_63_code
def yX9_greatest : MethodName := ⟨RX9, "greatest", "()I"⟩
abbrev cX9_sets : ByteArray := prog_17_method_65_code
def yX9_sets : MethodName := ⟨RX9, "sets", "(II)I"⟩
abbrev cX9_cuts : ByteArray := prog_17_method_66_code
def yX9_cuts : MethodName := ⟨RX9, "cuts", "(II)I"⟩
abbrev cX9_note : ByteArray := prog_17_method_71_code
def yX9_note : MethodName := ⟨RX9, "note", "(II)V"⟩
abbrev cX9_median : ByteArray := prog_17_method_75_code
def yX9_median : MethodName := ⟨RX9, "median", "()I"⟩
abbrev cX9_flat : ByteArray := prog_17_method_76_code
def yX9_flat : MethodName := ⟨RX9, "flat", "()I"⟩
abbrev cX9_turn : ByteArray := prog_17_method_77_code
def yX9_turn : MethodName := ⟨RX9, "turn", "()I"⟩
abbrev cX9_clip : ByteArray := prog_17_method_78_code
def yX9_clip : MethodName := ⟨RX9, "clip", "(I)I"⟩
abbrev cX9_lift : ByteArray := prog_17_method_79_code
def yX9_lift : MethodName := ⟨RX9, "lift", "(I)I"⟩
abbrev cX9_scale : ByteArray := prog_17_method_80_code
def yX9_scale : MethodName := ⟨RX9, "scale", "(II)I"⟩
abbrev cX9_set : ByteArray := prog_17_method_81_code
def yX9_set : MethodName := ⟨RX9, "set", "(II)I"⟩
abbrev cX9_noise : ByteArray := prog_17_method_82_code
def yX9_noise : MethodName := ⟨RX9, "noise", "(I)I"⟩
abbrev cX9_cut : ByteArray := prog_17_method_83_code
def yX9_cut : MethodName := ⟨RX9, "cut", "(II)I"⟩
abbrev cX9_ways : ByteArray := prog_17_method_86_code
def yX9_ways : MethodName := ⟨RX9, "ways", "(IJ)I"⟩
abbrev cX9_drawWay : ByteArray := prog_17_method_85_code
def yX9_drawWay : MethodName := ⟨RX9, "drawWay", "()V"⟩
abbrev cX9_draw : ByteArray := prog_17_method_84_code
def yX9_draw : MethodName := ⟨RX9, "draw", "(I)I"⟩
abbrev cX9_status : ByteArray := prog_17_method_87_code
def yX9_status : MethodName := ⟨RX9, "status", "(I)I"⟩
abbrev cX9_undo : ByteArray := prog_17_method_88_code
def yX9_undo : MethodName := ⟨RX9, "undo", "()I"⟩
abbrev cX9_log : ByteArray := prog_17_method_89_code
def yX9_log : MethodName := ⟨RX9, "log", "(II)I"⟩
abbrev cX9_rule : ByteArray := prog_17_method_90_code
def yX9_rule : MethodName := ⟨RX9, "rule", "(I)I"⟩
abbrev cX9_sumOf : ByteArray := prog_17_method_91_code
def yX9_sumOf : MethodName := ⟨RX9, "sumOf", "()I"⟩
abbrev cX9_sample : ByteArray := prog_17_method_92_code
def yX9_sample : MethodName := ⟨RX9, "sample", "(I)I"⟩
abbrev cX9_peak : ByteArray := prog_17_method_94_code
def yX9_peak : MethodName := ⟨RX9, "peak", "(II)I"⟩
abbrev cX9_isPeak : ByteArray := prog_17_method_93_code
def yX9_isPeak : MethodName := ⟨RX9, "isPeak", "(I)Z"⟩
abbrev cX9_height : ByteArray := prog_17_method_43_code
def yX9_height : MethodName := ⟨RX9, "height", "(I)I"⟩
abbrev cX9_life : ByteArray := prog_17_method_44_code
def yX9_life : MethodName := ⟨RX9, "life", "(I)I"⟩
abbrev cX9_isKept : ByteArray := prog_17_method_45_code
def yX9_isKept : MethodName := ⟨RX9, "isKept", "(I)Z"⟩
abbrev cX9_generationOf : ByteArray := prog_17_method_54_code
def yX9_generationOf : MethodName := ⟨RX9, "generationOf", "(I)I"⟩
abbrev cX9_basin : ByteArray := prog_17_method_95_code
def yX9_basin : MethodName := ⟨RX9, "basin", "(II)I"⟩
abbrev cX9_firstOf : ByteArray := prog_17_method_49_code
def yX9_firstOf : MethodName := ⟨RX9, "firstOf", "(I)I"⟩
abbrev cX9_beside : ByteArray := prog_17_method_47_code
def yX9_beside : MethodName := ⟨RX9, "beside", "(II)I"⟩
abbrev cX9_lowBetween : ByteArray := prog_17_method_48_code
def yX9_lowBetween : MethodName := ⟨RX9, "lowBetween", "(II)I"⟩
abbrev cX9_lastOf : ByteArray := prog_17_method_50_code
def yX9_lastOf : MethodName := ⟨RX9, "lastOf", "(I)I"⟩
abbrev cX9_areaOf : ByteArray := prog_17_method_51_code
def yX9_areaOf : MethodName := ⟨RX9, "areaOf", "(I)I"⟩
abbrev cX9_widthOf : ByteArray := prog_17_method_53_code
def yX9_widthOf : MethodName := ⟨RX9, "widthOf", "(I)I"⟩
abbrev cX9_around : ByteArray := prog_17_method_52_code
def yX9_around : MethodName := ⟨RX9, "around", "(II)I"⟩
abbrev cX9_at : ByteArray := prog_17_method_96_code
def yX9_at : MethodName := ⟨RX9, "at", "(II)I"⟩
abbrev cX9_line : ByteArray := prog_17_method_97_code
def yX9_line : MethodName := ⟨RX9, "line", "(II)I"⟩
abbrev cX9_noiseFor : ByteArray := prog_17_method_98_code
def yX9_noiseFor : MethodName := ⟨RX9, "noiseFor", "(I)I"⟩
abbrev cX9_pieces : ByteArray := prog_17_method_99_code
def yX9_pieces : MethodName := ⟨RX9, "pieces", "(I)I"⟩
abbrev cX9_room : ByteArray := prog_17_method_101_code
def yX9_room : MethodName := ⟨RX9, "room", "(I)I"⟩
abbrev cX9_keptBy : ByteArray := prog_17_method_100_code
def yX9_keptBy : MethodName := ⟨RX9, "keptBy", "(I)I"⟩
abbrev cX9_image : ByteArray := prog_17_method_102_code
def yX9_image : MethodName := ⟨RX9, "image", "()I"⟩
abbrev cX9_back : ByteArray := prog_17_method_103_code
def yX9_back : MethodName := ⟨RX9, "back", "()I"⟩
abbrev cX9_unlike : ByteArray := prog_17_method_106_code
def yX9_unlike : MethodName := ⟨RX9, "unlike", "()I"⟩
abbrev cX9_putAside : ByteArray := prog_17_method_104_code
def yX9_putAside : MethodName := ⟨RX9, "putAside", "()V"⟩
abbrev cX9_bringBack : ByteArray := prog_17_method_105_code
def yX9_bringBack : MethodName := ⟨RX9, "bringBack", "()V"⟩
abbrev cX9_shift : ByteArray := prog_17_method_107_code
def yX9_shift : MethodName := ⟨RX9, "shift", "(I)I"⟩
abbrev cX9_missed : ByteArray := prog_17_method_109_code
def yX9_missed : MethodName := ⟨RX9, "missed", "()I"⟩
abbrev cX9_matched : ByteArray := prog_17_method_108_code
def yX9_matched : MethodName := ⟨RX9, "matched", "()I"⟩
abbrev cX9_would : ByteArray := prog_17_method_110_code
def yX9_would : MethodName := ⟨RX9, "would", "(III)I"⟩
abbrev cX9_solo : ByteArray := prog_17_method_112_code
def yX9_solo : MethodName := ⟨RX9, "solo", "()I"⟩
abbrev cX9_tallestOf : ByteArray := prog_17_method_111_code
def yX9_tallestOf : MethodName := ⟨RX9, "tallestOf", "(I)I"⟩
abbrev cX9_tallest : ByteArray := prog_17_method_113_code
def yX9_tallest : MethodName := ⟨RX9, "tallest", "(I)I"⟩
abbrev cX9_change : ByteArray := prog_17_method_114_code
def yX9_change : MethodName := ⟨RX9, "change", "(I)I"⟩
abbrev cX9_spell : ByteArray := prog_17_method_118_code
def yX9_spell : MethodName := ⟨RX9, "spell", "(II)I"⟩
abbrev cX9_spellsName : ByteArray := prog_17_method_117_code
def yX9_spellsName : MethodName := ⟨RX9, "spellsName", "(I)V"⟩
abbrev cX9_spells : ByteArray := prog_17_method_115_code
def yX9_spells : MethodName := ⟨RX9, "spells", "(I)V"⟩
abbrev cX9_spellsNumber : ByteArray := prog_17_method_116_code
def yX9_spellsNumber : MethodName := ⟨RX9, "spellsNumber", "(I)V"⟩
abbrev cX9_step : ByteArray := prog_17_method_120_code
def yX9_step : MethodName := ⟨RX9, "step", "(III)I"⟩
abbrev cX9_isScript : ByteArray := prog_17_method_119_code
def yX9_isScript : MethodName := ⟨RX9, "isScript", "(I)Z"⟩
abbrev cX9_run : ByteArray := prog_17_method_122_code
def yX9_run : MethodName := ⟨RX9, "run", "(II)I"⟩
abbrev cX9_goSteps : ByteArray := prog_17_method_121_code
def yX9_goSteps : MethodName := ⟨RX9, "goSteps", "(IZ)I"⟩
abbrev cX9_perform : ByteArray := prog_17_method_123_code
def yX9_perform : MethodName := ⟨RX9, "perform", "(I)I"⟩
abbrev cX9_most : ByteArray := prog_17_method_128_code
def yX9_most : MethodName := ⟨RX9, "most", "(I)I"⟩
abbrev cX9_lastGeneration : ByteArray := prog_17_method_126_code
def yX9_lastGeneration : MethodName := ⟨RX9, "lastGeneration", "()I"⟩
abbrev cX9_widest : ByteArray := prog_17_method_127_code
def yX9_widest : MethodName := ⟨RX9, "widest", "()I"⟩
abbrev cX9_added : ByteArray := prog_17_method_125_code
def yX9_added : MethodName := ⟨RX9, "added", "(I)I"⟩
abbrev cX9_ofPeak : ByteArray := prog_17_method_124_code
def yX9_ofPeak : MethodName := ⟨RX9, "ofPeak", "(II)I"⟩
abbrev cX9_held : ByteArray := prog_17_method_129_code
def yX9_held : MethodName := ⟨RX9, "held", "(I)I"⟩
theorem q129 : (Jvm.Cond.initialized "TracePeaksModel") ∈ lw_all := lw_g (lw_at lw_m1 10 rfl) rfl
theorem q1469 : (Jvm.Cond.selects "TracePeaksModel" ({ cls := "java/lang/Object", name := "getClass", desc := "()Ljava/lang/Class;" } : Jvm.MethodName) ({ cls := "java/lang/Object", name := "getClass", desc := "()Ljava/lang/Class;" } : Jvm.MethodName)) ∈ lw_all := lw_g (lw_at lw_m6 150 rfl) rfl
theorem q1492 : (Jvm.Cond.selects "TracePeaksModel" ({ cls := "java/lang/Object", name := "toString", desc := "()Ljava/lang/String;" } : Jvm.MethodName) ({ cls := "java/lang/Object", name := "toString", desc := "()Ljava/lang/String;" } : Jvm.MethodName)) ∈ lw_all := lw_g (lw_at lw_m6 173 rfl) rfl
theorem q1648 : (Jvm.Cond.instantiable "TracePeaksModel" (52 : Nat)) ∈ lw_all := lw_g (lw_at lw_m7 89 rfl) rfl
theorem q1650 : (Jvm.Cond.instanceMethod ({ cls := "TracePeaksModel", name := "<init>", desc := "()V" } : Jvm.MethodName)) ∈ lw_all := lw_g (lw_at lw_m7 91 rfl) rfl
theorem q1651 : (Jvm.Cond.code ({ cls := "TracePeaksModel", name := "<init>", desc := "()V" } : Jvm.MethodName) prog_17_method_4_code (1 : Nat) (Option.none : Option Jvm.ClassFile.FieldType)) ∈ lw_all := lw_g (lw_at lw_m7 92 rfl) rfl
theorem q1652 : (Jvm.Cond.methodLink "TracePeaksModel" (3 : Nat) ({ cls := "java/lang/Object", name := "<init>", desc := "()V" } : Jvm.MethodName)) ∈ lw_all := lw_g (lw_at lw_m7 93 rfl) rfl
theorem q1653 : (Jvm.Cond.fieldLink "TracePeaksModel" (92 : Nat) "TracePeaksModel" "thrown" "I") ∈ lw_all := lw_g (lw_at lw_m7 94 rfl) rfl
theorem q1654 : (Jvm.Cond.fieldLink "TracePeaksModel" (9 : Nat) "TracePeaksModel" "tape" "[I") ∈ lw_all := lw_g (lw_at lw_m7 95 rfl) rfl
theorem q1655 : (Jvm.Cond.fieldLink "TracePeaksModel" (100 : Nat) "TracePeaksModel" "taped" "I") ∈ lw_all := lw_g (lw_at lw_m7 96 rfl) rfl
theorem q1656 : (Jvm.Cond.fieldLink "TracePeaksModel" (107 : Nat) "TracePeaksModel" "at" "I") ∈ lw_all := lw_g (lw_at lw_m7 97 rfl) rfl
theorem q1657 : (Jvm.Cond.fieldLink "TracePeaksModel" (129 : Nat) "TracePeaksModel" "part" "I") ∈ lw_all := lw_g (lw_at lw_m7 98 rfl) rfl
theorem q1658 : (Jvm.Cond.fieldLink "TracePeaksModel" (142 : Nat) "TracePeaksModel" "partFrom" "I") ∈ lw_all := lw_g (lw_at lw_m7 99 rfl) rfl
theorem q1659 : (Jvm.Cond.fieldLink "TracePeaksModel" (136 : Nat) "TracePeaksModel" "partNumber" "I") ∈ lw_all := lw_g (lw_at lw_m7 100 rfl) rfl
theorem q1660 : (Jvm.Cond.fieldLink "TracePeaksModel" (114 : Nat) "TracePeaksModel" "partLong" "I") ∈ lw_all := lw_g (lw_at lw_m7 101 rfl) rfl
theorem q1661 : (Jvm.Cond.fieldLink "TracePeaksModel" (151 : Nat) "TracePeaksModel" "wrong" "I") ∈ lw_all := lw_g (lw_at lw_m7 102 rfl) rfl
theorem q1662 : (Jvm.Cond.fieldLink "TracePeaksModel" (110 : Nat) "TracePeaksModel" "partWord" "J") ∈ lw_all := lw_g (lw_at lw_m7 103 rfl) rfl
theorem q1663 : (Jvm.Cond.fieldLink "TracePeaksModel" (132 : Nat) "TracePeaksModel" "isMinus" "Z") ∈ lw_all := lw_g (lw_at lw_m7 104 rfl) rfl
theorem q1664 : (Jvm.Cond.fieldLink "TracePeaksModel" (13 : Nat) "TracePeaksModel" "readSample" "[I") ∈ lw_all := lw_g (lw_at lw_m7 105 rfl) rfl
theorem q1665 : (Jvm.Cond.fieldLink "TracePeaksModel" (16 : Nat) "TracePeaksModel" "readPlace" "[I") ∈ lw_all := lw_g (lw_at lw_m7 106 rfl) rfl
theorem q1666 : (Jvm.Cond.fieldLink "TracePeaksModel" (19 : Nat) "TracePeaksModel" "readLong" "[I") ∈ lw_all := lw_g (lw_at lw_m7 107 rfl) rfl
theorem q1667 : (Jvm.Cond.fieldLink "TracePeaksModel" (22 : Nat) "TracePeaksModel" "readName" "[J") ∈ lw_all := lw_g (lw_at lw_m7 108 rfl) rfl
theorem q1668 : (Jvm.Cond.fieldLink "TracePeaksModel" (160 : Nat) "TracePeaksModel" "readMany" "I") ∈ lw_all := lw_g (lw_at lw_m7 109 rfl) rfl
theorem q1669 : (Jvm.Cond.fieldLink "TracePeaksModel" (167 : Nat) "TracePeaksModel" "readLines" "I") ∈ lw_all := lw_g (lw_at lw_m7 110 rfl) rfl
theorem q1670 : (Jvm.Cond.fieldLink "TracePeaksModel" (193 : Nat) "TracePeaksModel" "readNoise" "I") ∈ lw_all := lw_g (lw_at lw_m7 111 rfl) rfl
theorem q1671 : (Jvm.Cond.fieldLink "TracePeaksModel" (196 : Nat) "TracePeaksModel" "readReach" "I") ∈ lw_all := lw_g (lw_at lw_m7 112 rfl) rfl
theorem q1672 : (Jvm.Cond.fieldLink "TracePeaksModel" (26 : Nat) "TracePeaksModel" "script" "[I") ∈ lw_all := lw_g (lw_at lw_m7 113 rfl) rfl
theorem q1673 : (Jvm.Cond.fieldLink "TracePeaksModel" (29 : Nat) "TracePeaksModel" "scriptLong" "[I") ∈ lw_all := lw_g (lw_at lw_m7 114 rfl) rfl
theorem q1674 : (Jvm.Cond.fieldLink "TracePeaksModel" (275 : Nat) "TracePeaksModel" "scripts" "I") ∈ lw_all := lw_g (lw_at lw_m7 115 rfl) rfl
theorem q1675 : (Jvm.Cond.fieldLink "TracePeaksModel" (32 : Nat) "TracePeaksModel" "now" "[I") ∈ lw_all := lw_g (lw_at lw_m7 116 rfl) rfl
theorem q1676 : (Jvm.Cond.fieldLink "TracePeaksModel" (35 : Nat) "TracePeaksModel" "refused" "[I") ∈ lw_all := lw_g (lw_at lw_m7 117 rfl) rfl
theorem q1677 : (Jvm.Cond.fieldLink "TracePeaksModel" (38 : Nat) "TracePeaksModel" "linePlace" "[I") ∈ lw_all := lw_g (lw_at lw_m7 118 rfl) rfl
theorem q1678 : (Jvm.Cond.fieldLink "TracePeaksModel" (41 : Nat) "TracePeaksModel" "lineLong" "[I") ∈ lw_all := lw_g (lw_at lw_m7 119 rfl) rfl
theorem q1679 : (Jvm.Cond.fieldLink "TracePeaksModel" (44 : Nat) "TracePeaksModel" "lineName" "[J") ∈ lw_all := lw_g (lw_at lw_m7 120 rfl) rfl
theorem q1680 : (Jvm.Cond.fieldLink "TracePeaksModel" (263 : Nat) "TracePeaksModel" "lines" "I") ∈ lw_all := lw_g (lw_at lw_m7 121 rfl) rfl
theorem q1681 : (Jvm.Cond.fieldLink "TracePeaksModel" (260 : Nat) "TracePeaksModel" "reach" "I") ∈ lw_all := lw_g (lw_at lw_m7 122 rfl) rfl
theorem q1682 : (Jvm.Cond.fieldLink "TracePeaksModel" (254 : Nat) "TracePeaksModel" "isTrace" "Z") ∈ lw_all := lw_g (lw_at lw_m7 123 rfl) rfl
theorem q1683 : (Jvm.Cond.fieldLink "TracePeaksModel" (47 : Nat) "TracePeaksModel" "place" "[I") ∈ lw_all := lw_g (lw_at lw_m7 124 rfl) rfl
theorem q1684 : (Jvm.Cond.fieldLink "TracePeaksModel" (50 : Nat) "TracePeaksModel" "valley" "[I") ∈ lw_all := lw_g (lw_at lw_m7 125 rfl) rfl
theorem q1685 : (Jvm.Cond.fieldLink "TracePeaksModel" (53 : Nat) "TracePeaksModel" "death" "[I") ∈ lw_all := lw_g (lw_at lw_m7 126 rfl) rfl
theorem q1686 : (Jvm.Cond.fieldLink "TracePeaksModel" (56 : Nat) "TracePeaksModel" "parent" "[I") ∈ lw_all := lw_g (lw_at lw_m7 127 rfl) rfl
theorem q1687 : (Jvm.Cond.fieldLink "TracePeaksModel" (59 : Nat) "TracePeaksModel" "belongs" "[I") ∈ lw_all := lw_g (lw_at lw_m7 128 rfl) rfl
theorem q1688 : (Jvm.Cond.fieldLink "TracePeaksModel" (281 : Nat) "TracePeaksModel" "came" "I") ∈ lw_all := lw_g (lw_at lw_m7 129 rfl) rfl
theorem q1689 : (Jvm.Cond.fieldLink "TracePeaksModel" (62 : Nat) "TracePeaksModel" "which" "[I") ∈ lw_all := lw_g (lw_at lw_m7 130 rfl) rfl
theorem q1690 : (Jvm.Cond.fieldLink "TracePeaksModel" (65 : Nat) "TracePeaksModel" "numberOf" "[I") ∈ lw_all := lw_g (lw_at lw_m7 131 rfl) rfl
theorem q1691 : (Jvm.Cond.fieldLink "TracePeaksModel" (314 : Nat) "TracePeaksModel" "kept" "I") ∈ lw_all := lw_g (lw_at lw_m7 132 rfl) rfl
theorem q1692 : (Jvm.Cond.fieldLink "TracePeaksModel" (68 : Nat) "TracePeaksModel" "lineOf" "[I") ∈ lw_all := lw_g (lw_at lw_m7 133 rfl) rfl
theorem q1693 : (Jvm.Cond.fieldLink "TracePeaksModel" (71 : Nat) "TracePeaksModel" "takenBy" "[I") ∈ lw_all := lw_g (lw_at lw_m7 134 rfl) rfl
theorem q1694 : (Jvm.Cond.fieldLink "TracePeaksModel" (323 : Nat) "TracePeaksModel" "taken" "I") ∈ lw_all := lw_g (lw_at lw_m7 135 rfl) rfl
theorem q1695 : (Jvm.Cond.fieldLink "TracePeaksModel" (74 : Nat) "TracePeaksModel" "was" "[I") ∈ lw_all := lw_g (lw_at lw_m7 136 rfl) rfl
theorem q1696 : (Jvm.Cond.fieldLink "TracePeaksModel" (77 : Nat) "TracePeaksModel" "held" "[I") ∈ lw_all := lw_g (lw_at lw_m7 137 rfl) rfl
theorem q1697 : (Jvm.Cond.fieldLink "TracePeaksModel" (266 : Nat) "TracePeaksModel" "acts" "I") ∈ lw_all := lw_g (lw_at lw_m7 138 rfl) rfl
theorem q1698 : (Jvm.Cond.fieldLink "TracePeaksModel" (416 : Nat) "TracePeaksModel" "drawn" "J") ∈ lw_all := lw_g (lw_at lw_m7 139 rfl) rfl
theorem q1699 : (Jvm.Cond.fieldLink "TracePeaksModel" (80 : Nat) "TracePeaksModel" "image" "[I") ∈ lw_all := lw_g (lw_at lw_m7 140 rfl) rfl
theorem q1700 : (Jvm.Cond.fieldLink "TracePeaksModel" (269 : Nat) "TracePeaksModel" "hasImage" "Z") ∈ lw_all := lw_g (lw_at lw_m7 141 rfl) rfl
theorem q1701 : (Jvm.Cond.fieldLink "TracePeaksModel" (83 : Nat) "TracePeaksModel" "aside" "[I") ∈ lw_all := lw_g (lw_at lw_m7 142 rfl) rfl
theorem q1702 : (Jvm.Cond.fieldLink "TracePeaksModel" (86 : Nat) "TracePeaksModel" "lives" "[I") ∈ lw_all := lw_g (lw_at lw_m7 143 rfl) rfl
theorem q1703 : (Jvm.Cond.fieldLink "TracePeaksModel" (89 : Nat) "TracePeaksModel" "spelled" "[I") ∈ lw_all := lw_g (lw_at lw_m7 144 rfl) rfl
theorem q1704 : (Jvm.Cond.fieldLink "TracePeaksModel" (465 : Nat) "TracePeaksModel" "spelledMany" "I") ∈ lw_all := lw_g (lw_at lw_m7 145 rfl) rfl
theorem q1705 : (Jvm.Cond.lays "TracePeaksModel" "TracePeaksModel" "thrown" "I") ∈ lw_all := lw_g (lw_at lw_m7 146 rfl) rfl
theorem q1706 : (Jvm.Cond.soleField "TracePeaksModel" "thrown") ∈ lw_all := lw_g (lw_at lw_m7 147 rfl) rfl
theorem q1707 : (Jvm.Cond.laysFinal "TracePeaksModel" "TracePeaksModel" "tape" "[I") ∈ lw_all := lw_g (lw_at lw_m7 148 rfl) rfl
theorem q1708 : (Jvm.Cond.soleField "TracePeaksModel" "tape") ∈ lw_all := lw_g (lw_at lw_m7 149 rfl) rfl
theorem q1709 : (Jvm.Cond.lays "TracePeaksModel" "TracePeaksModel" "taped" "I") ∈ lw_all := lw_g (lw_at lw_m7 150 rfl) rfl
theorem q1710 : (Jvm.Cond.soleField "TracePeaksModel" "taped") ∈ lw_all := lw_g (lw_at lw_m7 151 rfl) rfl
theorem q1711 : (Jvm.Cond.lays "TracePeaksModel" "TracePeaksModel" "at" "I") ∈ lw_all := lw_g (lw_at lw_m7 152 rfl) rfl
theorem q1712 : (Jvm.Cond.soleField "TracePeaksModel" "at") ∈ lw_all := lw_g (lw_at lw_m7 153 rfl) rfl
theorem q1713 : (Jvm.Cond.lays "TracePeaksModel" "TracePeaksModel" "part" "I") ∈ lw_all := lw_g (lw_at lw_m7 154 rfl) rfl
theorem q1714 : (Jvm.Cond.soleField "TracePeaksModel" "part") ∈ lw_all := lw_g (lw_at lw_m7 155 rfl) rfl
theorem q1715 : (Jvm.Cond.lays "TracePeaksModel" "TracePeaksModel" "partFrom" "I") ∈ lw_all := lw_g (lw_at lw_m7 156 rfl) rfl
theorem q1716 : (Jvm.Cond.soleField "TracePeaksModel" "partFrom") ∈ lw_all := lw_g (lw_at lw_m7 157 rfl) rfl
theorem q1717 : (Jvm.Cond.lays "TracePeaksModel" "TracePeaksModel" "partNumber" "I") ∈ lw_all := lw_g (lw_at lw_m7 158 rfl) rfl
theorem q1718 : (Jvm.Cond.soleField "TracePeaksModel" "partNumber") ∈ lw_all := lw_g (lw_at lw_m7 159 rfl) rfl
theorem q1719 : (Jvm.Cond.lays "TracePeaksModel" "TracePeaksModel" "partLong" "I") ∈ lw_all := lw_g (lw_at lw_m7 160 rfl) rfl
theorem q1720 : (Jvm.Cond.soleField "TracePeaksModel" "partLong") ∈ lw_all := lw_g (lw_at lw_m7 161 rfl) rfl
theorem q1721 : (Jvm.Cond.lays "TracePeaksModel" "TracePeaksModel" "wrong" "I") ∈ lw_all := lw_g (lw_at lw_m7 162 rfl) rfl
theorem q1722 : (Jvm.Cond.soleField "TracePeaksModel" "wrong") ∈ lw_all := lw_g (lw_at lw_m7 163 rfl) rfl
theorem q1723 : (Jvm.Cond.lays "TracePeaksModel" "TracePeaksModel" "partWord" "J") ∈ lw_all := lw_g (lw_at lw_m7 164 rfl) rfl
theorem q1724 : (Jvm.Cond.soleField "TracePeaksModel" "partWord") ∈ lw_all := lw_g (lw_at lw_m7 165 rfl) rfl
theorem q1725 : (Jvm.Cond.lays "TracePeaksModel" "TracePeaksModel" "isMinus" "Z") ∈ lw_all := lw_g (lw_at lw_m7 166 rfl) rfl
theorem q1726 : (Jvm.Cond.soleField "TracePeaksModel" "isMinus") ∈ lw_all := lw_g (lw_at lw_m7 167 rfl) rfl
theorem q1727 : (Jvm.Cond.laysFinal "TracePeaksModel" "TracePeaksModel" "readSample" "[I") ∈ lw_all := lw_g (lw_at lw_m7 168 rfl) rfl
theorem q1728 : (Jvm.Cond.soleField "TracePeaksModel" "readSample") ∈ lw_all := lw_g (lw_at lw_m7 169 rfl) rfl
theorem q1729 : (Jvm.Cond.laysFinal "TracePeaksModel" "TracePeaksModel" "readPlace" "[I") ∈ lw_all := lw_g (lw_at lw_m7 170 rfl) rfl
theorem q1730 : (Jvm.Cond.soleField "TracePeaksModel" "readPlace") ∈ lw_all := lw_g (lw_at lw_m7 171 rfl) rfl
theorem q1731 : (Jvm.Cond.laysFinal "TracePeaksModel" "TracePeaksModel" "readLong" "[I") ∈ lw_all := lw_g (lw_at lw_m7 172 rfl) rfl
theorem q1732 : (Jvm.Cond.soleField "TracePeaksModel" "readLong") ∈ lw_all := lw_g (lw_at lw_m7 173 rfl) rfl
theorem q1733 : (Jvm.Cond.laysFinal "TracePeaksModel" "TracePeaksModel" "readName" "[J") ∈ lw_all := lw_g (lw_at lw_m7 174 rfl) rfl
theorem q1734 : (Jvm.Cond.soleField "TracePeaksModel" "readName") ∈ lw_all := lw_g (lw_at lw_m7 175 rfl) rfl
theorem q1735 : (Jvm.Cond.lays "TracePeaksModel" "TracePeaksModel" "readMany" "I") ∈ lw_all := lw_g (lw_at lw_m7 176 rfl) rfl
theorem q1736 : (Jvm.Cond.soleField "TracePeaksModel" "readMany") ∈ lw_all := lw_g (lw_at lw_m7 177 rfl) rfl
theorem q1737 : (Jvm.Cond.lays "TracePeaksModel" "TracePeaksModel" "readLines" "I") ∈ lw_all := lw_g (lw_at lw_m7 178 rfl) rfl
theorem q1738 : (Jvm.Cond.soleField "TracePeaksModel" "readLines") ∈ lw_all := lw_g (lw_at lw_m7 179 rfl) rfl
theorem q1739 : (Jvm.Cond.lays "TracePeaksModel" "TracePeaksModel" "readNoise" "I") ∈ lw_all := lw_g (lw_at lw_m7 180 rfl) rfl
theorem q1740 : (Jvm.Cond.soleField "TracePeaksModel" "readNoise") ∈ lw_all := lw_g (lw_at lw_m7 181 rfl) rfl
theorem q1741 : (Jvm.Cond.lays "TracePeaksModel" "TracePeaksModel" "readReach" "I") ∈ lw_all := lw_g (lw_at lw_m7 182 rfl) rfl
theorem q1742 : (Jvm.Cond.soleField "TracePeaksModel" "readReach") ∈ lw_all := lw_g (lw_at lw_m7 183 rfl) rfl
theorem q1743 : (Jvm.Cond.laysFinal "TracePeaksModel" "TracePeaksModel" "script" "[I") ∈ lw_all := lw_g (lw_at lw_m7 184 rfl) rfl
theorem q1744 : (Jvm.Cond.soleField "TracePeaksModel" "script") ∈ lw_all := lw_g (lw_at lw_m7 185 rfl) rfl
theorem q1745 : (Jvm.Cond.laysFinal "TracePeaksModel" "TracePeaksModel" "scriptLong" "[I") ∈ lw_all := lw_g (lw_at lw_m7 186 rfl) rfl
theorem q1746 : (Jvm.Cond.soleField "TracePeaksModel" "scriptLong") ∈ lw_all := lw_g (lw_at lw_m7 187 rfl) rfl
theorem q1747 : (Jvm.Cond.lays "TracePeaksModel" "TracePeaksModel" "scripts" "I") ∈ lw_all := lw_g (lw_at lw_m7 188 rfl) rfl
theorem q1748 : (Jvm.Cond.soleField "TracePeaksModel" "scripts") ∈ lw_all := lw_g (lw_at lw_m7 189 rfl) rfl
theorem q1749 : (Jvm.Cond.laysFinal "TracePeaksModel" "TracePeaksModel" "now" "[I") ∈ lw_all := lw_g (lw_at lw_m7 190 rfl) rfl
theorem q1750 : (Jvm.Cond.soleField "TracePeaksModel" "now") ∈ lw_all := lw_g (lw_at lw_m7 191 rfl) rfl
theorem q1751 : (Jvm.Cond.laysFinal "TracePeaksModel" "TracePeaksModel" "refused" "[I") ∈ lw_all := lw_g (lw_at lw_m7 192 rfl) rfl
theorem q1752 : (Jvm.Cond.soleField "TracePeaksModel" "refused") ∈ lw_all := lw_g (lw_at lw_m7 193 rfl) rfl
theorem q1753 : (Jvm.Cond.laysFinal "TracePeaksModel" "TracePeaksModel" "linePlace" "[I") ∈ lw_all := lw_g (lw_at lw_m7 194 rfl) rfl
theorem q1754 : (Jvm.Cond.soleField "TracePeaksModel" "linePlace") ∈ lw_all := lw_g (lw_at lw_m7 195 rfl) rfl
theorem q1755 : (Jvm.Cond.laysFinal "TracePeaksModel" "TracePeaksModel" "lineLong" "[I") ∈ lw_all := lw_g (lw_at lw_m7 196 rfl) rfl
theorem q1756 : (Jvm.Cond.soleField "TracePeaksModel" "lineLong") ∈ lw_all := lw_g (lw_at lw_m7 197 rfl) rfl
theorem q1757 : (Jvm.Cond.laysFinal "TracePeaksModel" "TracePeaksModel" "lineName" "[J") ∈ lw_all := lw_g (lw_at lw_m7 198 rfl) rfl
theorem q1758 : (Jvm.Cond.soleField "TracePeaksModel" "lineName") ∈ lw_all := lw_g (lw_at lw_m7 199 rfl) rfl
theorem q1759 : (Jvm.Cond.lays "TracePeaksModel" "TracePeaksModel" "lines" "I") ∈ lw_all := lw_g (lw_at lw_m7 200 rfl) rfl
theorem q1760 : (Jvm.Cond.soleField "TracePeaksModel" "lines") ∈ lw_all := lw_g (lw_at lw_m7 201 rfl) rfl
theorem q1761 : (Jvm.Cond.lays "TracePeaksModel" "TracePeaksModel" "reach" "I") ∈ lw_all := lw_g (lw_at lw_m7 202 rfl) rfl
theorem q1762 : (Jvm.Cond.soleField "TracePeaksModel" "reach") ∈ lw_all := lw_g (lw_at lw_m7 203 rfl) rfl
theorem q1763 : (Jvm.Cond.lays "TracePeaksModel" "TracePeaksModel" "isTrace" "Z") ∈ lw_all := lw_g (lw_at lw_m7 204 rfl) rfl
theorem q1764 : (Jvm.Cond.soleField "TracePeaksModel" "isTrace") ∈ lw_all := lw_g (lw_at lw_m7 205 rfl) rfl
theorem q1765 : (Jvm.Cond.laysFinal "TracePeaksModel" "TracePeaksModel" "place" "[I") ∈ lw_all := lw_g (lw_at lw_m7 206 rfl) rfl
theorem q1766 : (Jvm.Cond.soleField "TracePeaksModel" "place") ∈ lw_all := lw_g (lw_at lw_m7 207 rfl) rfl
theorem q1767 : (Jvm.Cond.laysFinal "TracePeaksModel" "TracePeaksModel" "valley" "[I") ∈ lw_all := lw_g (lw_at lw_m7 208 rfl) rfl
theorem q1768 : (Jvm.Cond.soleField "TracePeaksModel" "valley") ∈ lw_all := lw_g (lw_at lw_m7 209 rfl) rfl
theorem q1769 : (Jvm.Cond.laysFinal "TracePeaksModel" "TracePeaksModel" "death" "[I") ∈ lw_all := lw_g (lw_at lw_m7 210 rfl) rfl
theorem q1770 : (Jvm.Cond.soleField "TracePeaksModel" "death") ∈ lw_all := lw_g (lw_at lw_m7 211 rfl) rfl
theorem q1771 : (Jvm.Cond.laysFinal "TracePeaksModel" "TracePeaksModel" "parent" "[I") ∈ lw_all := lw_g (lw_at lw_m7 212 rfl) rfl
theorem q1772 : (Jvm.Cond.soleField "TracePeaksModel" "parent") ∈ lw_all := lw_g (lw_at lw_m7 213 rfl) rfl
theorem q1773 : (Jvm.Cond.laysFinal "TracePeaksModel" "TracePeaksModel" "belongs" "[I") ∈ lw_all := lw_g (lw_at lw_m7 214 rfl) rfl
theorem q1774 : (Jvm.Cond.soleField "TracePeaksModel" "belongs") ∈ lw_all := lw_g (lw_at lw_m7 215 rfl) rfl
theorem q1775 : (Jvm.Cond.lays "TracePeaksModel" "TracePeaksModel" "came" "I") ∈ lw_all := lw_g (lw_at lw_m7 216 rfl) rfl
theorem q1776 : (Jvm.Cond.soleField "TracePeaksModel" "came") ∈ lw_all := lw_g (lw_at lw_m7 217 rfl) rfl
theorem q1777 : (Jvm.Cond.laysFinal "TracePeaksModel" "TracePeaksModel" "which" "[I") ∈ lw_all := lw_g (lw_at lw_m7 218 rfl) rfl
theorem q1778 : (Jvm.Cond.soleField "TracePeaksModel" "which") ∈ lw_all := lw_g (lw_at lw_m7 219 rfl) rfl
theorem q1779 : (Jvm.Cond.laysFinal "TracePeaksModel" "TracePeaksModel" "numberOf" "[I") ∈ lw_all := lw_g (lw_at lw_m7 220 rfl) rfl
theorem q1780 : (Jvm.Cond.soleField "TracePeaksModel" "numberOf") ∈ lw_all := lw_g (lw_at lw_m7 221 rfl) rfl
theorem q1781 : (Jvm.Cond.lays "TracePeaksModel" "TracePeaksModel" "kept" "I") ∈ lw_all := lw_g (lw_at lw_m7 222 rfl) rfl
theorem q1782 : (Jvm.Cond.soleField "TracePeaksModel" "kept") ∈ lw_all := lw_g (lw_at lw_m7 223 rfl) rfl
theorem q1783 : (Jvm.Cond.laysFinal "TracePeaksModel" "TracePeaksModel" "lineOf" "[I") ∈ lw_all := lw_g (lw_at lw_m7 224 rfl) rfl
theorem q1784 : (Jvm.Cond.soleField "TracePeaksModel" "lineOf") ∈ lw_all := lw_g (lw_at lw_m7 225 rfl) rfl
theorem q1785 : (Jvm.Cond.laysFinal "TracePeaksModel" "TracePeaksModel" "takenBy" "[I") ∈ lw_all := lw_g (lw_at lw_m7 226 rfl) rfl
theorem q1786 : (Jvm.Cond.soleField "TracePeaksModel" "takenBy") ∈ lw_all := lw_g (lw_at lw_m7 227 rfl) rfl
theorem q1787 : (Jvm.Cond.lays "TracePeaksModel" "TracePeaksModel" "taken" "I") ∈ lw_all := lw_g (lw_at lw_m7 228 rfl) rfl
theorem q1788 : (Jvm.Cond.soleField "TracePeaksModel" "taken") ∈ lw_all := lw_g (lw_at lw_m7 229 rfl) rfl
theorem q1789 : (Jvm.Cond.laysFinal "TracePeaksModel" "TracePeaksModel" "was" "[I") ∈ lw_all := lw_g (lw_at lw_m7 230 rfl) rfl
theorem q1790 : (Jvm.Cond.soleField "TracePeaksModel" "was") ∈ lw_all := lw_g (lw_at lw_m7 231 rfl) rfl
theorem q1791 : (Jvm.Cond.laysFinal "TracePeaksModel" "TracePeaksModel" "held" "[I") ∈ lw_all := lw_g (lw_at lw_m7 232 rfl) rfl
theorem q1792 : (Jvm.Cond.soleField "TracePeaksModel" "held") ∈ lw_all := lw_g (lw_at lw_m7 233 rfl) rfl
theorem q1793 : (Jvm.Cond.lays "TracePeaksModel" "TracePeaksModel" "acts" "I") ∈ lw_all := lw_g (lw_at lw_m7 234 rfl) rfl
theorem q1794 : (Jvm.Cond.soleField "TracePeaksModel" "acts") ∈ lw_all := lw_g (lw_at lw_m7 235 rfl) rfl
theorem q1795 : (Jvm.Cond.lays "TracePeaksModel" "TracePeaksModel" "drawn" "J") ∈ lw_all := lw_g (lw_at lw_m7 236 rfl) rfl
theorem q1796 : (Jvm.Cond.soleField "TracePeaksModel" "drawn") ∈ lw_all := lw_g (lw_at lw_m7 237 rfl) rfl
theorem q1797 : (Jvm.Cond.laysFinal "TracePeaksModel" "TracePeaksModel" "image" "[I") ∈ lw_all := lw_g (lw_at lw_m7 238 rfl) rfl
theorem q1798 : (Jvm.Cond.soleField "TracePeaksModel" "image") ∈ lw_all := lw_g (lw_at lw_m7 239 rfl) rfl
theorem q1799 : (Jvm.Cond.lays "TracePeaksModel" "TracePeaksModel" "hasImage" "Z") ∈ lw_all := lw_g (lw_at lw_m8 0 rfl) rfl
theorem q1800 : (Jvm.Cond.soleField "TracePeaksModel" "hasImage") ∈ lw_all := lw_g (lw_at lw_m8 1 rfl) rfl
theorem q1801 : (Jvm.Cond.laysFinal "TracePeaksModel" "TracePeaksModel" "aside" "[I") ∈ lw_all := lw_g (lw_at lw_m8 2 rfl) rfl
theorem q1802 : (Jvm.Cond.soleField "TracePeaksModel" "aside") ∈ lw_all := lw_g (lw_at lw_m8 3 rfl) rfl
theorem q1803 : (Jvm.Cond.laysFinal "TracePeaksModel" "TracePeaksModel" "lives" "[I") ∈ lw_all := lw_g (lw_at lw_m8 4 rfl) rfl
theorem q1804 : (Jvm.Cond.soleField "TracePeaksModel" "lives") ∈ lw_all := lw_g (lw_at lw_m8 5 rfl) rfl
theorem q1805 : (Jvm.Cond.laysFinal "TracePeaksModel" "TracePeaksModel" "spelled" "[I") ∈ lw_all := lw_g (lw_at lw_m8 6 rfl) rfl
theorem q1806 : (Jvm.Cond.soleField "TracePeaksModel" "spelled") ∈ lw_all := lw_g (lw_at lw_m8 7 rfl) rfl
theorem q1807 : (Jvm.Cond.lays "TracePeaksModel" "TracePeaksModel" "spelledMany" "I") ∈ lw_all := lw_g (lw_at lw_m8 8 rfl) rfl
theorem q1808 : (Jvm.Cond.soleField "TracePeaksModel" "spelledMany") ∈ lw_all := lw_g (lw_at lw_m8 9 rfl) rfl
theorem q1809 : (Jvm.Cond.superclass "TracePeaksModel" "java/lang/Object") ∈ lw_all := lw_g (lw_at lw_m8 10 rfl) rfl
theorem q1812 : (Jvm.Cond.instanceMethod ({ cls := "TracePeaksModel", name := "thrown", desc := "()I" } : Jvm.MethodName)) ∈ lw_all := lw_g (lw_at lw_m8 13 rfl) rfl
theorem q1813 : (Jvm.Cond.selects "TracePeaksModel" ({ cls := "TracePeaksModel", name := "thrown", desc := "()I" } : Jvm.MethodName) ({ cls := "TracePeaksModel", name := "thrown", desc := "()I" } : Jvm.MethodName)) ∈ lw_all := lw_g (lw_at lw_m8 14 rfl) rfl
theorem q1814 : (Jvm.Cond.code ({ cls := "TracePeaksModel", name := "thrown", desc := "()I" } : Jvm.MethodName) prog_17_method_5_code (1 : Nat) (Option.some Jvm.ClassFile.FieldType.int)) ∈ lw_all := lw_g (lw_at lw_m8 15 rfl) rfl
theorem q1816 : (Jvm.Cond.instanceMethod ({ cls := "TracePeaksModel", name := "feed", desc := "(IIIII)I" } : Jvm.MethodName)) ∈ lw_all := lw_g (lw_at lw_m8 17 rfl) rfl
theorem q1817 : (Jvm.Cond.selects "TracePeaksModel" ({ cls := "TracePeaksModel", name := "feed", desc := "(IIIII)I" } : Jvm.MethodName) ({ cls := "TracePeaksModel", name := "feed", desc := "(IIIII)I" } : Jvm.MethodName)) ∈ lw_all := lw_g (lw_at lw_m8 18 rfl) rfl
theorem q1818 : (Jvm.Cond.code ({ cls := "TracePeaksModel", name := "feed", desc := "(IIIII)I" } : Jvm.MethodName) prog_17_method_7_code (9 : Nat) (Option.some Jvm.ClassFile.FieldType.int)) ∈ lw_all := lw_g (lw_at lw_m8 19 rfl) rfl
theorem q1819 : (Jvm.Cond.methodLink "TracePeaksModel" (96 : Nat) ({ cls := "TracePeaksModel", name := "byteOf", desc := "(IIIIII)I" } : Jvm.MethodName)) ∈ lw_all := lw_g (lw_at lw_m8 20 rfl) rfl
theorem q1820 : (Jvm.Cond.static ({ cls := "TracePeaksModel", name := "byteOf", desc := "(IIIIII)I" } : Jvm.MethodName)) ∈ lw_all := lw_g (lw_at lw_m8 21 rfl) rfl
theorem q1821 : (Jvm.Cond.code ({ cls := "TracePeaksModel", name := "byteOf", desc := "(IIIIII)I" } : Jvm.MethodName) prog_17_method_6_code (7 : Nat) (Option.some Jvm.ClassFile.FieldType.int)) ∈ lw_all := lw_g (lw_at lw_m8 22 rfl) rfl
theorem q1823 : (Jvm.Cond.instanceMethod ({ cls := "TracePeaksModel", name := "end", desc := "(I)Z" } : Jvm.MethodName)) ∈ lw_all := lw_g (lw_at lw_m8 24 rfl) rfl
theorem q1824 : (Jvm.Cond.selects "TracePeaksModel" ({ cls := "TracePeaksModel", name := "end", desc := "(I)Z" } : Jvm.MethodName) ({ cls := "TracePeaksModel", name := "end", desc := "(I)Z" } : Jvm.MethodName)) ∈ lw_all := lw_g (lw_at lw_m8 25 rfl) rfl
theorem q1825 : (Jvm.Cond.code ({ cls := "TracePeaksModel", name := "end", desc := "(I)Z" } : Jvm.MethodName) prog_17_method_8_code (2 : Nat) (Option.some Jvm.ClassFile.FieldType.boolean)) ∈ lw_all := lw_g (lw_at lw_m8 26 rfl) rfl
theorem q1826 : (Jvm.Cond.methodLink "TracePeaksModel" (103 : Nat) ({ cls := "TracePeaksModel", name := "in", desc := "(III)Z" } : Jvm.MethodName)) ∈ lw_all := lw_g (lw_at lw_m8 27 rfl) rfl
theorem q1827 : (Jvm.Cond.static ({ cls := "TracePeaksModel", name := "in", desc := "(III)Z" } : Jvm.MethodName)) ∈ lw_all := lw_g (lw_at lw_m8 28 rfl) rfl
theorem q1828 : (Jvm.Cond.code ({ cls := "TracePeaksModel", name := "in", desc := "(III)Z" } : Jvm.MethodName) prog_17_method_1_code (3 : Nat) (Option.some Jvm.ClassFile.FieldType.boolean)) ∈ lw_all := lw_g (lw_at lw_m8 29 rfl) rfl
theorem q1830 : (Jvm.Cond.instanceMethod ({ cls := "TracePeaksModel", name := "fault", desc := "(I)I" } : Jvm.MethodName)) ∈ lw_all := lw_g (lw_at lw_m8 31 rfl) rfl
theorem q1831 : (Jvm.Cond.selects "TracePeaksModel" ({ cls := "TracePeaksModel", name := "fault", desc := "(I)I" } : Jvm.MethodName) ({ cls := "TracePeaksModel", name := "fault", desc := "(I)I" } : Jvm.MethodName)) ∈ lw_all := lw_g (lw_at lw_m8 32 rfl) rfl
theorem q1832 : (Jvm.Cond.code ({ cls := "TracePeaksModel", name := "fault", desc := "(I)I" } : Jvm.MethodName) prog_17_method_28_code (2 : Nat) (Option.some Jvm.ClassFile.FieldType.int)) ∈ lw_all := lw_g (lw_at lw_m8 33 rfl) rfl
theorem q1833 : (Jvm.Cond.methodLink "TracePeaksModel" (248 : Nat) ({ cls := "TracePeaksModel", name := "readTrace", desc := "()I" } : Jvm.MethodName)) ∈ lw_all := lw_g (lw_at lw_m8 34 rfl) rfl
theorem q1834 : (Jvm.Cond.privateMethod ({ cls := "TracePeaksModel", name := "readTrace", desc := "()I" } : Jvm.MethodName)) ∈ lw_tbl := lw_at lw_m8 35 rfl
theorem q1835 : (Jvm.Cond.instanceMethod ({ cls := "TracePeaksModel", name := "readTrace", desc := "()I" } : Jvm.MethodName)) ∈ lw_all := lw_g (lw_at lw_m8 36 rfl) rfl
theorem q1836 : (Jvm.Cond.code ({ cls := "TracePeaksModel", name := "readTrace", desc := "()I" } : Jvm.MethodName) prog_17_method_23_code (3 : Nat) (Option.some Jvm.ClassFile.FieldType.int)) ∈ lw_all := lw_g (lw_at lw_m8 37 rfl) rfl
theorem q1837 : (Jvm.Cond.methodLink "TracePeaksModel" (202 : Nat) ({ cls := "TracePeaksModel", name := "begins", desc := "()V" } : Jvm.MethodName)) ∈ lw_all := lw_g (lw_at lw_m8 38 rfl) rfl
theorem q1838 : (Jvm.Cond.privateMethod ({ cls := "TracePeaksModel", name := "begins", desc := "()V" } : Jvm.MethodName)) ∈ lw_tbl := lw_at lw_m8 39 rfl
theorem q1839 : (Jvm.Cond.instanceMethod ({ cls := "TracePeaksModel", name := "begins", desc := "()V" } : Jvm.MethodName)) ∈ lw_all := lw_g (lw_at lw_m8 40 rfl) rfl
theorem q1840 : (Jvm.Cond.code ({ cls := "TracePeaksModel", name := "begins", desc := "()V" } : Jvm.MethodName) prog_17_method_22_code (1 : Nat) (Option.none : Option Jvm.ClassFile.FieldType)) ∈ lw_all := lw_g (lw_at lw_m8 41 rfl) rfl
theorem q1841 : (Jvm.Cond.methodLink "TracePeaksModel" (157 : Nat) ({ cls := "TracePeaksModel", name := "next", desc := "()V" } : Jvm.MethodName)) ∈ lw_all := lw_g (lw_at lw_m8 42 rfl) rfl
theorem q1842 : (Jvm.Cond.privateMethod ({ cls := "TracePeaksModel", name := "next", desc := "()V" } : Jvm.MethodName)) ∈ lw_tbl := lw_at lw_m8 43 rfl
theorem q1843 : (Jvm.Cond.instanceMethod ({ cls := "TracePeaksModel", name := "next", desc := "()V" } : Jvm.MethodName)) ∈ lw_all := lw_g (lw_at lw_m8 44 rfl) rfl
theorem q1844 : (Jvm.Cond.code ({ cls := "TracePeaksModel", name := "next", desc := "()V" } : Jvm.MethodName) prog_17_method_14_code (2 : Nat) (Option.none : Option Jvm.ClassFile.FieldType)) ∈ lw_all := lw_g (lw_at lw_m8 45 rfl) rfl
theorem q1845 : (Jvm.Cond.methodLink "TracePeaksModel" (117 : Nat) ({ cls := "TracePeaksModel", name := "here", desc := "()I" } : Jvm.MethodName)) ∈ lw_all := lw_g (lw_at lw_m8 46 rfl) rfl
theorem q1846 : (Jvm.Cond.privateMethod ({ cls := "TracePeaksModel", name := "here", desc := "()I" } : Jvm.MethodName)) ∈ lw_tbl := lw_at lw_m8 47 rfl
theorem q1847 : (Jvm.Cond.instanceMethod ({ cls := "TracePeaksModel", name := "here", desc := "()I" } : Jvm.MethodName)) ∈ lw_all := lw_g (lw_at lw_m8 48 rfl) rfl
theorem q1848 : (Jvm.Cond.code ({ cls := "TracePeaksModel", name := "here", desc := "()I" } : Jvm.MethodName) prog_17_method_9_code (1 : Nat) (Option.some Jvm.ClassFile.FieldType.int)) ∈ lw_all := lw_g (lw_at lw_m8 49 rfl) rfl
theorem q1849 : (Jvm.Cond.methodLink "TracePeaksModel" (121 : Nat) ({ cls := "TracePeaksModel", name := "isLetter", desc := "(I)Z" } : Jvm.MethodName)) ∈ lw_all := lw_g (lw_at lw_m8 50 rfl) rfl
theorem q1850 : (Jvm.Cond.static ({ cls := "TracePeaksModel", name := "isLetter", desc := "(I)Z" } : Jvm.MethodName)) ∈ lw_all := lw_g (lw_at lw_m8 51 rfl) rfl
theorem q1851 : (Jvm.Cond.code ({ cls := "TracePeaksModel", name := "isLetter", desc := "(I)Z" } : Jvm.MethodName) prog_17_method_11_code (1 : Nat) (Option.some Jvm.ClassFile.FieldType.boolean)) ∈ lw_all := lw_g (lw_at lw_m8 52 rfl) rfl
theorem q1852 : (Jvm.Cond.methodLink "TracePeaksModel" (145 : Nat) ({ cls := "TracePeaksModel", name := "readWord", desc := "()V" } : Jvm.MethodName)) ∈ lw_all := lw_g (lw_at lw_m8 53 rfl) rfl
theorem q1853 : (Jvm.Cond.privateMethod ({ cls := "TracePeaksModel", name := "readWord", desc := "()V" } : Jvm.MethodName)) ∈ lw_tbl := lw_at lw_m8 54 rfl
theorem q1854 : (Jvm.Cond.instanceMethod ({ cls := "TracePeaksModel", name := "readWord", desc := "()V" } : Jvm.MethodName)) ∈ lw_all := lw_g (lw_at lw_m8 55 rfl) rfl
theorem q1855 : (Jvm.Cond.code ({ cls := "TracePeaksModel", name := "readWord", desc := "()V" } : Jvm.MethodName) prog_17_method_12_code (1 : Nat) (Option.none : Option Jvm.ClassFile.FieldType)) ∈ lw_all := lw_g (lw_at lw_m8 56 rfl) rfl
theorem q1856 : (Jvm.Cond.constantLong "TracePeaksModel" (125 : Nat) (27 : Int64)) ∈ lw_all := lw_g (lw_at lw_m8 57 rfl) rfl
theorem q1857 : (Jvm.Cond.constantLong "TracePeaksModel" (127 : Nat) (97 : Int64)) ∈ lw_all := lw_g (lw_at lw_m8 58 rfl) rfl
theorem q1858 : (Jvm.Cond.methodLink "TracePeaksModel" (139 : Nat) ({ cls := "TracePeaksModel", name := "isDigit", desc := "(I)Z" } : Jvm.MethodName)) ∈ lw_all := lw_g (lw_at lw_m8 59 rfl) rfl
theorem q1859 : (Jvm.Cond.static ({ cls := "TracePeaksModel", name := "isDigit", desc := "(I)Z" } : Jvm.MethodName)) ∈ lw_all := lw_g (lw_at lw_m8 60 rfl) rfl
theorem q1860 : (Jvm.Cond.code ({ cls := "TracePeaksModel", name := "isDigit", desc := "(I)Z" } : Jvm.MethodName) prog_17_method_10_code (1 : Nat) (Option.some Jvm.ClassFile.FieldType.boolean)) ∈ lw_all := lw_g (lw_at lw_m8 61 rfl) rfl
theorem q1861 : (Jvm.Cond.methodLink "TracePeaksModel" (148 : Nat) ({ cls := "TracePeaksModel", name := "readNumber", desc := "()V" } : Jvm.MethodName)) ∈ lw_all := lw_g (lw_at lw_m8 62 rfl) rfl
theorem q1862 : (Jvm.Cond.privateMethod ({ cls := "TracePeaksModel", name := "readNumber", desc := "()V" } : Jvm.MethodName)) ∈ lw_tbl := lw_at lw_m8 63 rfl
theorem q1863 : (Jvm.Cond.instanceMethod ({ cls := "TracePeaksModel", name := "readNumber", desc := "()V" } : Jvm.MethodName)) ∈ lw_all := lw_g (lw_at lw_m8 64 rfl) rfl
theorem q1864 : (Jvm.Cond.code ({ cls := "TracePeaksModel", name := "readNumber", desc := "()V" } : Jvm.MethodName) prog_17_method_13_code (2 : Nat) (Option.none : Option Jvm.ClassFile.FieldType)) ∈ lw_all := lw_g (lw_at lw_m8 65 rfl) rfl
theorem q1865 : (Jvm.Cond.methodLink "TracePeaksModel" (205 : Nat) ({ cls := "TracePeaksModel", name := "clause", desc := "(I)I" } : Jvm.MethodName)) ∈ lw_all := lw_g (lw_at lw_m8 66 rfl) rfl
theorem q1866 : (Jvm.Cond.privateMethod ({ cls := "TracePeaksModel", name := "clause", desc := "(I)I" } : Jvm.MethodName)) ∈ lw_tbl := lw_at lw_m8 67 rfl
theorem q1867 : (Jvm.Cond.instanceMethod ({ cls := "TracePeaksModel", name := "clause", desc := "(I)I" } : Jvm.MethodName)) ∈ lw_all := lw_g (lw_at lw_m8 68 rfl) rfl
theorem q1868 : (Jvm.Cond.code ({ cls := "TracePeaksModel", name := "clause", desc := "(I)I" } : Jvm.MethodName) prog_17_method_21_code (3 : Nat) (Option.some Jvm.ClassFile.FieldType.int)) ∈ lw_all := lw_g (lw_at lw_m8 69 rfl) rfl
theorem q1869 : (Jvm.Cond.fieldLink "TracePeaksModel" (170 : Nat) "TracePeaksModel" "W_TRACE" "J") ∈ lw_all := lw_g (lw_at lw_m8 70 rfl) rfl
theorem q1870 : (Jvm.Cond.laysStatic "TracePeaksModel" "W_TRACE" "J") ∈ lw_tbl := lw_at lw_m8 71 rfl
theorem q1871 : (Jvm.Cond.methodLink "TracePeaksModel" (173 : Nat) ({ cls := "TracePeaksModel", name := "isWord", desc := "(J)Z" } : Jvm.MethodName)) ∈ lw_all := lw_g (lw_at lw_m8 72 rfl) rfl
theorem q1872 : (Jvm.Cond.privateMethod ({ cls := "TracePeaksModel", name := "isWord", desc := "(J)Z" } : Jvm.MethodName)) ∈ lw_tbl := lw_at lw_m8 73 rfl
theorem q1873 : (Jvm.Cond.instanceMethod ({ cls := "TracePeaksModel", name := "isWord", desc := "(J)Z" } : Jvm.MethodName)) ∈ lw_all := lw_g (lw_at lw_m8 74 rfl) rfl
theorem q1874 : (Jvm.Cond.code ({ cls := "TracePeaksModel", name := "isWord", desc := "(J)Z" } : Jvm.MethodName) prog_17_method_16_code (3 : Nat) (Option.some Jvm.ClassFile.FieldType.boolean)) ∈ lw_all := lw_g (lw_at lw_m8 75 rfl) rfl
theorem q1875 : (Jvm.Cond.fieldLink "TracePeaksModel" (177 : Nat) "TracePeaksModel" "W_NOISE" "J") ∈ lw_all := lw_g (lw_at lw_m8 76 rfl) rfl
theorem q1876 : (Jvm.Cond.laysStatic "TracePeaksModel" "W_NOISE" "J") ∈ lw_tbl := lw_at lw_m8 77 rfl
theorem q1877 : (Jvm.Cond.fieldLink "TracePeaksModel" (180 : Nat) "TracePeaksModel" "W_REACH" "J") ∈ lw_all := lw_g (lw_at lw_m8 78 rfl) rfl
theorem q1878 : (Jvm.Cond.laysStatic "TracePeaksModel" "W_REACH" "J") ∈ lw_tbl := lw_at lw_m8 79 rfl
theorem q1879 : (Jvm.Cond.fieldLink "TracePeaksModel" (183 : Nat) "TracePeaksModel" "W_LINE" "J") ∈ lw_all := lw_g (lw_at lw_m8 80 rfl) rfl
theorem q1880 : (Jvm.Cond.laysStatic "TracePeaksModel" "W_LINE" "J") ∈ lw_tbl := lw_at lw_m8 81 rfl
theorem q1881 : (Jvm.Cond.methodLink "TracePeaksModel" (186 : Nat) ({ cls := "TracePeaksModel", name := "has", desc := "(II)Z" } : Jvm.MethodName)) ∈ lw_all := lw_g (lw_at lw_m8 82 rfl) rfl
theorem q1882 : (Jvm.Cond.static ({ cls := "TracePeaksModel", name := "has", desc := "(II)Z" } : Jvm.MethodName)) ∈ lw_all := lw_g (lw_at lw_m8 83 rfl) rfl
theorem q1883 : (Jvm.Cond.code ({ cls := "TracePeaksModel", name := "has", desc := "(II)Z" } : Jvm.MethodName) prog_17_method_2_code (2 : Nat) (Option.some Jvm.ClassFile.FieldType.boolean)) ∈ lw_all := lw_g (lw_at lw_m8 84 rfl) rfl
theorem q1884 : (Jvm.Cond.methodLink "TracePeaksModel" (154 : Nat) ({ cls := "TracePeaksModel", name := "bad", desc := "()V" } : Jvm.MethodName)) ∈ lw_all := lw_g (lw_at lw_m8 85 rfl) rfl
theorem q1885 : (Jvm.Cond.privateMethod ({ cls := "TracePeaksModel", name := "bad", desc := "()V" } : Jvm.MethodName)) ∈ lw_tbl := lw_at lw_m8 86 rfl
theorem q1886 : (Jvm.Cond.instanceMethod ({ cls := "TracePeaksModel", name := "bad", desc := "()V" } : Jvm.MethodName)) ∈ lw_all := lw_g (lw_at lw_m8 87 rfl) rfl
theorem q1887 : (Jvm.Cond.code ({ cls := "TracePeaksModel", name := "bad", desc := "()V" } : Jvm.MethodName) prog_17_method_17_code (1 : Nat) (Option.none : Option Jvm.ClassFile.FieldType)) ∈ lw_all := lw_g (lw_at lw_m8 88 rfl) rfl
theorem q1888 : (Jvm.Cond.methodLink "TracePeaksModel" (190 : Nat) ({ cls := "TracePeaksModel", name := "readSamples", desc := "()V" } : Jvm.MethodName)) ∈ lw_all := lw_g (lw_at lw_m8 89 rfl) rfl
theorem q1889 : (Jvm.Cond.privateMethod ({ cls := "TracePeaksModel", name := "readSamples", desc := "()V" } : Jvm.MethodName)) ∈ lw_tbl := lw_at lw_m8 90 rfl
theorem q1890 : (Jvm.Cond.instanceMethod ({ cls := "TracePeaksModel", name := "readSamples", desc := "()V" } : Jvm.MethodName)) ∈ lw_all := lw_g (lw_at lw_m8 91 rfl) rfl
theorem q1891 : (Jvm.Cond.code ({ cls := "TracePeaksModel", name := "readSamples", desc := "()V" } : Jvm.MethodName) prog_17_method_19_code (2 : Nat) (Option.none : Option Jvm.ClassFile.FieldType)) ∈ lw_all := lw_g (lw_at lw_m8 92 rfl) rfl
theorem q1892 : (Jvm.Cond.methodLink "TracePeaksModel" (163 : Nat) ({ cls := "TracePeaksModel", name := "number", desc := "(II)I" } : Jvm.MethodName)) ∈ lw_all := lw_g (lw_at lw_m8 93 rfl) rfl
theorem q1893 : (Jvm.Cond.privateMethod ({ cls := "TracePeaksModel", name := "number", desc := "(II)I" } : Jvm.MethodName)) ∈ lw_tbl := lw_at lw_m8 94 rfl
theorem q1894 : (Jvm.Cond.instanceMethod ({ cls := "TracePeaksModel", name := "number", desc := "(II)I" } : Jvm.MethodName)) ∈ lw_all := lw_g (lw_at lw_m8 95 rfl) rfl
theorem q1895 : (Jvm.Cond.code ({ cls := "TracePeaksModel", name := "number", desc := "(II)I" } : Jvm.MethodName) prog_17_method_18_code (4 : Nat) (Option.some Jvm.ClassFile.FieldType.int)) ∈ lw_all := lw_g (lw_at lw_m8 96 rfl) rfl
theorem q1896 : (Jvm.Cond.methodLink "TracePeaksModel" (199 : Nat) ({ cls := "TracePeaksModel", name := "readLine", desc := "()V" } : Jvm.MethodName)) ∈ lw_all := lw_g (lw_at lw_m8 97 rfl) rfl
theorem q1897 : (Jvm.Cond.privateMethod ({ cls := "TracePeaksModel", name := "readLine", desc := "()V" } : Jvm.MethodName)) ∈ lw_tbl := lw_at lw_m8 98 rfl
theorem q1898 : (Jvm.Cond.instanceMethod ({ cls := "TracePeaksModel", name := "readLine", desc := "()V" } : Jvm.MethodName)) ∈ lw_all := lw_g (lw_at lw_m8 99 rfl) rfl
theorem q1899 : (Jvm.Cond.code ({ cls := "TracePeaksModel", name := "readLine", desc := "()V" } : Jvm.MethodName) prog_17_method_20_code (3 : Nat) (Option.none : Option Jvm.ClassFile.FieldType)) ∈ lw_all := lw_g (lw_at lw_m8 100 rfl) rfl
theorem q1900 : (Jvm.Cond.methodLink "TracePeaksModel" (251 : Nat) ({ cls := "TracePeaksModel", name := "readScript", desc := "(I)I" } : Jvm.MethodName)) ∈ lw_all := lw_g (lw_at lw_m8 101 rfl) rfl
theorem q1901 : (Jvm.Cond.privateMethod ({ cls := "TracePeaksModel", name := "readScript", desc := "(I)I" } : Jvm.MethodName)) ∈ lw_tbl := lw_at lw_m8 102 rfl
theorem q1902 : (Jvm.Cond.instanceMethod ({ cls := "TracePeaksModel", name := "readScript", desc := "(I)I" } : Jvm.MethodName)) ∈ lw_all := lw_g (lw_at lw_m8 103 rfl) rfl
theorem q1903 : (Jvm.Cond.code ({ cls := "TracePeaksModel", name := "readScript", desc := "(I)I" } : Jvm.MethodName) prog_17_method_27_code (3 : Nat) (Option.some Jvm.ClassFile.FieldType.int)) ∈ lw_all := lw_g (lw_at lw_m8 104 rfl) rfl
theorem q1904 : (Jvm.Cond.methodLink "TracePeaksModel" (244 : Nat) ({ cls := "TracePeaksModel", name := "readStep", desc := "(I)V" } : Jvm.MethodName)) ∈ lw_all := lw_g (lw_at lw_m8 105 rfl) rfl
theorem q1905 : (Jvm.Cond.privateMethod ({ cls := "TracePeaksModel", name := "readStep", desc := "(I)V" } : Jvm.MethodName)) ∈ lw_tbl := lw_at lw_m8 106 rfl
theorem q1906 : (Jvm.Cond.instanceMethod ({ cls := "TracePeaksModel", name := "readStep", desc := "(I)V" } : Jvm.MethodName)) ∈ lw_all := lw_g (lw_at lw_m8 107 rfl) rfl
theorem q1907 : (Jvm.Cond.code ({ cls := "TracePeaksModel", name := "readStep", desc := "(I)V" } : Jvm.MethodName) prog_17_method_26_code (4 : Nat) (Option.none : Option Jvm.ClassFile.FieldType)) ∈ lw_all := lw_g (lw_at lw_m8 108 rfl) rfl
theorem q1908 : (Jvm.Cond.methodLink "TracePeaksModel" (236 : Nat) ({ cls := "TracePeaksModel", name := "wordOf", desc := "(I)J" } : Jvm.MethodName)) ∈ lw_all := lw_g (lw_at lw_m8 109 rfl) rfl
theorem q1909 : (Jvm.Cond.static ({ cls := "TracePeaksModel", name := "wordOf", desc := "(I)J" } : Jvm.MethodName)) ∈ lw_all := lw_g (lw_at lw_m8 110 rfl) rfl
theorem q1910 : (Jvm.Cond.code ({ cls := "TracePeaksModel", name := "wordOf", desc := "(I)J" } : Jvm.MethodName) prog_17_method_24_code (1 : Nat) (Option.some Jvm.ClassFile.FieldType.long)) ∈ lw_all := lw_g (lw_at lw_m8 111 rfl) rfl
theorem q1911 : (Jvm.Cond.fieldLink "TracePeaksModel" (209 : Nat) "TracePeaksModel" "W_SMOOTH" "J") ∈ lw_all := lw_g (lw_at lw_m8 112 rfl) rfl
theorem q1912 : (Jvm.Cond.laysStatic "TracePeaksModel" "W_SMOOTH" "J") ∈ lw_tbl := lw_at lw_m8 113 rfl
theorem q1913 : (Jvm.Cond.fieldLink "TracePeaksModel" (212 : Nat) "TracePeaksModel" "W_MEDIAN" "J") ∈ lw_all := lw_g (lw_at lw_m8 114 rfl) rfl
theorem q1914 : (Jvm.Cond.laysStatic "TracePeaksModel" "W_MEDIAN" "J") ∈ lw_tbl := lw_at lw_m8 115 rfl
theorem q1915 : (Jvm.Cond.fieldLink "TracePeaksModel" (215 : Nat) "TracePeaksModel" "W_FLAT" "J") ∈ lw_all := lw_g (lw_at lw_m8 116 rfl) rfl
theorem q1916 : (Jvm.Cond.laysStatic "TracePeaksModel" "W_FLAT" "J") ∈ lw_tbl := lw_at lw_m8 117 rfl
theorem q1917 : (Jvm.Cond.fieldLink "TracePeaksModel" (218 : Nat) "TracePeaksModel" "W_TURN" "J") ∈ lw_all := lw_g (lw_at lw_m8 118 rfl) rfl
theorem q1918 : (Jvm.Cond.laysStatic "TracePeaksModel" "W_TURN" "J") ∈ lw_tbl := lw_at lw_m8 119 rfl
theorem q1919 : (Jvm.Cond.fieldLink "TracePeaksModel" (221 : Nat) "TracePeaksModel" "W_CLIP" "J") ∈ lw_all := lw_g (lw_at lw_m8 120 rfl) rfl
theorem q1920 : (Jvm.Cond.laysStatic "TracePeaksModel" "W_CLIP" "J") ∈ lw_tbl := lw_at lw_m8 121 rfl
theorem q1921 : (Jvm.Cond.fieldLink "TracePeaksModel" (224 : Nat) "TracePeaksModel" "W_LIFT" "J") ∈ lw_all := lw_g (lw_at lw_m8 122 rfl) rfl
theorem q1922 : (Jvm.Cond.laysStatic "TracePeaksModel" "W_LIFT" "J") ∈ lw_tbl := lw_at lw_m8 123 rfl
theorem q1923 : (Jvm.Cond.fieldLink "TracePeaksModel" (227 : Nat) "TracePeaksModel" "W_SCALE" "J") ∈ lw_all := lw_g (lw_at lw_m8 124 rfl) rfl
theorem q1924 : (Jvm.Cond.laysStatic "TracePeaksModel" "W_SCALE" "J") ∈ lw_tbl := lw_at lw_m8 125 rfl
theorem q1925 : (Jvm.Cond.fieldLink "TracePeaksModel" (230 : Nat) "TracePeaksModel" "W_SET" "J") ∈ lw_all := lw_g (lw_at lw_m8 126 rfl) rfl
theorem q1926 : (Jvm.Cond.laysStatic "TracePeaksModel" "W_SET" "J") ∈ lw_tbl := lw_at lw_m8 127 rfl
theorem q1927 : (Jvm.Cond.fieldLink "TracePeaksModel" (233 : Nat) "TracePeaksModel" "W_CUT" "J") ∈ lw_all := lw_g (lw_at lw_m8 128 rfl) rfl
theorem q1928 : (Jvm.Cond.laysStatic "TracePeaksModel" "W_CUT" "J") ∈ lw_tbl := lw_at lw_m8 129 rfl
theorem q1929 : (Jvm.Cond.constant "TracePeaksModel" (240 : Nat) (-1000000 : Int32)) ∈ lw_all := lw_g (lw_at lw_m8 130 rfl) rfl
theorem q1930 : (Jvm.Cond.methodLink "TracePeaksModel" (241 : Nat) ({ cls := "TracePeaksModel", name := "numbersOf", desc := "(I)I" } : Jvm.MethodName)) ∈ lw_all := lw_g (lw_at lw_m8 131 rfl) rfl
theorem q1931 : (Jvm.Cond.static ({ cls := "TracePeaksModel", name := "numbersOf", desc := "(I)I" } : Jvm.MethodName)) ∈ lw_all := lw_g (lw_at lw_m8 132 rfl) rfl
theorem q1932 : (Jvm.Cond.code ({ cls := "TracePeaksModel", name := "numbersOf", desc := "(I)I" } : Jvm.MethodName) prog_17_method_25_code (1 : Nat) (Option.some Jvm.ClassFile.FieldType.int)) ∈ lw_all := lw_g (lw_at lw_m8 133 rfl) rfl
theorem q1934 : (Jvm.Cond.instanceMethod ({ cls := "TracePeaksModel", name := "text", desc := "(I)I" } : Jvm.MethodName)) ∈ lw_all := lw_g (lw_at lw_m8 135 rfl) rfl
theorem q1935 : (Jvm.Cond.selects "TracePeaksModel" ({ cls := "TracePeaksModel", name := "text", desc := "(I)I" } : Jvm.MethodName) ({ cls := "TracePeaksModel", name := "text", desc := "(I)I" } : Jvm.MethodName)) ∈ lw_all := lw_g (lw_at lw_m8 136 rfl) rfl
theorem q1936 : (Jvm.Cond.code ({ cls := "TracePeaksModel", name := "text", desc := "(I)I" } : Jvm.MethodName) prog_17_method_32_code (2 : Nat) (Option.some Jvm.ClassFile.FieldType.int)) ∈ lw_all := lw_g (lw_at lw_m8 137 rfl) rfl
theorem q1937 : (Jvm.Cond.methodLink "TracePeaksModel" (272 : Nat) ({ cls := "TracePeaksModel", name := "takeTrace", desc := "()I" } : Jvm.MethodName)) ∈ lw_all := lw_g (lw_at lw_m8 138 rfl) rfl
theorem q1938 : (Jvm.Cond.privateMethod ({ cls := "TracePeaksModel", name := "takeTrace", desc := "()I" } : Jvm.MethodName)) ∈ lw_tbl := lw_at lw_m8 139 rfl
theorem q1939 : (Jvm.Cond.instanceMethod ({ cls := "TracePeaksModel", name := "takeTrace", desc := "()I" } : Jvm.MethodName)) ∈ lw_all := lw_g (lw_at lw_m8 140 rfl) rfl
theorem q1940 : (Jvm.Cond.code ({ cls := "TracePeaksModel", name := "takeTrace", desc := "()I" } : Jvm.MethodName) prog_17_method_31_code (2 : Nat) (Option.some Jvm.ClassFile.FieldType.int)) ∈ lw_all := lw_g (lw_at lw_m8 141 rfl) rfl
theorem q1941 : (Jvm.Cond.methodLink "TracePeaksModel" (257 : Nat) ({ cls := "TracePeaksModel", name := "many", desc := "()I" } : Jvm.MethodName)) ∈ lw_all := lw_g (lw_at lw_m8 142 rfl) rfl
theorem q1942 : (Jvm.Cond.privateMethod ({ cls := "TracePeaksModel", name := "many", desc := "()I" } : Jvm.MethodName)) ∈ lw_tbl := lw_at lw_m8 143 rfl
theorem q1943 : (Jvm.Cond.instanceMethod ({ cls := "TracePeaksModel", name := "many", desc := "()I" } : Jvm.MethodName)) ∈ lw_all := lw_g (lw_at lw_m8 144 rfl) rfl
theorem q1944 : (Jvm.Cond.code ({ cls := "TracePeaksModel", name := "many", desc := "()I" } : Jvm.MethodName) prog_17_method_29_code (1 : Nat) (Option.some Jvm.ClassFile.FieldType.int)) ∈ lw_all := lw_g (lw_at lw_m8 145 rfl) rfl
theorem q1946 : (Jvm.Cond.instanceMethod ({ cls := "TracePeaksModel", name := "smooth", desc := "()I" } : Jvm.MethodName)) ∈ lw_all := lw_g (lw_at lw_m8 147 rfl) rfl
theorem q1947 : (Jvm.Cond.selects "TracePeaksModel" ({ cls := "TracePeaksModel", name := "smooth", desc := "()I" } : Jvm.MethodName) ({ cls := "TracePeaksModel", name := "smooth", desc := "()I" } : Jvm.MethodName)) ∈ lw_all := lw_g (lw_at lw_m8 148 rfl) rfl
theorem q1948 : (Jvm.Cond.code ({ cls := "TracePeaksModel", name := "smooth", desc := "()I" } : Jvm.MethodName) prog_17_method_74_code (1 : Nat) (Option.some Jvm.ClassFile.FieldType.int)) ∈ lw_all := lw_g (lw_at lw_m8 149 rfl) rfl
theorem q1949 : (Jvm.Cond.methodLink "TracePeaksModel" (413 : Nat) ({ cls := "TracePeaksModel", name := "hand", desc := "(III)I" } : Jvm.MethodName)) ∈ lw_all := lw_g (lw_at lw_m8 150 rfl) rfl
theorem q1950 : (Jvm.Cond.privateMethod ({ cls := "TracePeaksModel", name := "hand", desc := "(III)I" } : Jvm.MethodName)) ∈ lw_tbl := lw_at lw_m8 151 rfl
theorem q1951 : (Jvm.Cond.instanceMethod ({ cls := "TracePeaksModel", name := "hand", desc := "(III)I" } : Jvm.MethodName)) ∈ lw_all := lw_g (lw_at lw_m8 152 rfl) rfl
theorem q1952 : (Jvm.Cond.code ({ cls := "TracePeaksModel", name := "hand", desc := "(III)I" } : Jvm.MethodName) prog_17_method_73_code (5 : Nat) (Option.some Jvm.ClassFile.FieldType.int)) ∈ lw_all := lw_g (lw_at lw_m8 153 rfl) rfl
theorem q1953 : (Jvm.Cond.methodLink "TracePeaksModel" (407 : Nat) ({ cls := "TracePeaksModel", name := "whyNot", desc := "(III)I" } : Jvm.MethodName)) ∈ lw_all := lw_g (lw_at lw_m8 154 rfl) rfl
theorem q1954 : (Jvm.Cond.privateMethod ({ cls := "TracePeaksModel", name := "whyNot", desc := "(III)I" } : Jvm.MethodName)) ∈ lw_tbl := lw_at lw_m8 155 rfl
theorem q1955 : (Jvm.Cond.instanceMethod ({ cls := "TracePeaksModel", name := "whyNot", desc := "(III)I" } : Jvm.MethodName)) ∈ lw_all := lw_g (lw_at lw_m8 156 rfl) rfl
theorem q1956 : (Jvm.Cond.code ({ cls := "TracePeaksModel", name := "whyNot", desc := "(III)I" } : Jvm.MethodName) prog_17_method_68_code (4 : Nat) (Option.some Jvm.ClassFile.FieldType.int)) ∈ lw_all := lw_g (lw_at lw_m8 157 rfl) rfl
theorem q1957 : (Jvm.Cond.methodLink "TracePeaksModel" (366 : Nat) ({ cls := "TracePeaksModel", name := "isPlace", desc := "(I)Z" } : Jvm.MethodName)) ∈ lw_all := lw_g (lw_at lw_m8 158 rfl) rfl
theorem q1958 : (Jvm.Cond.privateMethod ({ cls := "TracePeaksModel", name := "isPlace", desc := "(I)Z" } : Jvm.MethodName)) ∈ lw_tbl := lw_at lw_m8 159 rfl
theorem q1959 : (Jvm.Cond.instanceMethod ({ cls := "TracePeaksModel", name := "isPlace", desc := "(I)Z" } : Jvm.MethodName)) ∈ lw_all := lw_g (lw_at lw_m8 160 rfl) rfl
theorem q1960 : (Jvm.Cond.code ({ cls := "TracePeaksModel", name := "isPlace", desc := "(I)Z" } : Jvm.MethodName) prog_17_method_30_code (2 : Nat) (Option.some Jvm.ClassFile.FieldType.boolean)) ∈ lw_all := lw_g (lw_at lw_m8 161 rfl) rfl
theorem q1961 : (Jvm.Cond.methodLink "TracePeaksModel" (410 : Nat) ({ cls := "TracePeaksModel", name := "act", desc := "(III)I" } : Jvm.MethodName)) ∈ lw_all := lw_g (lw_at lw_m8 162 rfl) rfl
theorem q1962 : (Jvm.Cond.privateMethod ({ cls := "TracePeaksModel", name := "act", desc := "(III)I" } : Jvm.MethodName)) ∈ lw_tbl := lw_at lw_m8 163 rfl
theorem q1963 : (Jvm.Cond.instanceMethod ({ cls := "TracePeaksModel", name := "act", desc := "(III)I" } : Jvm.MethodName)) ∈ lw_all := lw_g (lw_at lw_m8 164 rfl) rfl
theorem q1964 : (Jvm.Cond.code ({ cls := "TracePeaksModel", name := "act", desc := "(III)I" } : Jvm.MethodName) prog_17_method_72_code (5 : Nat) (Option.some Jvm.ClassFile.FieldType.int)) ∈ lw_all := lw_g (lw_at lw_m8 165 rfl) rfl
theorem q1965 : (Jvm.Cond.methodLink "TracePeaksModel" (397 : Nat) ({ cls := "TracePeaksModel", name := "keep", desc := "()V" } : Jvm.MethodName)) ∈ lw_all := lw_g (lw_at lw_m8 166 rfl) rfl
theorem q1966 : (Jvm.Cond.privateMethod ({ cls := "TracePeaksModel", name := "keep", desc := "()V" } : Jvm.MethodName)) ∈ lw_tbl := lw_at lw_m8 167 rfl
theorem q1967 : (Jvm.Cond.instanceMethod ({ cls := "TracePeaksModel", name := "keep", desc := "()V" } : Jvm.MethodName)) ∈ lw_all := lw_g (lw_at lw_m8 168 rfl) rfl
theorem q1968 : (Jvm.Cond.code ({ cls := "TracePeaksModel", name := "keep", desc := "()V" } : Jvm.MethodName) prog_17_method_70_code (2 : Nat) (Option.none : Option Jvm.ClassFile.FieldType)) ∈ lw_all := lw_g (lw_at lw_m8 169 rfl) rfl
theorem q1969 : (Jvm.Cond.methodLink "TracePeaksModel" (400 : Nat) ({ cls := "TracePeaksModel", name := "doNow", desc := "(III)I" } : Jvm.MethodName)) ∈ lw_all := lw_g (lw_at lw_m8 170 rfl) rfl
theorem q1970 : (Jvm.Cond.privateMethod ({ cls := "TracePeaksModel", name := "doNow", desc := "(III)I" } : Jvm.MethodName)) ∈ lw_tbl := lw_at lw_m8 171 rfl
theorem q1971 : (Jvm.Cond.instanceMethod ({ cls := "TracePeaksModel", name := "doNow", desc := "(III)I" } : Jvm.MethodName)) ∈ lw_all := lw_g (lw_at lw_m8 172 rfl) rfl
theorem q1972 : (Jvm.Cond.code ({ cls := "TracePeaksModel", name := "doNow", desc := "(III)I" } : Jvm.MethodName) prog_17_method_69_code (5 : Nat) (Option.some Jvm.ClassFile.FieldType.int)) ∈ lw_all := lw_g (lw_at lw_m8 173 rfl) rfl
theorem q1973 : (Jvm.Cond.methodLink "TracePeaksModel" (369 : Nat) ({ cls := "TracePeaksModel", name := "blends", desc := "(Z)V" } : Jvm.MethodName)) ∈ lw_all := lw_g (lw_at lw_m8 174 rfl) rfl
theorem q1974 : (Jvm.Cond.privateMethod ({ cls := "TracePeaksModel", name := "blends", desc := "(Z)V" } : Jvm.MethodName)) ∈ lw_tbl := lw_at lw_m8 175 rfl
theorem q1975 : (Jvm.Cond.instanceMethod ({ cls := "TracePeaksModel", name := "blends", desc := "(Z)V" } : Jvm.MethodName)) ∈ lw_all := lw_g (lw_at lw_m8 176 rfl) rfl
theorem q1976 : (Jvm.Cond.code ({ cls := "TracePeaksModel", name := "blends", desc := "(Z)V" } : Jvm.MethodName) prog_17_method_57_code (5 : Nat) (Option.none : Option Jvm.ClassFile.FieldType)) ∈ lw_all := lw_g (lw_at lw_m8 177 rfl) rfl
theorem q1977 : (Jvm.Cond.methodLink "TracePeaksModel" (350 : Nat) ({ cls := "TracePeaksModel", name := "keepWas", desc := "()V" } : Jvm.MethodName)) ∈ lw_all := lw_g (lw_at lw_m8 178 rfl) rfl
theorem q1978 : (Jvm.Cond.privateMethod ({ cls := "TracePeaksModel", name := "keepWas", desc := "()V" } : Jvm.MethodName)) ∈ lw_tbl := lw_at lw_m8 179 rfl
theorem q1979 : (Jvm.Cond.instanceMethod ({ cls := "TracePeaksModel", name := "keepWas", desc := "()V" } : Jvm.MethodName)) ∈ lw_all := lw_g (lw_at lw_m8 180 rfl) rfl
theorem q1980 : (Jvm.Cond.code ({ cls := "TracePeaksModel", name := "keepWas", desc := "()V" } : Jvm.MethodName) prog_17_method_55_code (2 : Nat) (Option.none : Option Jvm.ClassFile.FieldType)) ∈ lw_all := lw_g (lw_at lw_m8 181 rfl) rfl
theorem q1981 : (Jvm.Cond.methodLink "TracePeaksModel" (289 : Nat) ({ cls := "java/lang/Math", name := "max", desc := "(II)I" } : Jvm.MethodName)) ∈ lw_all := lw_g (lw_at lw_m8 182 rfl) rfl
theorem q1982 : (Jvm.Cond.methodLink "TracePeaksModel" (284 : Nat) ({ cls := "java/lang/Math", name := "min", desc := "(II)I" } : Jvm.MethodName)) ∈ lw_all := lw_g (lw_at lw_m8 183 rfl) rfl
theorem q1983 : (Jvm.Cond.methodLink "TracePeaksModel" (353 : Nat) ({ cls := "TracePeaksModel", name := "middle", desc := "(III)I" } : Jvm.MethodName)) ∈ lw_all := lw_g (lw_at lw_m8 184 rfl) rfl
theorem q1984 : (Jvm.Cond.static ({ cls := "TracePeaksModel", name := "middle", desc := "(III)I" } : Jvm.MethodName)) ∈ lw_all := lw_g (lw_at lw_m8 185 rfl) rfl
theorem q1985 : (Jvm.Cond.code ({ cls := "TracePeaksModel", name := "middle", desc := "(III)I" } : Jvm.MethodName) prog_17_method_56_code (3 : Nat) (Option.some Jvm.ClassFile.FieldType.int)) ∈ lw_all := lw_g (lw_at lw_m8 186 rfl) rfl
theorem q1986 : (Jvm.Cond.methodLink "TracePeaksModel" (373 : Nat) ({ cls := "TracePeaksModel", name := "keptNow", desc := "()I" } : Jvm.MethodName)) ∈ lw_all := lw_g (lw_at lw_m8 187 rfl) rfl
theorem q1987 : (Jvm.Cond.privateMethod ({ cls := "TracePeaksModel", name := "keptNow", desc := "()I" } : Jvm.MethodName)) ∈ lw_tbl := lw_at lw_m8 188 rfl
theorem q1988 : (Jvm.Cond.instanceMethod ({ cls := "TracePeaksModel", name := "keptNow", desc := "()I" } : Jvm.MethodName)) ∈ lw_all := lw_g (lw_at lw_m8 189 rfl) rfl
theorem q1989 : (Jvm.Cond.code ({ cls := "TracePeaksModel", name := "keptNow", desc := "()I" } : Jvm.MethodName) prog_17_method_67_code (1 : Nat) (Option.some Jvm.ClassFile.FieldType.int)) ∈ lw_all := lw_g (lw_at lw_m8 190 rfl) rfl
theorem q1990 : (Jvm.Cond.methodLink "TracePeaksModel" (357 : Nat) ({ cls := "TracePeaksModel", name := "finds", desc := "()V" } : Jvm.MethodName)) ∈ lw_all := lw_g (lw_at lw_m8 191 rfl) rfl
theorem q1991 : (Jvm.Cond.privateMethod ({ cls := "TracePeaksModel", name := "finds", desc := "()V" } : Jvm.MethodName)) ∈ lw_tbl := lw_at lw_m8 192 rfl
theorem q1992 : (Jvm.Cond.instanceMethod ({ cls := "TracePeaksModel", name := "finds", desc := "()V" } : Jvm.MethodName)) ∈ lw_all := lw_g (lw_at lw_m8 193 rfl) rfl
theorem q1993 : (Jvm.Cond.code ({ cls := "TracePeaksModel", name := "finds", desc := "()V" } : Jvm.MethodName) prog_17_method_41_code (3 : Nat) (Option.none : Option Jvm.ClassFile.FieldType)) ∈ lw_all := lw_g (lw_at lw_m8 194 rfl) rfl
theorem q1994 : (Jvm.Cond.methodLink "TracePeaksModel" (308 : Nat) ({ cls := "TracePeaksModel", name := "lets", desc := "()V" } : Jvm.MethodName)) ∈ lw_all := lw_g (lw_at lw_m8 195 rfl) rfl
theorem q1995 : (Jvm.Cond.privateMethod ({ cls := "TracePeaksModel", name := "lets", desc := "()V" } : Jvm.MethodName)) ∈ lw_tbl := lw_at lw_m8 196 rfl
theorem q1996 : (Jvm.Cond.instanceMethod ({ cls := "TracePeaksModel", name := "lets", desc := "()V" } : Jvm.MethodName)) ∈ lw_all := lw_g (lw_at lw_m8 197 rfl) rfl
theorem q1997 : (Jvm.Cond.code ({ cls := "TracePeaksModel", name := "lets", desc := "()V" } : Jvm.MethodName) prog_17_method_39_code (5 : Nat) (Option.none : Option Jvm.ClassFile.FieldType)) ∈ lw_all := lw_g (lw_at lw_m8 198 rfl) rfl
theorem q1998 : (Jvm.Cond.methodLink "TracePeaksModel" (292 : Nat) ({ cls := "TracePeaksModel", name := "nextBehind", desc := "(I)I" } : Jvm.MethodName)) ∈ lw_all := lw_g (lw_at lw_m8 199 rfl) rfl
theorem q1999 : (Jvm.Cond.privateMethod ({ cls := "TracePeaksModel", name := "nextBehind", desc := "(I)I" } : Jvm.MethodName)) ∈ lw_tbl := lw_at lw_m8 200 rfl
theorem q2000 : (Jvm.Cond.instanceMethod ({ cls := "TracePeaksModel", name := "nextBehind", desc := "(I)I" } : Jvm.MethodName)) ∈ lw_all := lw_g (lw_at lw_m8 201 rfl) rfl
theorem q2001 : (Jvm.Cond.code ({ cls := "TracePeaksModel", name := "nextBehind", desc := "(I)I" } : Jvm.MethodName) prog_17_method_34_code (5 : Nat) (Option.some Jvm.ClassFile.FieldType.int)) ∈ lw_all := lw_g (lw_at lw_m8 202 rfl) rfl
theorem q2002 : (Jvm.Cond.methodLink "TracePeaksModel" (278 : Nat) ({ cls := "TracePeaksModel", name := "isAhead", desc := "(II)Z" } : Jvm.MethodName)) ∈ lw_all := lw_g (lw_at lw_m8 203 rfl) rfl
theorem q2003 : (Jvm.Cond.privateMethod ({ cls := "TracePeaksModel", name := "isAhead", desc := "(II)Z" } : Jvm.MethodName)) ∈ lw_tbl := lw_at lw_m8 204 rfl
theorem q2004 : (Jvm.Cond.instanceMethod ({ cls := "TracePeaksModel", name := "isAhead", desc := "(II)Z" } : Jvm.MethodName)) ∈ lw_all := lw_g (lw_at lw_m8 205 rfl) rfl
theorem q2005 : (Jvm.Cond.code ({ cls := "TracePeaksModel", name := "isAhead", desc := "(II)Z" } : Jvm.MethodName) prog_17_method_33_code (3 : Nat) (Option.some Jvm.ClassFile.FieldType.boolean)) ∈ lw_all := lw_g (lw_at lw_m8 206 rfl) rfl
theorem q2006 : (Jvm.Cond.methodLink "TracePeaksModel" (295 : Nat) ({ cls := "TracePeaksModel", name := "belongsAt", desc := "(I)I" } : Jvm.MethodName)) ∈ lw_all := lw_g (lw_at lw_m8 207 rfl) rfl
theorem q2007 : (Jvm.Cond.privateMethod ({ cls := "TracePeaksModel", name := "belongsAt", desc := "(I)I" } : Jvm.MethodName)) ∈ lw_tbl := lw_at lw_m8 208 rfl
theorem q2008 : (Jvm.Cond.instanceMethod ({ cls := "TracePeaksModel", name := "belongsAt", desc := "(I)I" } : Jvm.MethodName)) ∈ lw_all := lw_g (lw_at lw_m8 209 rfl) rfl
theorem q2009 : (Jvm.Cond.code ({ cls := "TracePeaksModel", name := "belongsAt", desc := "(I)I" } : Jvm.MethodName) prog_17_method_35_code (2 : Nat) (Option.some Jvm.ClassFile.FieldType.int)) ∈ lw_all := lw_g (lw_at lw_m8 210 rfl) rfl
theorem q2010 : (Jvm.Cond.methodLink "TracePeaksModel" (298 : Nat) ({ cls := "TracePeaksModel", name := "beginsAt", desc := "(I)V" } : Jvm.MethodName)) ∈ lw_all := lw_g (lw_at lw_m8 211 rfl) rfl
theorem q2011 : (Jvm.Cond.privateMethod ({ cls := "TracePeaksModel", name := "beginsAt", desc := "(I)V" } : Jvm.MethodName)) ∈ lw_tbl := lw_at lw_m8 212 rfl
theorem q2012 : (Jvm.Cond.instanceMethod ({ cls := "TracePeaksModel", name := "beginsAt", desc := "(I)V" } : Jvm.MethodName)) ∈ lw_all := lw_g (lw_at lw_m8 213 rfl) rfl
theorem q2013 : (Jvm.Cond.code ({ cls := "TracePeaksModel", name := "beginsAt", desc := "(I)V" } : Jvm.MethodName) prog_17_method_36_code (2 : Nat) (Option.none : Option Jvm.ClassFile.FieldType)) ∈ lw_all := lw_g (lw_at lw_m8 214 rfl) rfl
theorem q2014 : (Jvm.Cond.methodLink "TracePeaksModel" (301 : Nat) ({ cls := "TracePeaksModel", name := "joins", desc := "(III)V" } : Jvm.MethodName)) ∈ lw_all := lw_g (lw_at lw_m8 215 rfl) rfl
theorem q2015 : (Jvm.Cond.privateMethod ({ cls := "TracePeaksModel", name := "joins", desc := "(III)V" } : Jvm.MethodName)) ∈ lw_tbl := lw_at lw_m8 216 rfl
theorem q2016 : (Jvm.Cond.instanceMethod ({ cls := "TracePeaksModel", name := "joins", desc := "(III)V" } : Jvm.MethodName)) ∈ lw_all := lw_g (lw_at lw_m8 217 rfl) rfl
theorem q2017 : (Jvm.Cond.code ({ cls := "TracePeaksModel", name := "joins", desc := "(III)V" } : Jvm.MethodName) prog_17_method_37_code (7 : Nat) (Option.none : Option Jvm.ClassFile.FieldType)) ∈ lw_all := lw_g (lw_at lw_m8 218 rfl) rfl
theorem q2018 : (Jvm.Cond.methodLink "TracePeaksModel" (305 : Nat) ({ cls := "TracePeaksModel", name := "least", desc := "()I" } : Jvm.MethodName)) ∈ lw_all := lw_g (lw_at lw_m8 219 rfl) rfl
theorem q2019 : (Jvm.Cond.privateMethod ({ cls := "TracePeaksModel", name := "least", desc := "()I" } : Jvm.MethodName)) ∈ lw_tbl := lw_at lw_m8 220 rfl
theorem q2020 : (Jvm.Cond.instanceMethod ({ cls := "TracePeaksModel", name := "least", desc := "()I" } : Jvm.MethodName)) ∈ lw_all := lw_g (lw_at lw_m8 221 rfl) rfl
theorem q2021 : (Jvm.Cond.code ({ cls := "TracePeaksModel", name := "least", desc := "()I" } : Jvm.MethodName) prog_17_method_38_code (3 : Nat) (Option.some Jvm.ClassFile.FieldType.int)) ∈ lw_all := lw_g (lw_at lw_m8 222 rfl) rfl
theorem q2022 : (Jvm.Cond.methodLink "TracePeaksModel" (311 : Nat) ({ cls := "TracePeaksModel", name := "lifeOf", desc := "(I)I" } : Jvm.MethodName)) ∈ lw_all := lw_g (lw_at lw_m8 223 rfl) rfl
theorem q2023 : (Jvm.Cond.privateMethod ({ cls := "TracePeaksModel", name := "lifeOf", desc := "(I)I" } : Jvm.MethodName)) ∈ lw_tbl := lw_at lw_m8 224 rfl
theorem q2024 : (Jvm.Cond.instanceMethod ({ cls := "TracePeaksModel", name := "lifeOf", desc := "(I)I" } : Jvm.MethodName)) ∈ lw_all := lw_g (lw_at lw_m8 225 rfl) rfl
theorem q2025 : (Jvm.Cond.code ({ cls := "TracePeaksModel", name := "lifeOf", desc := "(I)I" } : Jvm.MethodName) prog_17_method_40_code (2 : Nat) (Option.some Jvm.ClassFile.FieldType.int)) ∈ lw_all := lw_g (lw_at lw_m8 226 rfl) rfl
theorem q2026 : (Jvm.Cond.methodLink "TracePeaksModel" (317 : Nat) ({ cls := "TracePeaksModel", name := "matches", desc := "(I)V" } : Jvm.MethodName)) ∈ lw_all := lw_g (lw_at lw_m8 227 rfl) rfl
theorem q2027 : (Jvm.Cond.privateMethod ({ cls := "TracePeaksModel", name := "matches", desc := "(I)V" } : Jvm.MethodName)) ∈ lw_tbl := lw_at lw_m8 228 rfl
theorem q2028 : (Jvm.Cond.instanceMethod ({ cls := "TracePeaksModel", name := "matches", desc := "(I)V" } : Jvm.MethodName)) ∈ lw_all := lw_g (lw_at lw_m8 229 rfl) rfl
theorem q2029 : (Jvm.Cond.code ({ cls := "TracePeaksModel", name := "matches", desc := "(I)V" } : Jvm.MethodName) prog_17_method_46_code (6 : Nat) (Option.none : Option Jvm.ClassFile.FieldType)) ∈ lw_all := lw_g (lw_at lw_m8 230 rfl) rfl
theorem q2030 : (Jvm.Cond.methodLink "TracePeaksModel" (320 : Nat) ({ cls := "TracePeaksModel", name := "placeOf", desc := "(I)I" } : Jvm.MethodName)) ∈ lw_all := lw_g (lw_at lw_m8 231 rfl) rfl
theorem q2031 : (Jvm.Cond.privateMethod ({ cls := "TracePeaksModel", name := "placeOf", desc := "(I)I" } : Jvm.MethodName)) ∈ lw_tbl := lw_at lw_m8 232 rfl
theorem q2032 : (Jvm.Cond.instanceMethod ({ cls := "TracePeaksModel", name := "placeOf", desc := "(I)I" } : Jvm.MethodName)) ∈ lw_all := lw_g (lw_at lw_m8 233 rfl) rfl
theorem q2033 : (Jvm.Cond.code ({ cls := "TracePeaksModel", name := "placeOf", desc := "(I)I" } : Jvm.MethodName) prog_17_method_42_code (2 : Nat) (Option.some Jvm.ClassFile.FieldType.int)) ∈ lw_all := lw_g (lw_at lw_m8 234 rfl) rfl
theorem q2034 : (Jvm.Cond.methodLink "TracePeaksModel" (326 : Nat) ({ cls := "TracePeaksModel", name := "apart", desc := "(II)I" } : Jvm.MethodName)) ∈ lw_all := lw_g (lw_at lw_m8 235 rfl) rfl
theorem q2035 : (Jvm.Cond.static ({ cls := "TracePeaksModel", name := "apart", desc := "(II)I" } : Jvm.MethodName)) ∈ lw_all := lw_g (lw_at lw_m8 236 rfl) rfl
theorem q2036 : (Jvm.Cond.code ({ cls := "TracePeaksModel", name := "apart", desc := "(II)I" } : Jvm.MethodName) prog_17_method_3_code (2 : Nat) (Option.some Jvm.ClassFile.FieldType.int)) ∈ lw_all := lw_g (lw_at lw_m8 237 rfl) rfl
theorem q2037 : (Jvm.Cond.methodLink "TracePeaksModel" (376 : Nat) ({ cls := "TracePeaksModel", name := "flattens", desc := "()I" } : Jvm.MethodName)) ∈ lw_all := lw_g (lw_at lw_m8 238 rfl) rfl
theorem q2038 : (Jvm.Cond.privateMethod ({ cls := "TracePeaksModel", name := "flattens", desc := "()I" } : Jvm.MethodName)) ∈ lw_tbl := lw_at lw_m8 239 rfl
theorem q2039 : (Jvm.Cond.instanceMethod ({ cls := "TracePeaksModel", name := "flattens", desc := "()I" } : Jvm.MethodName)) ∈ lw_all := lw_g (lw_at lw_m9 0 rfl) rfl
theorem q2040 : (Jvm.Cond.code ({ cls := "TracePeaksModel", name := "flattens", desc := "()I" } : Jvm.MethodName) prog_17_method_59_code (7 : Nat) (Option.some Jvm.ClassFile.FieldType.int)) ∈ lw_all := lw_g (lw_at lw_m9 1 rfl) rfl
theorem q2041 : (Jvm.Cond.methodLink "TracePeaksModel" (360 : Nat) ({ cls := "TracePeaksModel", name := "fell", desc := "()I" } : Jvm.MethodName)) ∈ lw_all := lw_g (lw_at lw_m9 2 rfl) rfl
theorem q2042 : (Jvm.Cond.privateMethod ({ cls := "TracePeaksModel", name := "fell", desc := "()I" } : Jvm.MethodName)) ∈ lw_tbl := lw_at lw_m9 3 rfl
theorem q2043 : (Jvm.Cond.instanceMethod ({ cls := "TracePeaksModel", name := "fell", desc := "()I" } : Jvm.MethodName)) ∈ lw_all := lw_g (lw_at lw_m9 4 rfl) rfl
theorem q2044 : (Jvm.Cond.code ({ cls := "TracePeaksModel", name := "fell", desc := "()I" } : Jvm.MethodName) prog_17_method_58_code (3 : Nat) (Option.some Jvm.ClassFile.FieldType.int)) ∈ lw_all := lw_g (lw_at lw_m9 5 rfl) rfl
theorem q2045 : (Jvm.Cond.methodLink "TracePeaksModel" (379 : Nat) ({ cls := "TracePeaksModel", name := "turns", desc := "()I" } : Jvm.MethodName)) ∈ lw_all := lw_g (lw_at lw_m9 6 rfl) rfl
theorem q2046 : (Jvm.Cond.privateMethod ({ cls := "TracePeaksModel", name := "turns", desc := "()I" } : Jvm.MethodName)) ∈ lw_tbl := lw_at lw_m9 7 rfl
theorem q2047 : (Jvm.Cond.instanceMethod ({ cls := "TracePeaksModel", name := "turns", desc := "()I" } : Jvm.MethodName)) ∈ lw_all := lw_g (lw_at lw_m9 8 rfl) rfl
theorem q2048 : (Jvm.Cond.code ({ cls := "TracePeaksModel", name := "turns", desc := "()I" } : Jvm.MethodName) prog_17_method_61_code (2 : Nat) (Option.some Jvm.ClassFile.FieldType.int)) ∈ lw_all := lw_g (lw_at lw_m9 9 rfl) rfl
theorem q2049 : (Jvm.Cond.methodLink "TracePeaksModel" (382 : Nat) ({ cls := "TracePeaksModel", name := "clips", desc := "(I)I" } : Jvm.MethodName)) ∈ lw_all := lw_g (lw_at lw_m9 10 rfl) rfl
theorem q2050 : (Jvm.Cond.privateMethod ({ cls := "TracePeaksModel", name := "clips", desc := "(I)I" } : Jvm.MethodName)) ∈ lw_tbl := lw_at lw_m9 11 rfl
theorem q2051 : (Jvm.Cond.instanceMethod ({ cls := "TracePeaksModel", name := "clips", desc := "(I)I" } : Jvm.MethodName)) ∈ lw_all := lw_g (lw_at lw_m9 12 rfl) rfl
theorem q2052 : (Jvm.Cond.code ({ cls := "TracePeaksModel", name := "clips", desc := "(I)I" } : Jvm.MethodName) prog_17_method_60_code (3 : Nat) (Option.some Jvm.ClassFile.FieldType.int)) ∈ lw_all := lw_g (lw_at lw_m9 13 rfl) rfl
theorem q2053 : (Jvm.Cond.methodLink "TracePeaksModel" (385 : Nat) ({ cls := "TracePeaksModel", name := "lifts", desc := "(I)I" } : Jvm.MethodName)) ∈ lw_all := lw_g (lw_at lw_m9 14 rfl) rfl
theorem q2054 : (Jvm.Cond.privateMethod ({ cls := "TracePeaksModel", name := "lifts", desc := "(I)I" } : Jvm.MethodName)) ∈ lw_tbl := lw_at lw_m9 15 rfl
theorem q2055 : (Jvm.Cond.instanceMethod ({ cls := "TracePeaksModel", name := "lifts", desc := "(I)I" } : Jvm.MethodName)) ∈ lw_all := lw_g (lw_at lw_m9 16 rfl) rfl
theorem q2056 : (Jvm.Cond.code ({ cls := "TracePeaksModel", name := "lifts", desc := "(I)I" } : Jvm.MethodName) prog_17_method_62_code (3 : Nat) (Option.some Jvm.ClassFile.FieldType.int)) ∈ lw_all := lw_g (lw_at lw_m9 17 rfl) rfl
theorem q2057 : (Jvm.Cond.methodLink "TracePeaksModel" (388 : Nat) ({ cls := "TracePeaksModel", name := "scales", desc := "(II)I" } : Jvm.MethodName)) ∈ lw_all := lw_g (lw_at lw_m9 18 rfl) rfl
theorem q2058 : (Jvm.Cond.privateMethod ({ cls := "TracePeaksModel", name := "scales", desc := "(II)I" } : Jvm.MethodName)) ∈ lw_tbl := lw_at lw_m9 19 rfl
theorem q2059 : (Jvm.Cond.instanceMethod ({ cls := "TracePeaksModel", name := "scales", desc := "(II)I" } : Jvm.MethodName)) ∈ lw_all := lw_g (lw_at lw_m9 20 rfl) rfl
theorem q2060 : (Jvm.Cond.code ({ cls := "TracePeaksModel", name := "scales", desc := "(II)I" } : Jvm.MethodName) prog_17_method_64_code (4 : Nat) (Option.some Jvm.ClassFile.FieldType.int)) ∈ lw_all := lw_g (lw_at lw_m9 21 rfl) rfl
theorem q2061 : (Jvm.Cond.methodLink "TracePeaksModel" (363 : Nat) ({ cls := "TracePeaksModel", name := "greatest", desc := "()I" } : Jvm.MethodName)) ∈ lw_all := lw_g (lw_at lw_m9 22 rfl) rfl
theorem q2062 : (Jvm.Cond.privateMethod ({ cls := "TracePeaksModel", name := "greatest", desc := "()I" } : Jvm.MethodName)) ∈ lw_tbl := lw_at lw_m9 23 rfl
theorem q2063 : (Jvm.Cond.instanceMethod ({ cls := "TracePeaksModel", name := "greatest", desc := "()I" } : Jvm.MethodName)) ∈ lw_all := lw_g (lw_at lw_m9 24 rfl) rfl
theorem q2064 : (Jvm.Cond.code ({ cls := "TracePeaksModel", name := "greatest", desc := "()I" } : Jvm.MethodName) prog_17_method_63_code (3 : Nat) (Option.some Jvm.ClassFile.FieldType.int)) ∈ lw_all := lw_g (lw_at lw_m9 25 rfl) rfl
theorem q2065 : (Jvm.Cond.methodLink "TracePeaksModel" (391 : Nat) ({ cls := "TracePeaksModel", name := "sets", desc := "(II)I" } : Jvm.MethodName)) ∈ lw_all := lw_g (lw_at lw_m9 26 rfl) rfl
theorem q2066 : (Jvm.Cond.privateMethod ({ cls := "TracePeaksModel", name := "sets", desc := "(II)I" } : Jvm.MethodName)) ∈ lw_tbl := lw_at lw_m9 27 rfl
theorem q2067 : (Jvm.Cond.instanceMethod ({ cls := "TracePeaksModel", name := "sets", desc := "(II)I" } : Jvm.MethodName)) ∈ lw_all := lw_g (lw_at lw_m9 28 rfl) rfl
theorem q2068 : (Jvm.Cond.code ({ cls := "TracePeaksModel", name := "sets", desc := "(II)I" } : Jvm.MethodName) prog_17_method_65_code (4 : Nat) (Option.some Jvm.ClassFile.FieldType.int)) ∈ lw_all := lw_g (lw_at lw_m9 29 rfl) rfl
theorem q2069 : (Jvm.Cond.methodLink "TracePeaksModel" (394 : Nat) ({ cls := "TracePeaksModel", name := "cuts", desc := "(II)I" } : Jvm.MethodName)) ∈ lw_all := lw_g (lw_at lw_m9 30 rfl) rfl
theorem q2070 : (Jvm.Cond.privateMethod ({ cls := "TracePeaksModel", name := "cuts", desc := "(II)I" } : Jvm.MethodName)) ∈ lw_tbl := lw_at lw_m9 31 rfl
theorem q2071 : (Jvm.Cond.instanceMethod ({ cls := "TracePeaksModel", name := "cuts", desc := "(II)I" } : Jvm.MethodName)) ∈ lw_all := lw_g (lw_at lw_m9 32 rfl) rfl
theorem q2072 : (Jvm.Cond.code ({ cls := "TracePeaksModel", name := "cuts", desc := "(II)I" } : Jvm.MethodName) prog_17_method_66_code (4 : Nat) (Option.some Jvm.ClassFile.FieldType.int)) ∈ lw_all := lw_g (lw_at lw_m9 33 rfl) rfl
theorem q2073 : (Jvm.Cond.methodLink "TracePeaksModel" (403 : Nat) ({ cls := "TracePeaksModel", name := "note", desc := "(II)V" } : Jvm.MethodName)) ∈ lw_all := lw_g (lw_at lw_m9 34 rfl) rfl
theorem q2074 : (Jvm.Cond.privateMethod ({ cls := "TracePeaksModel", name := "note", desc := "(II)V" } : Jvm.MethodName)) ∈ lw_tbl := lw_at lw_m9 35 rfl
theorem q2075 : (Jvm.Cond.instanceMethod ({ cls := "TracePeaksModel", name := "note", desc := "(II)V" } : Jvm.MethodName)) ∈ lw_all := lw_g (lw_at lw_m9 36 rfl) rfl
theorem q2076 : (Jvm.Cond.code ({ cls := "TracePeaksModel", name := "note", desc := "(II)V" } : Jvm.MethodName) prog_17_method_71_code (4 : Nat) (Option.none : Option Jvm.ClassFile.FieldType)) ∈ lw_all := lw_g (lw_at lw_m9 37 rfl) rfl
theorem q2078 : (Jvm.Cond.instanceMethod ({ cls := "TracePeaksModel", name := "median", desc := "()I" } : Jvm.MethodName)) ∈ lw_all := lw_g (lw_at lw_m9 39 rfl) rfl
theorem q2079 : (Jvm.Cond.selects "TracePeaksModel" ({ cls := "TracePeaksModel", name := "median", desc := "()I" } : Jvm.MethodName) ({ cls := "TracePeaksModel", name := "median", desc := "()I" } : Jvm.MethodName)) ∈ lw_all := lw_g (lw_at lw_m9 40 rfl) rfl
theorem q2080 : (Jvm.Cond.code ({ cls := "TracePeaksModel", name := "median", desc := "()I" } : Jvm.MethodName) prog_17_method_75_code (1 : Nat) (Option.some Jvm.ClassFile.FieldType.int)) ∈ lw_all := lw_g (lw_at lw_m9 41 rfl) rfl
theorem q2082 : (Jvm.Cond.instanceMethod ({ cls := "TracePeaksModel", name := "flat", desc := "()I" } : Jvm.MethodName)) ∈ lw_all := lw_g (lw_at lw_m9 43 rfl) rfl
theorem q2083 : (Jvm.Cond.selects "TracePeaksModel" ({ cls := "TracePeaksModel", name := "flat", desc := "()I" } : Jvm.MethodName) ({ cls := "TracePeaksModel", name := "flat", desc := "()I" } : Jvm.MethodName)) ∈ lw_all := lw_g (lw_at lw_m9 44 rfl) rfl
theorem q2084 : (Jvm.Cond.code ({ cls := "TracePeaksModel", name := "flat", desc := "()I" } : Jvm.MethodName) prog_17_method_76_code (1 : Nat) (Option.some Jvm.ClassFile.FieldType.int)) ∈ lw_all := lw_g (lw_at lw_m9 45 rfl) rfl
theorem q2086 : (Jvm.Cond.instanceMethod ({ cls := "TracePeaksModel", name := "turn", desc := "()I" } : Jvm.MethodName)) ∈ lw_all := lw_g (lw_at lw_m9 47 rfl) rfl
theorem q2087 : (Jvm.Cond.selects "TracePeaksModel" ({ cls := "TracePeaksModel", name := "turn", desc := "()I" } : Jvm.MethodName) ({ cls := "TracePeaksModel", name := "turn", desc := "()I" } : Jvm.MethodName)) ∈ lw_all := lw_g (lw_at lw_m9 48 rfl) rfl
theorem q2088 : (Jvm.Cond.code ({ cls := "TracePeaksModel", name := "turn", desc := "()I" } : Jvm.MethodName) prog_17_method_77_code (1 : Nat) (Option.some Jvm.ClassFile.FieldType.int)) ∈ lw_all := lw_g (lw_at lw_m9 49 rfl) rfl
theorem q2090 : (Jvm.Cond.instanceMethod ({ cls := "TracePeaksModel", name := "clip", desc := "(I)I" } : Jvm.MethodName)) ∈ lw_all := lw_g (lw_at lw_m9 51 rfl) rfl
theorem q2091 : (Jvm.Cond.selects "TracePeaksModel" ({ cls := "TracePeaksModel", name := "clip", desc := "(I)I" } : Jvm.MethodName) ({ cls := "TracePeaksModel", name := "clip", desc := "(I)I" } : Jvm.MethodName)) ∈ lw_all := lw_g (lw_at lw_m9 52 rfl) rfl
theorem q2092 : (Jvm.Cond.code ({ cls := "TracePeaksModel", name := "clip", desc := "(I)I" } : Jvm.MethodName) prog_17_method_78_code (2 : Nat) (Option.some Jvm.ClassFile.FieldType.int)) ∈ lw_all := lw_g (lw_at lw_m9 53 rfl) rfl
theorem q2094 : (Jvm.Cond.instanceMethod ({ cls := "TracePeaksModel", name := "lift", desc := "(I)I" } : Jvm.MethodName)) ∈ lw_all := lw_g (lw_at lw_m9 55 rfl) rfl
theorem q2095 : (Jvm.Cond.selects "TracePeaksModel" ({ cls := "TracePeaksModel", name := "lift", desc := "(I)I" } : Jvm.MethodName) ({ cls := "TracePeaksModel", name := "lift", desc := "(I)I" } : Jvm.MethodName)) ∈ lw_all := lw_g (lw_at lw_m9 56 rfl) rfl
theorem q2096 : (Jvm.Cond.code ({ cls := "TracePeaksModel", name := "lift", desc := "(I)I" } : Jvm.MethodName) prog_17_method_79_code (2 : Nat) (Option.some Jvm.ClassFile.FieldType.int)) ∈ lw_all := lw_g (lw_at lw_m9 57 rfl) rfl
theorem q2098 : (Jvm.Cond.instanceMethod ({ cls := "TracePeaksModel", name := "scale", desc := "(II)I" } : Jvm.MethodName)) ∈ lw_all := lw_g (lw_at lw_m9 59 rfl) rfl
theorem q2099 : (Jvm.Cond.selects "TracePeaksModel" ({ cls := "TracePeaksModel", name := "scale", desc := "(II)I" } : Jvm.MethodName) ({ cls := "TracePeaksModel", name := "scale", desc := "(II)I" } : Jvm.MethodName)) ∈ lw_all := lw_g (lw_at lw_m9 60 rfl) rfl
theorem q2100 : (Jvm.Cond.code ({ cls := "TracePeaksModel", name := "scale", desc := "(II)I" } : Jvm.MethodName) prog_17_method_80_code (3 : Nat) (Option.some Jvm.ClassFile.FieldType.int)) ∈ lw_all := lw_g (lw_at lw_m9 61 rfl) rfl
theorem q2102 : (Jvm.Cond.instanceMethod ({ cls := "TracePeaksModel", name := "set", desc := "(II)I" } : Jvm.MethodName)) ∈ lw_all := lw_g (lw_at lw_m9 63 rfl) rfl
theorem q2103 : (Jvm.Cond.selects "TracePeaksModel" ({ cls := "TracePeaksModel", name := "set", desc := "(II)I" } : Jvm.MethodName) ({ cls := "TracePeaksModel", name := "set", desc := "(II)I" } : Jvm.MethodName)) ∈ lw_all := lw_g (lw_at lw_m9 64 rfl) rfl
theorem q2104 : (Jvm.Cond.code ({ cls := "TracePeaksModel", name := "set", desc := "(II)I" } : Jvm.MethodName) prog_17_method_81_code (3 : Nat) (Option.some Jvm.ClassFile.FieldType.int)) ∈ lw_all := lw_g (lw_at lw_m9 65 rfl) rfl
theorem q2106 : (Jvm.Cond.instanceMethod ({ cls := "TracePeaksModel", name := "noise", desc := "(I)I" } : Jvm.MethodName)) ∈ lw_all := lw_g (lw_at lw_m9 67 rfl) rfl
theorem q2107 : (Jvm.Cond.selects "TracePeaksModel" ({ cls := "TracePeaksModel", name := "noise", desc := "(I)I" } : Jvm.MethodName) ({ cls := "TracePeaksModel", name := "noise", desc := "(I)I" } : Jvm.MethodName)) ∈ lw_all := lw_g (lw_at lw_m9 68 rfl) rfl
theorem q2108 : (Jvm.Cond.code ({ cls := "TracePeaksModel", name := "noise", desc := "(I)I" } : Jvm.MethodName) prog_17_method_82_code (2 : Nat) (Option.some Jvm.ClassFile.FieldType.int)) ∈ lw_all := lw_g (lw_at lw_m9 69 rfl) rfl
theorem q2110 : (Jvm.Cond.instanceMethod ({ cls := "TracePeaksModel", name := "cut", desc := "(II)I" } : Jvm.MethodName)) ∈ lw_all := lw_g (lw_at lw_m9 71 rfl) rfl
theorem q2111 : (Jvm.Cond.selects "TracePeaksModel" ({ cls := "TracePeaksModel", name := "cut", desc := "(II)I" } : Jvm.MethodName) ({ cls := "TracePeaksModel", name := "cut", desc := "(II)I" } : Jvm.MethodName)) ∈ lw_all := lw_g (lw_at lw_m9 72 rfl) rfl
theorem q2112 : (Jvm.Cond.code ({ cls := "TracePeaksModel", name := "cut", desc := "(II)I" } : Jvm.MethodName) prog_17_method_83_code (3 : Nat) (Option.some Jvm.ClassFile.FieldType.int)) ∈ lw_all := lw_g (lw_at lw_m9 73 rfl) rfl
theorem q2114 : (Jvm.Cond.instanceMethod ({ cls := "TracePeaksModel", name := "ways", desc := "(IJ)I" } : Jvm.MethodName)) ∈ lw_all := lw_g (lw_at lw_m9 75 rfl) rfl
theorem q2115 : (Jvm.Cond.selects "TracePeaksModel" ({ cls := "TracePeaksModel", name := "ways", desc := "(IJ)I" } : Jvm.MethodName) ({ cls := "TracePeaksModel", name := "ways", desc := "(IJ)I" } : Jvm.MethodName)) ∈ lw_all := lw_g (lw_at lw_m9 76 rfl) rfl
theorem q2116 : (Jvm.Cond.code ({ cls := "TracePeaksModel", name := "ways", desc := "(IJ)I" } : Jvm.MethodName) prog_17_method_86_code (5 : Nat) (Option.some Jvm.ClassFile.FieldType.int)) ∈ lw_all := lw_g (lw_at lw_m9 77 rfl) rfl
theorem q2117 : (Jvm.Cond.methodLink "TracePeaksModel" (426 : Nat) ({ cls := "TracePeaksModel", name := "drawWay", desc := "()V" } : Jvm.MethodName)) ∈ lw_all := lw_g (lw_at lw_m9 78 rfl) rfl
theorem q2118 : (Jvm.Cond.privateMethod ({ cls := "TracePeaksModel", name := "drawWay", desc := "()V" } : Jvm.MethodName)) ∈ lw_tbl := lw_at lw_m9 79 rfl
theorem q2119 : (Jvm.Cond.instanceMethod ({ cls := "TracePeaksModel", name := "drawWay", desc := "()V" } : Jvm.MethodName)) ∈ lw_all := lw_g (lw_at lw_m9 80 rfl) rfl
theorem q2120 : (Jvm.Cond.code ({ cls := "TracePeaksModel", name := "drawWay", desc := "()V" } : Jvm.MethodName) prog_17_method_85_code (3 : Nat) (Option.none : Option Jvm.ClassFile.FieldType)) ∈ lw_all := lw_g (lw_at lw_m9 81 rfl) rfl
theorem q2121 : (Jvm.Cond.methodLink "TracePeaksModel" (423 : Nat) ({ cls := "TracePeaksModel", name := "draw", desc := "(I)I" } : Jvm.MethodName)) ∈ lw_all := lw_g (lw_at lw_m9 82 rfl) rfl
theorem q2122 : (Jvm.Cond.privateMethod ({ cls := "TracePeaksModel", name := "draw", desc := "(I)I" } : Jvm.MethodName)) ∈ lw_tbl := lw_at lw_m9 83 rfl
theorem q2123 : (Jvm.Cond.instanceMethod ({ cls := "TracePeaksModel", name := "draw", desc := "(I)I" } : Jvm.MethodName)) ∈ lw_all := lw_g (lw_at lw_m9 84 rfl) rfl
theorem q2124 : (Jvm.Cond.code ({ cls := "TracePeaksModel", name := "draw", desc := "(I)I" } : Jvm.MethodName) prog_17_method_84_code (2 : Nat) (Option.some Jvm.ClassFile.FieldType.int)) ∈ lw_all := lw_g (lw_at lw_m9 85 rfl) rfl
theorem q2125 : (Jvm.Cond.constantLong "TracePeaksModel" (419 : Nat) (6364136223846793005 : Int64)) ∈ lw_all := lw_g (lw_at lw_m9 86 rfl) rfl
theorem q2126 : (Jvm.Cond.constantLong "TracePeaksModel" (421 : Nat) (1442695040888963407 : Int64)) ∈ lw_all := lw_g (lw_at lw_m9 87 rfl) rfl
theorem q2128 : (Jvm.Cond.instanceMethod ({ cls := "TracePeaksModel", name := "status", desc := "(I)I" } : Jvm.MethodName)) ∈ lw_all := lw_g (lw_at lw_m9 89 rfl) rfl
theorem q2129 : (Jvm.Cond.selects "TracePeaksModel" ({ cls := "TracePeaksModel", name := "status", desc := "(I)I" } : Jvm.MethodName) ({ cls := "TracePeaksModel", name := "status", desc := "(I)I" } : Jvm.MethodName)) ∈ lw_all := lw_g (lw_at lw_m9 90 rfl) rfl
theorem q2130 : (Jvm.Cond.code ({ cls := "TracePeaksModel", name := "status", desc := "(I)I" } : Jvm.MethodName) prog_17_method_87_code (2 : Nat) (Option.some Jvm.ClassFile.FieldType.int)) ∈ lw_all := lw_g (lw_at lw_m9 91 rfl) rfl
theorem q2132 : (Jvm.Cond.instanceMethod ({ cls := "TracePeaksModel", name := "undo", desc := "()I" } : Jvm.MethodName)) ∈ lw_all := lw_g (lw_at lw_m9 93 rfl) rfl
theorem q2133 : (Jvm.Cond.selects "TracePeaksModel" ({ cls := "TracePeaksModel", name := "undo", desc := "()I" } : Jvm.MethodName) ({ cls := "TracePeaksModel", name := "undo", desc := "()I" } : Jvm.MethodName)) ∈ lw_all := lw_g (lw_at lw_m9 94 rfl) rfl
theorem q2134 : (Jvm.Cond.code ({ cls := "TracePeaksModel", name := "undo", desc := "()I" } : Jvm.MethodName) prog_17_method_88_code (2 : Nat) (Option.some Jvm.ClassFile.FieldType.int)) ∈ lw_all := lw_g (lw_at lw_m9 95 rfl) rfl
theorem q2136 : (Jvm.Cond.instanceMethod ({ cls := "TracePeaksModel", name := "log", desc := "(II)I" } : Jvm.MethodName)) ∈ lw_all := lw_g (lw_at lw_m9 97 rfl) rfl
theorem q2137 : (Jvm.Cond.selects "TracePeaksModel" ({ cls := "TracePeaksModel", name := "log", desc := "(II)I" } : Jvm.MethodName) ({ cls := "TracePeaksModel", name := "log", desc := "(II)I" } : Jvm.MethodName)) ∈ lw_all := lw_g (lw_at lw_m9 98 rfl) rfl
theorem q2138 : (Jvm.Cond.code ({ cls := "TracePeaksModel", name := "log", desc := "(II)I" } : Jvm.MethodName) prog_17_method_89_code (3 : Nat) (Option.some Jvm.ClassFile.FieldType.int)) ∈ lw_all := lw_g (lw_at lw_m9 99 rfl) rfl
theorem q2140 : (Jvm.Cond.instanceMethod ({ cls := "TracePeaksModel", name := "rule", desc := "(I)I" } : Jvm.MethodName)) ∈ lw_all := lw_g (lw_at lw_m9 101 rfl) rfl
theorem q2141 : (Jvm.Cond.selects "TracePeaksModel" ({ cls := "TracePeaksModel", name := "rule", desc := "(I)I" } : Jvm.MethodName) ({ cls := "TracePeaksModel", name := "rule", desc := "(I)I" } : Jvm.MethodName)) ∈ lw_all := lw_g (lw_at lw_m9 102 rfl) rfl
theorem q2142 : (Jvm.Cond.code ({ cls := "TracePeaksModel", name := "rule", desc := "(I)I" } : Jvm.MethodName) prog_17_method_90_code (2 : Nat) (Option.some Jvm.ClassFile.FieldType.int)) ∈ lw_all := lw_g (lw_at lw_m9 103 rfl) rfl
theorem q2143 : (Jvm.Cond.methodLink "TracePeaksModel" (429 : Nat) ({ cls := "TracePeaksModel", name := "sumOf", desc := "()I" } : Jvm.MethodName)) ∈ lw_all := lw_g (lw_at lw_m9 104 rfl) rfl
theorem q2144 : (Jvm.Cond.privateMethod ({ cls := "TracePeaksModel", name := "sumOf", desc := "()I" } : Jvm.MethodName)) ∈ lw_tbl := lw_at lw_m9 105 rfl
theorem q2145 : (Jvm.Cond.instanceMethod ({ cls := "TracePeaksModel", name := "sumOf", desc := "()I" } : Jvm.MethodName)) ∈ lw_all := lw_g (lw_at lw_m9 106 rfl) rfl
theorem q2146 : (Jvm.Cond.code ({ cls := "TracePeaksModel", name := "sumOf", desc := "()I" } : Jvm.MethodName) prog_17_method_91_code (3 : Nat) (Option.some Jvm.ClassFile.FieldType.int)) ∈ lw_all := lw_g (lw_at lw_m9 107 rfl) rfl
theorem q2148 : (Jvm.Cond.instanceMethod ({ cls := "TracePeaksModel", name := "sample", desc := "(I)I" } : Jvm.MethodName)) ∈ lw_all := lw_g (lw_at lw_m9 109 rfl) rfl
theorem q2149 : (Jvm.Cond.selects "TracePeaksModel" ({ cls := "TracePeaksModel", name := "sample", desc := "(I)I" } : Jvm.MethodName) ({ cls := "TracePeaksModel", name := "sample", desc := "(I)I" } : Jvm.MethodName)) ∈ lw_all := lw_g (lw_at lw_m9 110 rfl) rfl
theorem q2150 : (Jvm.Cond.code ({ cls := "TracePeaksModel", name := "sample", desc := "(I)I" } : Jvm.MethodName) prog_17_method_92_code (2 : Nat) (Option.some Jvm.ClassFile.FieldType.int)) ∈ lw_all := lw_g (lw_at lw_m9 111 rfl) rfl
theorem q2152 : (Jvm.Cond.instanceMethod ({ cls := "TracePeaksModel", name := "peak", desc := "(II)I" } : Jvm.MethodName)) ∈ lw_all := lw_g (lw_at lw_m9 113 rfl) rfl
theorem q2153 : (Jvm.Cond.selects "TracePeaksModel" ({ cls := "TracePeaksModel", name := "peak", desc := "(II)I" } : Jvm.MethodName) ({ cls := "TracePeaksModel", name := "peak", desc := "(II)I" } : Jvm.MethodName)) ∈ lw_all := lw_g (lw_at lw_m9 114 rfl) rfl
theorem q2154 : (Jvm.Cond.code ({ cls := "TracePeaksModel", name := "peak", desc := "(II)I" } : Jvm.MethodName) prog_17_method_94_code (4 : Nat) (Option.some Jvm.ClassFile.FieldType.int)) ∈ lw_all := lw_g (lw_at lw_m9 115 rfl) rfl
theorem q2155 : (Jvm.Cond.methodLink "TracePeaksModel" (432 : Nat) ({ cls := "TracePeaksModel", name := "isPeak", desc := "(I)Z" } : Jvm.MethodName)) ∈ lw_all := lw_g (lw_at lw_m9 116 rfl) rfl
theorem q2156 : (Jvm.Cond.privateMethod ({ cls := "TracePeaksModel", name := "isPeak", desc := "(I)Z" } : Jvm.MethodName)) ∈ lw_tbl := lw_at lw_m9 117 rfl
theorem q2157 : (Jvm.Cond.instanceMethod ({ cls := "TracePeaksModel", name := "isPeak", desc := "(I)Z" } : Jvm.MethodName)) ∈ lw_all := lw_g (lw_at lw_m9 118 rfl) rfl
theorem q2158 : (Jvm.Cond.code ({ cls := "TracePeaksModel", name := "isPeak", desc := "(I)Z" } : Jvm.MethodName) prog_17_method_93_code (2 : Nat) (Option.some Jvm.ClassFile.FieldType.boolean)) ∈ lw_all := lw_g (lw_at lw_m9 119 rfl) rfl
theorem q2159 : (Jvm.Cond.methodLink "TracePeaksModel" (341 : Nat) ({ cls := "TracePeaksModel", name := "height", desc := "(I)I" } : Jvm.MethodName)) ∈ lw_all := lw_g (lw_at lw_m9 120 rfl) rfl
theorem q2160 : (Jvm.Cond.privateMethod ({ cls := "TracePeaksModel", name := "height", desc := "(I)I" } : Jvm.MethodName)) ∈ lw_tbl := lw_at lw_m9 121 rfl
theorem q2161 : (Jvm.Cond.instanceMethod ({ cls := "TracePeaksModel", name := "height", desc := "(I)I" } : Jvm.MethodName)) ∈ lw_all := lw_g (lw_at lw_m9 122 rfl) rfl
theorem q2162 : (Jvm.Cond.code ({ cls := "TracePeaksModel", name := "height", desc := "(I)I" } : Jvm.MethodName) prog_17_method_43_code (2 : Nat) (Option.some Jvm.ClassFile.FieldType.int)) ∈ lw_all := lw_g (lw_at lw_m9 123 rfl) rfl
theorem q2163 : (Jvm.Cond.methodLink "TracePeaksModel" (344 : Nat) ({ cls := "TracePeaksModel", name := "life", desc := "(I)I" } : Jvm.MethodName)) ∈ lw_all := lw_g (lw_at lw_m9 124 rfl) rfl
theorem q2164 : (Jvm.Cond.privateMethod ({ cls := "TracePeaksModel", name := "life", desc := "(I)I" } : Jvm.MethodName)) ∈ lw_tbl := lw_at lw_m9 125 rfl
theorem q2165 : (Jvm.Cond.instanceMethod ({ cls := "TracePeaksModel", name := "life", desc := "(I)I" } : Jvm.MethodName)) ∈ lw_all := lw_g (lw_at lw_m9 126 rfl) rfl
theorem q2166 : (Jvm.Cond.code ({ cls := "TracePeaksModel", name := "life", desc := "(I)I" } : Jvm.MethodName) prog_17_method_44_code (2 : Nat) (Option.some Jvm.ClassFile.FieldType.int)) ∈ lw_all := lw_g (lw_at lw_m9 127 rfl) rfl
theorem q2167 : (Jvm.Cond.methodLink "TracePeaksModel" (435 : Nat) ({ cls := "TracePeaksModel", name := "isKept", desc := "(I)Z" } : Jvm.MethodName)) ∈ lw_all := lw_g (lw_at lw_m9 128 rfl) rfl
theorem q2168 : (Jvm.Cond.privateMethod ({ cls := "TracePeaksModel", name := "isKept", desc := "(I)Z" } : Jvm.MethodName)) ∈ lw_tbl := lw_at lw_m9 129 rfl
theorem q2169 : (Jvm.Cond.instanceMethod ({ cls := "TracePeaksModel", name := "isKept", desc := "(I)Z" } : Jvm.MethodName)) ∈ lw_all := lw_g (lw_at lw_m9 130 rfl) rfl
theorem q2170 : (Jvm.Cond.code ({ cls := "TracePeaksModel", name := "isKept", desc := "(I)Z" } : Jvm.MethodName) prog_17_method_45_code (2 : Nat) (Option.some Jvm.ClassFile.FieldType.boolean)) ∈ lw_all := lw_g (lw_at lw_m9 131 rfl) rfl
theorem q2171 : (Jvm.Cond.methodLink "TracePeaksModel" (438 : Nat) ({ cls := "TracePeaksModel", name := "generationOf", desc := "(I)I" } : Jvm.MethodName)) ∈ lw_all := lw_g (lw_at lw_m9 132 rfl) rfl
theorem q2172 : (Jvm.Cond.privateMethod ({ cls := "TracePeaksModel", name := "generationOf", desc := "(I)I" } : Jvm.MethodName)) ∈ lw_tbl := lw_at lw_m9 133 rfl
theorem q2173 : (Jvm.Cond.instanceMethod ({ cls := "TracePeaksModel", name := "generationOf", desc := "(I)I" } : Jvm.MethodName)) ∈ lw_all := lw_g (lw_at lw_m9 134 rfl) rfl
theorem q2174 : (Jvm.Cond.code ({ cls := "TracePeaksModel", name := "generationOf", desc := "(I)I" } : Jvm.MethodName) prog_17_method_54_code (4 : Nat) (Option.some Jvm.ClassFile.FieldType.int)) ∈ lw_all := lw_g (lw_at lw_m9 135 rfl) rfl
theorem q2176 : (Jvm.Cond.instanceMethod ({ cls := "TracePeaksModel", name := "basin", desc := "(II)I" } : Jvm.MethodName)) ∈ lw_all := lw_g (lw_at lw_m9 137 rfl) rfl
theorem q2177 : (Jvm.Cond.selects "TracePeaksModel" ({ cls := "TracePeaksModel", name := "basin", desc := "(II)I" } : Jvm.MethodName) ({ cls := "TracePeaksModel", name := "basin", desc := "(II)I" } : Jvm.MethodName)) ∈ lw_all := lw_g (lw_at lw_m9 138 rfl) rfl
theorem q2178 : (Jvm.Cond.code ({ cls := "TracePeaksModel", name := "basin", desc := "(II)I" } : Jvm.MethodName) prog_17_method_95_code (3 : Nat) (Option.some Jvm.ClassFile.FieldType.int)) ∈ lw_all := lw_g (lw_at lw_m9 139 rfl) rfl
theorem q2179 : (Jvm.Cond.methodLink "TracePeaksModel" (335 : Nat) ({ cls := "TracePeaksModel", name := "firstOf", desc := "(I)I" } : Jvm.MethodName)) ∈ lw_all := lw_g (lw_at lw_m9 140 rfl) rfl
theorem q2180 : (Jvm.Cond.privateMethod ({ cls := "TracePeaksModel", name := "firstOf", desc := "(I)I" } : Jvm.MethodName)) ∈ lw_tbl := lw_at lw_m9 141 rfl
theorem q2181 : (Jvm.Cond.instanceMethod ({ cls := "TracePeaksModel", name := "firstOf", desc := "(I)I" } : Jvm.MethodName)) ∈ lw_all := lw_g (lw_at lw_m9 142 rfl) rfl
theorem q2182 : (Jvm.Cond.code ({ cls := "TracePeaksModel", name := "firstOf", desc := "(I)I" } : Jvm.MethodName) prog_17_method_49_code (3 : Nat) (Option.some Jvm.ClassFile.FieldType.int)) ∈ lw_all := lw_g (lw_at lw_m9 143 rfl) rfl
theorem q2183 : (Jvm.Cond.methodLink "TracePeaksModel" (329 : Nat) ({ cls := "TracePeaksModel", name := "beside", desc := "(II)I" } : Jvm.MethodName)) ∈ lw_all := lw_g (lw_at lw_m9 144 rfl) rfl
theorem q2184 : (Jvm.Cond.privateMethod ({ cls := "TracePeaksModel", name := "beside", desc := "(II)I" } : Jvm.MethodName)) ∈ lw_tbl := lw_at lw_m9 145 rfl
theorem q2185 : (Jvm.Cond.instanceMethod ({ cls := "TracePeaksModel", name := "beside", desc := "(II)I" } : Jvm.MethodName)) ∈ lw_all := lw_g (lw_at lw_m9 146 rfl) rfl
theorem q2186 : (Jvm.Cond.code ({ cls := "TracePeaksModel", name := "beside", desc := "(II)I" } : Jvm.MethodName) prog_17_method_47_code (6 : Nat) (Option.some Jvm.ClassFile.FieldType.int)) ∈ lw_all := lw_g (lw_at lw_m9 147 rfl) rfl
theorem q2187 : (Jvm.Cond.methodLink "TracePeaksModel" (332 : Nat) ({ cls := "TracePeaksModel", name := "lowBetween", desc := "(II)I" } : Jvm.MethodName)) ∈ lw_all := lw_g (lw_at lw_m9 148 rfl) rfl
theorem q2188 : (Jvm.Cond.privateMethod ({ cls := "TracePeaksModel", name := "lowBetween", desc := "(II)I" } : Jvm.MethodName)) ∈ lw_tbl := lw_at lw_m9 149 rfl
theorem q2189 : (Jvm.Cond.instanceMethod ({ cls := "TracePeaksModel", name := "lowBetween", desc := "(II)I" } : Jvm.MethodName)) ∈ lw_all := lw_g (lw_at lw_m9 150 rfl) rfl
theorem q2190 : (Jvm.Cond.code ({ cls := "TracePeaksModel", name := "lowBetween", desc := "(II)I" } : Jvm.MethodName) prog_17_method_48_code (5 : Nat) (Option.some Jvm.ClassFile.FieldType.int)) ∈ lw_all := lw_g (lw_at lw_m9 151 rfl) rfl
theorem q2191 : (Jvm.Cond.methodLink "TracePeaksModel" (338 : Nat) ({ cls := "TracePeaksModel", name := "lastOf", desc := "(I)I" } : Jvm.MethodName)) ∈ lw_all := lw_g (lw_at lw_m9 152 rfl) rfl
theorem q2192 : (Jvm.Cond.privateMethod ({ cls := "TracePeaksModel", name := "lastOf", desc := "(I)I" } : Jvm.MethodName)) ∈ lw_tbl := lw_at lw_m9 153 rfl
theorem q2193 : (Jvm.Cond.instanceMethod ({ cls := "TracePeaksModel", name := "lastOf", desc := "(I)I" } : Jvm.MethodName)) ∈ lw_all := lw_g (lw_at lw_m9 154 rfl) rfl
theorem q2194 : (Jvm.Cond.code ({ cls := "TracePeaksModel", name := "lastOf", desc := "(I)I" } : Jvm.MethodName) prog_17_method_50_code (3 : Nat) (Option.some Jvm.ClassFile.FieldType.int)) ∈ lw_all := lw_g (lw_at lw_m9 155 rfl) rfl
theorem q2195 : (Jvm.Cond.methodLink "TracePeaksModel" (441 : Nat) ({ cls := "TracePeaksModel", name := "areaOf", desc := "(I)I" } : Jvm.MethodName)) ∈ lw_all := lw_g (lw_at lw_m9 156 rfl) rfl
theorem q2196 : (Jvm.Cond.privateMethod ({ cls := "TracePeaksModel", name := "areaOf", desc := "(I)I" } : Jvm.MethodName)) ∈ lw_tbl := lw_at lw_m9 157 rfl
theorem q2197 : (Jvm.Cond.instanceMethod ({ cls := "TracePeaksModel", name := "areaOf", desc := "(I)I" } : Jvm.MethodName)) ∈ lw_all := lw_g (lw_at lw_m9 158 rfl) rfl
theorem q2198 : (Jvm.Cond.code ({ cls := "TracePeaksModel", name := "areaOf", desc := "(I)I" } : Jvm.MethodName) prog_17_method_51_code (4 : Nat) (Option.some Jvm.ClassFile.FieldType.int)) ∈ lw_all := lw_g (lw_at lw_m9 159 rfl) rfl
theorem q2199 : (Jvm.Cond.methodLink "TracePeaksModel" (444 : Nat) ({ cls := "TracePeaksModel", name := "widthOf", desc := "(I)I" } : Jvm.MethodName)) ∈ lw_all := lw_g (lw_at lw_m9 160 rfl) rfl
theorem q2200 : (Jvm.Cond.privateMethod ({ cls := "TracePeaksModel", name := "widthOf", desc := "(I)I" } : Jvm.MethodName)) ∈ lw_tbl := lw_at lw_m9 161 rfl
theorem q2201 : (Jvm.Cond.instanceMethod ({ cls := "TracePeaksModel", name := "widthOf", desc := "(I)I" } : Jvm.MethodName)) ∈ lw_all := lw_g (lw_at lw_m9 162 rfl) rfl
theorem q2202 : (Jvm.Cond.code ({ cls := "TracePeaksModel", name := "widthOf", desc := "(I)I" } : Jvm.MethodName) prog_17_method_53_code (2 : Nat) (Option.some Jvm.ClassFile.FieldType.int)) ∈ lw_all := lw_g (lw_at lw_m9 163 rfl) rfl
theorem q2203 : (Jvm.Cond.methodLink "TracePeaksModel" (347 : Nat) ({ cls := "TracePeaksModel", name := "around", desc := "(II)I" } : Jvm.MethodName)) ∈ lw_all := lw_g (lw_at lw_m9 164 rfl) rfl
theorem q2204 : (Jvm.Cond.privateMethod ({ cls := "TracePeaksModel", name := "around", desc := "(II)I" } : Jvm.MethodName)) ∈ lw_tbl := lw_at lw_m9 165 rfl
theorem q2205 : (Jvm.Cond.instanceMethod ({ cls := "TracePeaksModel", name := "around", desc := "(II)I" } : Jvm.MethodName)) ∈ lw_all := lw_g (lw_at lw_m9 166 rfl) rfl
theorem q2206 : (Jvm.Cond.code ({ cls := "TracePeaksModel", name := "around", desc := "(II)I" } : Jvm.MethodName) prog_17_method_52_code (5 : Nat) (Option.some Jvm.ClassFile.FieldType.int)) ∈ lw_all := lw_g (lw_at lw_m9 167 rfl) rfl
theorem q2208 : (Jvm.Cond.instanceMethod ({ cls := "TracePeaksModel", name := "at", desc := "(II)I" } : Jvm.MethodName)) ∈ lw_all := lw_g (lw_at lw_m9 169 rfl) rfl
theorem q2209 : (Jvm.Cond.selects "TracePeaksModel" ({ cls := "TracePeaksModel", name := "at", desc := "(II)I" } : Jvm.MethodName) ({ cls := "TracePeaksModel", name := "at", desc := "(II)I" } : Jvm.MethodName)) ∈ lw_all := lw_g (lw_at lw_m9 170 rfl) rfl
theorem q2210 : (Jvm.Cond.code ({ cls := "TracePeaksModel", name := "at", desc := "(II)I" } : Jvm.MethodName) prog_17_method_96_code (5 : Nat) (Option.some Jvm.ClassFile.FieldType.int)) ∈ lw_all := lw_g (lw_at lw_m9 171 rfl) rfl
theorem q2212 : (Jvm.Cond.instanceMethod ({ cls := "TracePeaksModel", name := "line", desc := "(II)I" } : Jvm.MethodName)) ∈ lw_all := lw_g (lw_at lw_m9 173 rfl) rfl
theorem q2213 : (Jvm.Cond.selects "TracePeaksModel" ({ cls := "TracePeaksModel", name := "line", desc := "(II)I" } : Jvm.MethodName) ({ cls := "TracePeaksModel", name := "line", desc := "(II)I" } : Jvm.MethodName)) ∈ lw_all := lw_g (lw_at lw_m9 174 rfl) rfl
theorem q2214 : (Jvm.Cond.code ({ cls := "TracePeaksModel", name := "line", desc := "(II)I" } : Jvm.MethodName) prog_17_method_97_code (3 : Nat) (Option.some Jvm.ClassFile.FieldType.int)) ∈ lw_all := lw_g (lw_at lw_m9 175 rfl) rfl
theorem q2216 : (Jvm.Cond.instanceMethod ({ cls := "TracePeaksModel", name := "noiseFor", desc := "(I)I" } : Jvm.MethodName)) ∈ lw_all := lw_g (lw_at lw_m9 177 rfl) rfl
theorem q2217 : (Jvm.Cond.selects "TracePeaksModel" ({ cls := "TracePeaksModel", name := "noiseFor", desc := "(I)I" } : Jvm.MethodName) ({ cls := "TracePeaksModel", name := "noiseFor", desc := "(I)I" } : Jvm.MethodName)) ∈ lw_all := lw_g (lw_at lw_m9 178 rfl) rfl
theorem q2218 : (Jvm.Cond.code ({ cls := "TracePeaksModel", name := "noiseFor", desc := "(I)I" } : Jvm.MethodName) prog_17_method_98_code (2 : Nat) (Option.some Jvm.ClassFile.FieldType.int)) ∈ lw_all := lw_g (lw_at lw_m9 179 rfl) rfl
theorem q2220 : (Jvm.Cond.instanceMethod ({ cls := "TracePeaksModel", name := "pieces", desc := "(I)I" } : Jvm.MethodName)) ∈ lw_all := lw_g (lw_at lw_m9 181 rfl) rfl
theorem q2221 : (Jvm.Cond.selects "TracePeaksModel" ({ cls := "TracePeaksModel", name := "pieces", desc := "(I)I" } : Jvm.MethodName) ({ cls := "TracePeaksModel", name := "pieces", desc := "(I)I" } : Jvm.MethodName)) ∈ lw_all := lw_g (lw_at lw_m9 182 rfl) rfl
theorem q2222 : (Jvm.Cond.code ({ cls := "TracePeaksModel", name := "pieces", desc := "(I)I" } : Jvm.MethodName) prog_17_method_99_code (4 : Nat) (Option.some Jvm.ClassFile.FieldType.int)) ∈ lw_all := lw_g (lw_at lw_m9 183 rfl) rfl
theorem q2224 : (Jvm.Cond.instanceMethod ({ cls := "TracePeaksModel", name := "room", desc := "(I)I" } : Jvm.MethodName)) ∈ lw_all := lw_g (lw_at lw_m9 185 rfl) rfl
theorem q2225 : (Jvm.Cond.selects "TracePeaksModel" ({ cls := "TracePeaksModel", name := "room", desc := "(I)I" } : Jvm.MethodName) ({ cls := "TracePeaksModel", name := "room", desc := "(I)I" } : Jvm.MethodName)) ∈ lw_all := lw_g (lw_at lw_m9 186 rfl) rfl
theorem q2226 : (Jvm.Cond.code ({ cls := "TracePeaksModel", name := "room", desc := "(I)I" } : Jvm.MethodName) prog_17_method_101_code (4 : Nat) (Option.some Jvm.ClassFile.FieldType.int)) ∈ lw_all := lw_g (lw_at lw_m9 187 rfl) rfl
theorem q2227 : (Jvm.Cond.methodLink "TracePeaksModel" (447 : Nat) ({ cls := "TracePeaksModel", name := "keptBy", desc := "(I)I" } : Jvm.MethodName)) ∈ lw_all := lw_g (lw_at lw_m9 188 rfl) rfl
theorem q2228 : (Jvm.Cond.privateMethod ({ cls := "TracePeaksModel", name := "keptBy", desc := "(I)I" } : Jvm.MethodName)) ∈ lw_tbl := lw_at lw_m9 189 rfl
theorem q2229 : (Jvm.Cond.instanceMethod ({ cls := "TracePeaksModel", name := "keptBy", desc := "(I)I" } : Jvm.MethodName)) ∈ lw_all := lw_g (lw_at lw_m9 190 rfl) rfl
theorem q2230 : (Jvm.Cond.code ({ cls := "TracePeaksModel", name := "keptBy", desc := "(I)I" } : Jvm.MethodName) prog_17_method_100_code (4 : Nat) (Option.some Jvm.ClassFile.FieldType.int)) ∈ lw_all := lw_g (lw_at lw_m9 191 rfl) rfl
theorem q2232 : (Jvm.Cond.instanceMethod ({ cls := "TracePeaksModel", name := "image", desc := "()I" } : Jvm.MethodName)) ∈ lw_all := lw_g (lw_at lw_m9 193 rfl) rfl
theorem q2233 : (Jvm.Cond.selects "TracePeaksModel" ({ cls := "TracePeaksModel", name := "image", desc := "()I" } : Jvm.MethodName) ({ cls := "TracePeaksModel", name := "image", desc := "()I" } : Jvm.MethodName)) ∈ lw_all := lw_g (lw_at lw_m9 194 rfl) rfl
theorem q2234 : (Jvm.Cond.code ({ cls := "TracePeaksModel", name := "image", desc := "()I" } : Jvm.MethodName) prog_17_method_102_code (2 : Nat) (Option.some Jvm.ClassFile.FieldType.int)) ∈ lw_all := lw_g (lw_at lw_m9 195 rfl) rfl
theorem q2236 : (Jvm.Cond.instanceMethod ({ cls := "TracePeaksModel", name := "back", desc := "()I" } : Jvm.MethodName)) ∈ lw_all := lw_g (lw_at lw_m9 197 rfl) rfl
theorem q2237 : (Jvm.Cond.selects "TracePeaksModel" ({ cls := "TracePeaksModel", name := "back", desc := "()I" } : Jvm.MethodName) ({ cls := "TracePeaksModel", name := "back", desc := "()I" } : Jvm.MethodName)) ∈ lw_all := lw_g (lw_at lw_m9 198 rfl) rfl
theorem q2238 : (Jvm.Cond.code ({ cls := "TracePeaksModel", name := "back", desc := "()I" } : Jvm.MethodName) prog_17_method_103_code (2 : Nat) (Option.some Jvm.ClassFile.FieldType.int)) ∈ lw_all := lw_g (lw_at lw_m9 199 rfl) rfl
theorem q2240 : (Jvm.Cond.instanceMethod ({ cls := "TracePeaksModel", name := "unlike", desc := "()I" } : Jvm.MethodName)) ∈ lw_all := lw_g (lw_at lw_m9 201 rfl) rfl
theorem q2241 : (Jvm.Cond.selects "TracePeaksModel" ({ cls := "TracePeaksModel", name := "unlike", desc := "()I" } : Jvm.MethodName) ({ cls := "TracePeaksModel", name := "unlike", desc := "()I" } : Jvm.MethodName)) ∈ lw_all := lw_g (lw_at lw_m9 202 rfl) rfl
theorem q2242 : (Jvm.Cond.code ({ cls := "TracePeaksModel", name := "unlike", desc := "()I" } : Jvm.MethodName) prog_17_method_106_code (3 : Nat) (Option.some Jvm.ClassFile.FieldType.int)) ∈ lw_all := lw_g (lw_at lw_m9 203 rfl) rfl
theorem q2243 : (Jvm.Cond.methodLink "TracePeaksModel" (450 : Nat) ({ cls := "TracePeaksModel", name := "putAside", desc := "()V" } : Jvm.MethodName)) ∈ lw_all := lw_g (lw_at lw_m9 204 rfl) rfl
theorem q2244 : (Jvm.Cond.privateMethod ({ cls := "TracePeaksModel", name := "putAside", desc := "()V" } : Jvm.MethodName)) ∈ lw_tbl := lw_at lw_m9 205 rfl
theorem q2245 : (Jvm.Cond.instanceMethod ({ cls := "TracePeaksModel", name := "putAside", desc := "()V" } : Jvm.MethodName)) ∈ lw_all := lw_g (lw_at lw_m9 206 rfl) rfl
theorem q2246 : (Jvm.Cond.code ({ cls := "TracePeaksModel", name := "putAside", desc := "()V" } : Jvm.MethodName) prog_17_method_104_code (2 : Nat) (Option.none : Option Jvm.ClassFile.FieldType)) ∈ lw_all := lw_g (lw_at lw_m9 207 rfl) rfl
theorem q2247 : (Jvm.Cond.methodLink "TracePeaksModel" (453 : Nat) ({ cls := "TracePeaksModel", name := "bringBack", desc := "()V" } : Jvm.MethodName)) ∈ lw_all := lw_g (lw_at lw_m9 208 rfl) rfl
theorem q2248 : (Jvm.Cond.privateMethod ({ cls := "TracePeaksModel", name := "bringBack", desc := "()V" } : Jvm.MethodName)) ∈ lw_tbl := lw_at lw_m9 209 rfl
theorem q2249 : (Jvm.Cond.instanceMethod ({ cls := "TracePeaksModel", name := "bringBack", desc := "()V" } : Jvm.MethodName)) ∈ lw_all := lw_g (lw_at lw_m9 210 rfl) rfl
theorem q2250 : (Jvm.Cond.code ({ cls := "TracePeaksModel", name := "bringBack", desc := "()V" } : Jvm.MethodName) prog_17_method_105_code (2 : Nat) (Option.none : Option Jvm.ClassFile.FieldType)) ∈ lw_all := lw_g (lw_at lw_m9 211 rfl) rfl
theorem q2252 : (Jvm.Cond.instanceMethod ({ cls := "TracePeaksModel", name := "shift", desc := "(I)I" } : Jvm.MethodName)) ∈ lw_all := lw_g (lw_at lw_m9 213 rfl) rfl
theorem q2253 : (Jvm.Cond.selects "TracePeaksModel" ({ cls := "TracePeaksModel", name := "shift", desc := "(I)I" } : Jvm.MethodName) ({ cls := "TracePeaksModel", name := "shift", desc := "(I)I" } : Jvm.MethodName)) ∈ lw_all := lw_g (lw_at lw_m9 214 rfl) rfl
theorem q2254 : (Jvm.Cond.code ({ cls := "TracePeaksModel", name := "shift", desc := "(I)I" } : Jvm.MethodName) prog_17_method_107_code (6 : Nat) (Option.some Jvm.ClassFile.FieldType.int)) ∈ lw_all := lw_g (lw_at lw_m9 215 rfl) rfl
theorem q2256 : (Jvm.Cond.instanceMethod ({ cls := "TracePeaksModel", name := "missed", desc := "()I" } : Jvm.MethodName)) ∈ lw_all := lw_g (lw_at lw_m9 217 rfl) rfl
theorem q2257 : (Jvm.Cond.selects "TracePeaksModel" ({ cls := "TracePeaksModel", name := "missed", desc := "()I" } : Jvm.MethodName) ({ cls := "TracePeaksModel", name := "missed", desc := "()I" } : Jvm.MethodName)) ∈ lw_all := lw_g (lw_at lw_m9 218 rfl) rfl
theorem q2258 : (Jvm.Cond.code ({ cls := "TracePeaksModel", name := "missed", desc := "()I" } : Jvm.MethodName) prog_17_method_109_code (1 : Nat) (Option.some Jvm.ClassFile.FieldType.int)) ∈ lw_all := lw_g (lw_at lw_m9 219 rfl) rfl
theorem q2259 : (Jvm.Cond.methodLink "TracePeaksModel" (456 : Nat) ({ cls := "TracePeaksModel", name := "matched", desc := "()I" } : Jvm.MethodName)) ∈ lw_all := lw_g (lw_at lw_m9 220 rfl) rfl
theorem q2260 : (Jvm.Cond.privateMethod ({ cls := "TracePeaksModel", name := "matched", desc := "()I" } : Jvm.MethodName)) ∈ lw_tbl := lw_at lw_m9 221 rfl
theorem q2261 : (Jvm.Cond.instanceMethod ({ cls := "TracePeaksModel", name := "matched", desc := "()I" } : Jvm.MethodName)) ∈ lw_all := lw_g (lw_at lw_m9 222 rfl) rfl
theorem q2262 : (Jvm.Cond.code ({ cls := "TracePeaksModel", name := "matched", desc := "()I" } : Jvm.MethodName) prog_17_method_108_code (3 : Nat) (Option.some Jvm.ClassFile.FieldType.int)) ∈ lw_all := lw_g (lw_at lw_m9 223 rfl) rfl
theorem q2264 : (Jvm.Cond.instanceMethod ({ cls := "TracePeaksModel", name := "would", desc := "(III)I" } : Jvm.MethodName)) ∈ lw_all := lw_g (lw_at lw_m9 225 rfl) rfl
theorem q2265 : (Jvm.Cond.selects "TracePeaksModel" ({ cls := "TracePeaksModel", name := "would", desc := "(III)I" } : Jvm.MethodName) ({ cls := "TracePeaksModel", name := "would", desc := "(III)I" } : Jvm.MethodName)) ∈ lw_all := lw_g (lw_at lw_m9 226 rfl) rfl
theorem q2266 : (Jvm.Cond.code ({ cls := "TracePeaksModel", name := "would", desc := "(III)I" } : Jvm.MethodName) prog_17_method_110_code (6 : Nat) (Option.some Jvm.ClassFile.FieldType.int)) ∈ lw_all := lw_g (lw_at lw_m9 227 rfl) rfl
theorem q2268 : (Jvm.Cond.instanceMethod ({ cls := "TracePeaksModel", name := "solo", desc := "()I" } : Jvm.MethodName)) ∈ lw_all := lw_g (lw_at lw_m9 229 rfl) rfl
theorem q2269 : (Jvm.Cond.selects "TracePeaksModel" ({ cls := "TracePeaksModel", name := "solo", desc := "()I" } : Jvm.MethodName) ({ cls := "TracePeaksModel", name := "solo", desc := "()I" } : Jvm.MethodName)) ∈ lw_all := lw_g (lw_at lw_m9 230 rfl) rfl
theorem q2270 : (Jvm.Cond.code ({ cls := "TracePeaksModel", name := "solo", desc := "()I" } : Jvm.MethodName) prog_17_method_112_code (1 : Nat) (Option.some Jvm.ClassFile.FieldType.int)) ∈ lw_all := lw_g (lw_at lw_m9 231 rfl) rfl
theorem q2271 : (Jvm.Cond.methodLink "TracePeaksModel" (459 : Nat) ({ cls := "TracePeaksModel", name := "tallestOf", desc := "(I)I" } : Jvm.MethodName)) ∈ lw_all := lw_g (lw_at lw_m9 232 rfl) rfl
theorem q2272 : (Jvm.Cond.privateMethod ({ cls := "TracePeaksModel", name := "tallestOf", desc := "(I)I" } : Jvm.MethodName)) ∈ lw_tbl := lw_at lw_m9 233 rfl
theorem q2273 : (Jvm.Cond.instanceMethod ({ cls := "TracePeaksModel", name := "tallestOf", desc := "(I)I" } : Jvm.MethodName)) ∈ lw_all := lw_g (lw_at lw_m9 234 rfl) rfl
theorem q2274 : (Jvm.Cond.code ({ cls := "TracePeaksModel", name := "tallestOf", desc := "(I)I" } : Jvm.MethodName) prog_17_method_111_code (5 : Nat) (Option.some Jvm.ClassFile.FieldType.int)) ∈ lw_all := lw_g (lw_at lw_m9 235 rfl) rfl
theorem q2276 : (Jvm.Cond.instanceMethod ({ cls := "TracePeaksModel", name := "tallest", desc := "(I)I" } : Jvm.MethodName)) ∈ lw_all := lw_g (lw_at lw_m9 237 rfl) rfl
theorem q2277 : (Jvm.Cond.selects "TracePeaksModel" ({ cls := "TracePeaksModel", name := "tallest", desc := "(I)I" } : Jvm.MethodName) ({ cls := "TracePeaksModel", name := "tallest", desc := "(I)I" } : Jvm.MethodName)) ∈ lw_all := lw_g (lw_at lw_m9 238 rfl) rfl
theorem q2278 : (Jvm.Cond.code ({ cls := "TracePeaksModel", name := "tallest", desc := "(I)I" } : Jvm.MethodName) prog_17_method_113_code (2 : Nat) (Option.some Jvm.ClassFile.FieldType.int)) ∈ lw_all := lw_g (lw_at lw_m9 239 rfl) rfl
theorem q2280 : (Jvm.Cond.instanceMethod ({ cls := "TracePeaksModel", name := "change", desc := "(I)I" } : Jvm.MethodName)) ∈ lw_all := lw_g (lw_at lw_m10 1 rfl) rfl
theorem q2281 : (Jvm.Cond.selects "TracePeaksModel" ({ cls := "TracePeaksModel", name := "change", desc := "(I)I" } : Jvm.MethodName) ({ cls := "TracePeaksModel", name := "change", desc := "(I)I" } : Jvm.MethodName)) ∈ lw_all := lw_g (lw_at lw_m10 2 rfl) rfl
theorem q2282 : (Jvm.Cond.code ({ cls := "TracePeaksModel", name := "change", desc := "(I)I" } : Jvm.MethodName) prog_17_method_114_code (6 : Nat) (Option.some Jvm.ClassFile.FieldType.int)) ∈ lw_all := lw_g (lw_at lw_m10 3 rfl) rfl
theorem q2283 : (Jvm.Cond.methodLink "TracePeaksModel" (462 : Nat) ({ cls := "TracePeaksModel", name := "would", desc := "(III)I" } : Jvm.MethodName)) ∈ lw_all := lw_g (lw_at lw_m10 4 rfl) rfl
theorem q2285 : (Jvm.Cond.instanceMethod ({ cls := "TracePeaksModel", name := "spell", desc := "(II)I" } : Jvm.MethodName)) ∈ lw_all := lw_g (lw_at lw_m10 6 rfl) rfl
theorem q2286 : (Jvm.Cond.selects "TracePeaksModel" ({ cls := "TracePeaksModel", name := "spell", desc := "(II)I" } : Jvm.MethodName) ({ cls := "TracePeaksModel", name := "spell", desc := "(II)I" } : Jvm.MethodName)) ∈ lw_all := lw_g (lw_at lw_m10 7 rfl) rfl
theorem q2287 : (Jvm.Cond.code ({ cls := "TracePeaksModel", name := "spell", desc := "(II)I" } : Jvm.MethodName) prog_17_method_118_code (3 : Nat) (Option.some Jvm.ClassFile.FieldType.int)) ∈ lw_all := lw_g (lw_at lw_m10 8 rfl) rfl
theorem q2288 : (Jvm.Cond.methodLink "TracePeaksModel" (471 : Nat) ({ cls := "TracePeaksModel", name := "spellsName", desc := "(I)V" } : Jvm.MethodName)) ∈ lw_all := lw_g (lw_at lw_m10 9 rfl) rfl
theorem q2289 : (Jvm.Cond.privateMethod ({ cls := "TracePeaksModel", name := "spellsName", desc := "(I)V" } : Jvm.MethodName)) ∈ lw_tbl := lw_at lw_m10 10 rfl
theorem q2290 : (Jvm.Cond.instanceMethod ({ cls := "TracePeaksModel", name := "spellsName", desc := "(I)V" } : Jvm.MethodName)) ∈ lw_all := lw_g (lw_at lw_m10 11 rfl) rfl
theorem q2291 : (Jvm.Cond.code ({ cls := "TracePeaksModel", name := "spellsName", desc := "(I)V" } : Jvm.MethodName) prog_17_method_117_code (6 : Nat) (Option.none : Option Jvm.ClassFile.FieldType)) ∈ lw_all := lw_g (lw_at lw_m10 12 rfl) rfl
theorem q2292 : (Jvm.Cond.methodLink "TracePeaksModel" (468 : Nat) ({ cls := "TracePeaksModel", name := "spells", desc := "(I)V" } : Jvm.MethodName)) ∈ lw_all := lw_g (lw_at lw_m10 13 rfl) rfl
theorem q2293 : (Jvm.Cond.privateMethod ({ cls := "TracePeaksModel", name := "spells", desc := "(I)V" } : Jvm.MethodName)) ∈ lw_tbl := lw_at lw_m10 14 rfl
theorem q2294 : (Jvm.Cond.instanceMethod ({ cls := "TracePeaksModel", name := "spells", desc := "(I)V" } : Jvm.MethodName)) ∈ lw_all := lw_g (lw_at lw_m10 15 rfl) rfl
theorem q2295 : (Jvm.Cond.code ({ cls := "TracePeaksModel", name := "spells", desc := "(I)V" } : Jvm.MethodName) prog_17_method_115_code (2 : Nat) (Option.none : Option Jvm.ClassFile.FieldType)) ∈ lw_all := lw_g (lw_at lw_m10 16 rfl) rfl
theorem q2296 : (Jvm.Cond.methodLink "TracePeaksModel" (474 : Nat) ({ cls := "TracePeaksModel", name := "spellsNumber", desc := "(I)V" } : Jvm.MethodName)) ∈ lw_all := lw_g (lw_at lw_m10 17 rfl) rfl
theorem q2297 : (Jvm.Cond.privateMethod ({ cls := "TracePeaksModel", name := "spellsNumber", desc := "(I)V" } : Jvm.MethodName)) ∈ lw_tbl := lw_at lw_m10 18 rfl
theorem q2298 : (Jvm.Cond.instanceMethod ({ cls := "TracePeaksModel", name := "spellsNumber", desc := "(I)V" } : Jvm.MethodName)) ∈ lw_all := lw_g (lw_at lw_m10 19 rfl) rfl
theorem q2299 : (Jvm.Cond.code ({ cls := "TracePeaksModel", name := "spellsNumber", desc := "(I)V" } : Jvm.MethodName) prog_17_method_116_code (3 : Nat) (Option.none : Option Jvm.ClassFile.FieldType)) ∈ lw_all := lw_g (lw_at lw_m10 20 rfl) rfl
theorem q2301 : (Jvm.Cond.instanceMethod ({ cls := "TracePeaksModel", name := "step", desc := "(III)I" } : Jvm.MethodName)) ∈ lw_all := lw_g (lw_at lw_m10 22 rfl) rfl
theorem q2302 : (Jvm.Cond.selects "TracePeaksModel" ({ cls := "TracePeaksModel", name := "step", desc := "(III)I" } : Jvm.MethodName) ({ cls := "TracePeaksModel", name := "step", desc := "(III)I" } : Jvm.MethodName)) ∈ lw_all := lw_g (lw_at lw_m10 23 rfl) rfl
theorem q2303 : (Jvm.Cond.code ({ cls := "TracePeaksModel", name := "step", desc := "(III)I" } : Jvm.MethodName) prog_17_method_120_code (4 : Nat) (Option.some Jvm.ClassFile.FieldType.int)) ∈ lw_all := lw_g (lw_at lw_m10 24 rfl) rfl
theorem q2304 : (Jvm.Cond.methodLink "TracePeaksModel" (477 : Nat) ({ cls := "TracePeaksModel", name := "isScript", desc := "(I)Z" } : Jvm.MethodName)) ∈ lw_all := lw_g (lw_at lw_m10 25 rfl) rfl
theorem q2305 : (Jvm.Cond.privateMethod ({ cls := "TracePeaksModel", name := "isScript", desc := "(I)Z" } : Jvm.MethodName)) ∈ lw_tbl := lw_at lw_m10 26 rfl
theorem q2306 : (Jvm.Cond.instanceMethod ({ cls := "TracePeaksModel", name := "isScript", desc := "(I)Z" } : Jvm.MethodName)) ∈ lw_all := lw_g (lw_at lw_m10 27 rfl) rfl
theorem q2307 : (Jvm.Cond.code ({ cls := "TracePeaksModel", name := "isScript", desc := "(I)Z" } : Jvm.MethodName) prog_17_method_119_code (2 : Nat) (Option.some Jvm.ClassFile.FieldType.boolean)) ∈ lw_all := lw_g (lw_at lw_m10 28 rfl) rfl
theorem q2309 : (Jvm.Cond.instanceMethod ({ cls := "TracePeaksModel", name := "run", desc := "(II)I" } : Jvm.MethodName)) ∈ lw_all := lw_g (lw_at lw_m10 30 rfl) rfl
theorem q2310 : (Jvm.Cond.selects "TracePeaksModel" ({ cls := "TracePeaksModel", name := "run", desc := "(II)I" } : Jvm.MethodName) ({ cls := "TracePeaksModel", name := "run", desc := "(II)I" } : Jvm.MethodName)) ∈ lw_all := lw_g (lw_at lw_m10 31 rfl) rfl
theorem q2311 : (Jvm.Cond.code ({ cls := "TracePeaksModel", name := "run", desc := "(II)I" } : Jvm.MethodName) prog_17_method_122_code (5 : Nat) (Option.some Jvm.ClassFile.FieldType.int)) ∈ lw_all := lw_g (lw_at lw_m10 32 rfl) rfl
theorem q2312 : (Jvm.Cond.methodLink "TracePeaksModel" (480 : Nat) ({ cls := "TracePeaksModel", name := "goSteps", desc := "(IZ)I" } : Jvm.MethodName)) ∈ lw_all := lw_g (lw_at lw_m10 33 rfl) rfl
theorem q2313 : (Jvm.Cond.privateMethod ({ cls := "TracePeaksModel", name := "goSteps", desc := "(IZ)I" } : Jvm.MethodName)) ∈ lw_tbl := lw_at lw_m10 34 rfl
theorem q2314 : (Jvm.Cond.instanceMethod ({ cls := "TracePeaksModel", name := "goSteps", desc := "(IZ)I" } : Jvm.MethodName)) ∈ lw_all := lw_g (lw_at lw_m10 35 rfl) rfl
theorem q2315 : (Jvm.Cond.code ({ cls := "TracePeaksModel", name := "goSteps", desc := "(IZ)I" } : Jvm.MethodName) prog_17_method_121_code (5 : Nat) (Option.some Jvm.ClassFile.FieldType.int)) ∈ lw_all := lw_g (lw_at lw_m10 36 rfl) rfl
theorem q2317 : (Jvm.Cond.instanceMethod ({ cls := "TracePeaksModel", name := "perform", desc := "(I)I" } : Jvm.MethodName)) ∈ lw_all := lw_g (lw_at lw_m10 38 rfl) rfl
theorem q2318 : (Jvm.Cond.selects "TracePeaksModel" ({ cls := "TracePeaksModel", name := "perform", desc := "(I)I" } : Jvm.MethodName) ({ cls := "TracePeaksModel", name := "perform", desc := "(I)I" } : Jvm.MethodName)) ∈ lw_all := lw_g (lw_at lw_m10 39 rfl) rfl
theorem q2319 : (Jvm.Cond.code ({ cls := "TracePeaksModel", name := "perform", desc := "(I)I" } : Jvm.MethodName) prog_17_method_123_code (2 : Nat) (Option.some Jvm.ClassFile.FieldType.int)) ∈ lw_all := lw_g (lw_at lw_m10 40 rfl) rfl
theorem q2321 : (Jvm.Cond.instanceMethod ({ cls := "TracePeaksModel", name := "most", desc := "(I)I" } : Jvm.MethodName)) ∈ lw_all := lw_g (lw_at lw_m10 42 rfl) rfl
theorem q2322 : (Jvm.Cond.selects "TracePeaksModel" ({ cls := "TracePeaksModel", name := "most", desc := "(I)I" } : Jvm.MethodName) ({ cls := "TracePeaksModel", name := "most", desc := "(I)I" } : Jvm.MethodName)) ∈ lw_all := lw_g (lw_at lw_m10 43 rfl) rfl
theorem q2323 : (Jvm.Cond.code ({ cls := "TracePeaksModel", name := "most", desc := "(I)I" } : Jvm.MethodName) prog_17_method_128_code (2 : Nat) (Option.some Jvm.ClassFile.FieldType.int)) ∈ lw_all := lw_g (lw_at lw_m10 44 rfl) rfl
theorem q2324 : (Jvm.Cond.methodLink "TracePeaksModel" (487 : Nat) ({ cls := "TracePeaksModel", name := "lastGeneration", desc := "()I" } : Jvm.MethodName)) ∈ lw_all := lw_g (lw_at lw_m10 45 rfl) rfl
theorem q2325 : (Jvm.Cond.privateMethod ({ cls := "TracePeaksModel", name := "lastGeneration", desc := "()I" } : Jvm.MethodName)) ∈ lw_tbl := lw_at lw_m10 46 rfl
theorem q2326 : (Jvm.Cond.instanceMethod ({ cls := "TracePeaksModel", name := "lastGeneration", desc := "()I" } : Jvm.MethodName)) ∈ lw_all := lw_g (lw_at lw_m10 47 rfl) rfl
theorem q2327 : (Jvm.Cond.code ({ cls := "TracePeaksModel", name := "lastGeneration", desc := "()I" } : Jvm.MethodName) prog_17_method_126_code (3 : Nat) (Option.some Jvm.ClassFile.FieldType.int)) ∈ lw_all := lw_g (lw_at lw_m10 48 rfl) rfl
theorem q2328 : (Jvm.Cond.methodLink "TracePeaksModel" (490 : Nat) ({ cls := "TracePeaksModel", name := "widest", desc := "()I" } : Jvm.MethodName)) ∈ lw_all := lw_g (lw_at lw_m10 49 rfl) rfl
theorem q2329 : (Jvm.Cond.privateMethod ({ cls := "TracePeaksModel", name := "widest", desc := "()I" } : Jvm.MethodName)) ∈ lw_tbl := lw_at lw_m10 50 rfl
theorem q2330 : (Jvm.Cond.instanceMethod ({ cls := "TracePeaksModel", name := "widest", desc := "()I" } : Jvm.MethodName)) ∈ lw_all := lw_g (lw_at lw_m10 51 rfl) rfl
theorem q2331 : (Jvm.Cond.code ({ cls := "TracePeaksModel", name := "widest", desc := "()I" } : Jvm.MethodName) prog_17_method_127_code (3 : Nat) (Option.some Jvm.ClassFile.FieldType.int)) ∈ lw_all := lw_g (lw_at lw_m10 52 rfl) rfl
theorem q2332 : (Jvm.Cond.methodLink "TracePeaksModel" (493 : Nat) ({ cls := "TracePeaksModel", name := "added", desc := "(I)I" } : Jvm.MethodName)) ∈ lw_all := lw_g (lw_at lw_m10 53 rfl) rfl
theorem q2333 : (Jvm.Cond.privateMethod ({ cls := "TracePeaksModel", name := "added", desc := "(I)I" } : Jvm.MethodName)) ∈ lw_tbl := lw_at lw_m10 54 rfl
theorem q2334 : (Jvm.Cond.instanceMethod ({ cls := "TracePeaksModel", name := "added", desc := "(I)I" } : Jvm.MethodName)) ∈ lw_all := lw_g (lw_at lw_m10 55 rfl) rfl
theorem q2335 : (Jvm.Cond.code ({ cls := "TracePeaksModel", name := "added", desc := "(I)I" } : Jvm.MethodName) prog_17_method_125_code (4 : Nat) (Option.some Jvm.ClassFile.FieldType.int)) ∈ lw_all := lw_g (lw_at lw_m10 56 rfl) rfl
theorem q2336 : (Jvm.Cond.methodLink "TracePeaksModel" (484 : Nat) ({ cls := "TracePeaksModel", name := "ofPeak", desc := "(II)I" } : Jvm.MethodName)) ∈ lw_all := lw_g (lw_at lw_m10 57 rfl) rfl
theorem q2337 : (Jvm.Cond.privateMethod ({ cls := "TracePeaksModel", name := "ofPeak", desc := "(II)I" } : Jvm.MethodName)) ∈ lw_tbl := lw_at lw_m10 58 rfl
theorem q2338 : (Jvm.Cond.instanceMethod ({ cls := "TracePeaksModel", name := "ofPeak", desc := "(II)I" } : Jvm.MethodName)) ∈ lw_all := lw_g (lw_at lw_m10 59 rfl) rfl
theorem q2339 : (Jvm.Cond.code ({ cls := "TracePeaksModel", name := "ofPeak", desc := "(II)I" } : Jvm.MethodName) prog_17_method_124_code (3 : Nat) (Option.some Jvm.ClassFile.FieldType.int)) ∈ lw_all := lw_g (lw_at lw_m10 60 rfl) rfl
theorem q2341 : (Jvm.Cond.instanceMethod ({ cls := "TracePeaksModel", name := "held", desc := "(I)I" } : Jvm.MethodName)) ∈ lw_all := lw_g (lw_at lw_m10 62 rfl) rfl
theorem q2342 : (Jvm.Cond.selects "TracePeaksModel" ({ cls := "TracePeaksModel", name := "held", desc := "(I)I" } : Jvm.MethodName) ({ cls := "TracePeaksModel", name := "held", desc := "(I)I" } : Jvm.MethodName)) ∈ lw_all := lw_g (lw_at lw_m10 63 rfl) rfl
theorem q2343 : (Jvm.Cond.code ({ cls := "TracePeaksModel", name := "held", desc := "(I)I" } : Jvm.MethodName) prog_17_method_129_code (2 : Nat) (Option.some Jvm.ClassFile.FieldType.int)) ∈ lw_all := lw_g (lw_at lw_m10 64 rfl) rfl
theorem q2367 : (Jvm.Cond.castable "TracePeaksModel" "java/lang/Object") ∈ lw_tbl := lw_at lw_m10 88 rfl
theorem in_X9 : ∀ w ∈ wsX90, w ∈ lw_all := lw_in wsX90 [1705, 1707, 1709, 1711, 1713, 1715, 1717, 1719, 1721, 1723, 1725, 1727, 1729, 1731, 1733, 1735, 1737, 1739, 1741, 1743, 1745, 1747, 1749, 1751, 1753, 1755, 1757, 1759, 1761, 1763, 1765, 1767, 1769, 1771, 1773, 1775, 1777, 1779, 1781, 1783, 1785, 1787, 1789, 1791, 1793, 1795, 1797, 1799, 1801, 1803, 1805, 1807] (by decide +kernel) (by decide +kernel)
def RX10 : String := "TracePeaks$Reader"
def TX10 : u_T := fun k => match k with
  | 0 => ("TracePeaks$Reader", "at", "I", false)
  | _ => ("TracePeaks$Reader", "this$0", "LTracePeaks;", true)
def tyX10 : Nat → FieldType := fun k => match k with
  | 0 => .int
  | _ => .object "TracePeaks"
abbrev wsX100 : List Cond := u_ws RX10 TX10 2
theorem nmX10 : ∀ a, a < 2 → ∀ b, b < 2 → a ≠ b → (TX10 a).2.1 ≠ (TX10 b).2.1 := by decide +kernel
theorem tyX10_ok : ∀ k, k < 2 → parseFieldDescriptor (TX10 k).2.2.1 = some (tyX10 k) := by decide +kernel
abbrev cX10_init : ByteArray := prog_10_method_1_code
def yX10_init : MethodName := ⟨RX10, "<init>", "(LTracePeaks;)V"⟩
abbrev cX10_trace : ByteArray := prog_10_method_11_code
def yX10_trace : MethodName := ⟨RX10, "trace", "()LTracePeaks$Trace;"⟩
abbrev cX10_clause : ByteArray := prog_10_method_10_code
def yX10_clause : MethodName := ⟨RX10, "clause", "(LTracePeaks$Trace;I)I"⟩
abbrev cX10_peek : ByteArray := prog_10_method_2_code
def yX10_peek : MethodName := ⟨RX10, "peek", "()I"⟩
abbrev cX10_word : ByteArray := prog_10_method_5_code
def yX10_word : MethodName := ⟨RX10, "word", "()Ljava/lang/CharSequence;"⟩
abbrev cX10_isLetter : ByteArray := prog_10_method_3_code
def yX10_isLetter : MethodName := ⟨RX10, "isLetter", "()Z"⟩
abbrev cX10_samples : ByteArray := prog_10_method_8_code
def yX10_samples : MethodName := ⟨RX10, "samples", "(LTracePeaks$Samples;)V"⟩
abbrev cX10_number : ByteArray := prog_10_method_6_code
def yX10_number : MethodName := ⟨RX10, "number", "(ZI)I"⟩
abbrev cX10_isDigit : ByteArray := prog_10_method_4_code
def yX10_isDigit : MethodName := ⟨RX10, "isDigit", "()Z"⟩
abbrev cX10_line : ByteArray := prog_10_method_9_code
def yX10_line : MethodName := ⟨RX10, "line", "(LTracePeaks$Trace;)V"⟩
abbrev cX10_goesOn : ByteArray := prog_10_method_7_code
def yX10_goesOn : MethodName := ⟨RX10, "goesOn", "()Z"⟩
abbrev cX10_script : ByteArray := prog_10_method_13_code
def yX10_script : MethodName := ⟨RX10, "script", "()LTracePeaks$Script;"⟩
abbrev cX10_step : ByteArray := prog_10_method_12_code
def yX10_step : MethodName := ⟨RX10, "step", "(LTracePeaks$Script;)V"⟩
theorem q130 : (Jvm.Cond.initialized "TracePeaks$Reader") ∈ lw_all := lw_g (lw_at lw_m1 11 rfl) rfl
theorem q323 : (Jvm.Cond.fieldLinkNest "TracePeaks$Reader" (64 : Nat) "TracePeaks$Samples" "many" "I" "TracePeaks") ∈ lw_tbl := lw_at lw_m1 204 rfl
theorem q367 : (Jvm.Cond.fieldLinkNest "TracePeaks$Reader" (22 : Nat) "TracePeaks" "tape" "[B" "TracePeaks") ∈ lw_tbl := lw_at lw_m2 8 rfl
theorem q369 : (Jvm.Cond.fieldLinkNest "TracePeaks$Reader" (19 : Nat) "TracePeaks" "length" "I" "TracePeaks") ∈ lw_tbl := lw_at lw_m2 10 rfl
theorem q445 : (Jvm.Cond.instantiable "TracePeaks$Reader" (2 : Nat)) ∈ lw_all := lw_g (lw_at lw_m2 86 rfl) rfl
theorem q447 : (Jvm.Cond.instanceMethod ({ cls := "TracePeaks$Reader", name := "<init>", desc := "(LTracePeaks;)V" } : Jvm.MethodName)) ∈ lw_all := lw_g (lw_at lw_m2 88 rfl) rfl
theorem q448 : (Jvm.Cond.code ({ cls := "TracePeaks$Reader", name := "<init>", desc := "(LTracePeaks;)V" } : Jvm.MethodName) prog_10_method_1_code (2 : Nat) (Option.none : Option Jvm.ClassFile.FieldType)) ∈ lw_all := lw_g (lw_at lw_m2 89 rfl) rfl
theorem q449 : (Jvm.Cond.methodLink "TracePeaks$Reader" (9 : Nat) ({ cls := "java/lang/Object", name := "<init>", desc := "()V" } : Jvm.MethodName)) ∈ lw_all := lw_g (lw_at lw_m2 90 rfl) rfl
theorem q450 : (Jvm.Cond.fieldLink "TracePeaks$Reader" (15 : Nat) "TracePeaks$Reader" "at" "I") ∈ lw_all := lw_g (lw_at lw_m2 91 rfl) rfl
theorem q451 : (Jvm.Cond.fieldLink "TracePeaks$Reader" (3 : Nat) "TracePeaks$Reader" "this$0" "LTracePeaks;") ∈ lw_all := lw_g (lw_at lw_m2 92 rfl) rfl
theorem q452 : (Jvm.Cond.lays "TracePeaks$Reader" "TracePeaks$Reader" "at" "I") ∈ lw_all := lw_g (lw_at lw_m2 93 rfl) rfl
theorem q453 : (Jvm.Cond.soleField "TracePeaks$Reader" "at") ∈ lw_all := lw_g (lw_at lw_m2 94 rfl) rfl
theorem q454 : (Jvm.Cond.laysFinal "TracePeaks$Reader" "TracePeaks$Reader" "this$0" "LTracePeaks;") ∈ lw_all := lw_g (lw_at lw_m2 95 rfl) rfl
theorem q455 : (Jvm.Cond.soleField "TracePeaks$Reader" "this$0") ∈ lw_all := lw_g (lw_at lw_m2 96 rfl) rfl
theorem q456 : (Jvm.Cond.superclass "TracePeaks$Reader" "java/lang/Object") ∈ lw_all := lw_g (lw_at lw_m2 97 rfl) rfl
theorem q458 : (Jvm.Cond.instanceMethod ({ cls := "TracePeaks$Reader", name := "trace", desc := "()LTracePeaks$Trace;" } : Jvm.MethodName)) ∈ lw_all := lw_g (lw_at lw_m2 99 rfl) rfl
theorem q459 : (Jvm.Cond.selects "TracePeaks$Reader" ({ cls := "TracePeaks$Reader", name := "trace", desc := "()LTracePeaks$Trace;" } : Jvm.MethodName) ({ cls := "TracePeaks$Reader", name := "trace", desc := "()LTracePeaks$Trace;" } : Jvm.MethodName)) ∈ lw_all := lw_g (lw_at lw_m2 100 rfl) rfl
theorem q460 : (Jvm.Cond.code ({ cls := "TracePeaks$Reader", name := "trace", desc := "()LTracePeaks$Trace;" } : Jvm.MethodName) prog_10_method_11_code (3 : Nat) (Option.some (Jvm.ClassFile.FieldType.object "TracePeaks$Trace"))) ∈ lw_all := lw_g (lw_at lw_m2 101 rfl) rfl
theorem q461 : (Jvm.Cond.classLink "TracePeaks$Reader" (78 : Nat) "TracePeaks$Trace") ∈ lw_all := lw_g (lw_at lw_m2 102 rfl) rfl
theorem q463 : (Jvm.Cond.methodLinkNest "TracePeaks$Reader" (129 : Nat) ({ cls := "TracePeaks$Trace", name := "<init>", desc := "()V" } : Jvm.MethodName) "TracePeaks") ∈ lw_tbl := lw_at lw_m2 104 rfl
theorem q473 : (Jvm.Cond.fieldLinkNest "TracePeaks$Reader" (115 : Nat) "TracePeaks$Trace" "samples" "LTracePeaks$Samples;" "TracePeaks") ∈ lw_tbl := lw_at lw_m2 114 rfl
theorem q475 : (Jvm.Cond.fieldLinkNest "TracePeaks$Reader" (83 : Nat) "TracePeaks$Trace" "names" "[Ljava/lang/String;" "TracePeaks") ∈ lw_tbl := lw_at lw_m2 116 rfl
theorem q478 : (Jvm.Cond.fieldLinkNest "TracePeaks$Reader" (94 : Nat) "TracePeaks$Trace" "places" "[I" "TracePeaks") ∈ lw_tbl := lw_at lw_m2 119 rfl
theorem q482 : (Jvm.Cond.fieldLinkNest "TracePeaks$Reader" (87 : Nat) "TracePeaks$Trace" "lines" "I" "TracePeaks") ∈ lw_tbl := lw_at lw_m2 123 rfl
theorem q486 : (Jvm.Cond.fieldLinkNest "TracePeaks$Reader" (122 : Nat) "TracePeaks$Trace" "noise" "I" "TracePeaks") ∈ lw_tbl := lw_at lw_m2 127 rfl
theorem q488 : (Jvm.Cond.fieldLinkNest "TracePeaks$Reader" (124 : Nat) "TracePeaks$Trace" "reach" "I" "TracePeaks") ∈ lw_tbl := lw_at lw_m2 129 rfl
theorem q504 : (Jvm.Cond.methodLink "TracePeaks$Reader" (130 : Nat) ({ cls := "TracePeaks$Reader", name := "clause", desc := "(LTracePeaks$Trace;I)I" } : Jvm.MethodName)) ∈ lw_all := lw_g (lw_at lw_m2 145 rfl) rfl
theorem q505 : (Jvm.Cond.privateMethod ({ cls := "TracePeaks$Reader", name := "clause", desc := "(LTracePeaks$Trace;I)I" } : Jvm.MethodName)) ∈ lw_tbl := lw_at lw_m2 146 rfl
theorem q506 : (Jvm.Cond.instanceMethod ({ cls := "TracePeaks$Reader", name := "clause", desc := "(LTracePeaks$Trace;I)I" } : Jvm.MethodName)) ∈ lw_all := lw_g (lw_at lw_m2 147 rfl) rfl
theorem q507 : (Jvm.Cond.code ({ cls := "TracePeaks$Reader", name := "clause", desc := "(LTracePeaks$Trace;I)I" } : Jvm.MethodName) prog_10_method_10_code (9 : Nat) (Option.some Jvm.ClassFile.FieldType.int)) ∈ lw_all := lw_g (lw_at lw_m2 148 rfl) rfl
theorem q508 : (Jvm.Cond.methodLink "TracePeaks$Reader" (26 : Nat) ({ cls := "TracePeaks$Reader", name := "peek", desc := "()I" } : Jvm.MethodName)) ∈ lw_all := lw_g (lw_at lw_m2 149 rfl) rfl
theorem q509 : (Jvm.Cond.privateMethod ({ cls := "TracePeaks$Reader", name := "peek", desc := "()I" } : Jvm.MethodName)) ∈ lw_tbl := lw_at lw_m2 150 rfl
theorem q510 : (Jvm.Cond.instanceMethod ({ cls := "TracePeaks$Reader", name := "peek", desc := "()I" } : Jvm.MethodName)) ∈ lw_all := lw_g (lw_at lw_m2 151 rfl) rfl
theorem q511 : (Jvm.Cond.code ({ cls := "TracePeaks$Reader", name := "peek", desc := "()I" } : Jvm.MethodName) prog_10_method_2_code (1 : Nat) (Option.some Jvm.ClassFile.FieldType.int)) ∈ lw_all := lw_g (lw_at lw_m2 152 rfl) rfl
theorem q512 : (Jvm.Cond.methodLink "TracePeaks$Reader" (67 : Nat) ({ cls := "TracePeaks$Reader", name := "word", desc := "()Ljava/lang/CharSequence;" } : Jvm.MethodName)) ∈ lw_all := lw_g (lw_at lw_m2 153 rfl) rfl
theorem q513 : (Jvm.Cond.privateMethod ({ cls := "TracePeaks$Reader", name := "word", desc := "()Ljava/lang/CharSequence;" } : Jvm.MethodName)) ∈ lw_tbl := lw_at lw_m2 154 rfl
theorem q514 : (Jvm.Cond.instanceMethod ({ cls := "TracePeaks$Reader", name := "word", desc := "()Ljava/lang/CharSequence;" } : Jvm.MethodName)) ∈ lw_all := lw_g (lw_at lw_m2 155 rfl) rfl
theorem q515 : (Jvm.Cond.code ({ cls := "TracePeaks$Reader", name := "word", desc := "()Ljava/lang/CharSequence;" } : Jvm.MethodName) prog_10_method_5_code (3 : Nat) (Option.some (Jvm.ClassFile.FieldType.object "java/lang/CharSequence"))) ∈ lw_all := lw_g (lw_at lw_m2 156 rfl) rfl
theorem q516 : (Jvm.Cond.classLink "TracePeaks$Reader" (30 : Nat) "java/lang/StringBuilder") ∈ lw_all := lw_g (lw_at lw_m2 157 rfl) rfl
theorem q518 : (Jvm.Cond.methodLink "TracePeaks$Reader" (32 : Nat) ({ cls := "java/lang/StringBuilder", name := "<init>", desc := "()V" } : Jvm.MethodName)) ∈ lw_all := lw_g (lw_at lw_m2 159 rfl) rfl
theorem q547 : (Jvm.Cond.methodLink "TracePeaks$Reader" (33 : Nat) ({ cls := "TracePeaks$Reader", name := "isLetter", desc := "()Z" } : Jvm.MethodName)) ∈ lw_all := lw_g (lw_at lw_m2 188 rfl) rfl
theorem q548 : (Jvm.Cond.privateMethod ({ cls := "TracePeaks$Reader", name := "isLetter", desc := "()Z" } : Jvm.MethodName)) ∈ lw_tbl := lw_at lw_m2 189 rfl
theorem q549 : (Jvm.Cond.instanceMethod ({ cls := "TracePeaks$Reader", name := "isLetter", desc := "()Z" } : Jvm.MethodName)) ∈ lw_all := lw_g (lw_at lw_m2 190 rfl) rfl
theorem q550 : (Jvm.Cond.code ({ cls := "TracePeaks$Reader", name := "isLetter", desc := "()Z" } : Jvm.MethodName) prog_10_method_3_code (1 : Nat) (Option.some Jvm.ClassFile.FieldType.boolean)) ∈ lw_all := lw_g (lw_at lw_m2 191 rfl) rfl
theorem q551 : (Jvm.Cond.methodLink "TracePeaks$Reader" (37 : Nat) ({ cls := "java/lang/StringBuilder", name := "append", desc := "(C)Ljava/lang/StringBuilder;" } : Jvm.MethodName)) ∈ lw_all := lw_g (lw_at lw_m2 192 rfl) rfl
theorem q642 : (Jvm.Cond.interfaceEntry "TracePeaks$Reader" (90 : Nat)) ∈ lw_tbl := lw_at lw_m3 43 rfl
theorem q643 : (Jvm.Cond.methodLink "TracePeaks$Reader" (90 : Nat) ({ cls := "java/lang/CharSequence", name := "toString", desc := "()Ljava/lang/String;" } : Jvm.MethodName)) ∈ lw_all := lw_g (lw_at lw_m3 44 rfl) rfl
theorem q717 : (Jvm.Cond.methodLink "TracePeaks$Reader" (98 : Nat) ({ cls := "java/lang/String", name := "hashCode", desc := "()I" } : Jvm.MethodName)) ∈ lw_all := lw_g (lw_at lw_m3 118 rfl) rfl
theorem q770 : (Jvm.Cond.stringRef "TracePeaks$Reader" (103 : Nat) "trace") ∈ lw_tbl := lw_at lw_m3 171 rfl
theorem q771 : (Jvm.Cond.methodLink "TracePeaks$Reader" (105 : Nat) ({ cls := "java/lang/String", name := "equals", desc := "(Ljava/lang/Object;)Z" } : Jvm.MethodName)) ∈ lw_all := lw_g (lw_at lw_m3 172 rfl) rfl
theorem q779 : (Jvm.Cond.stringRef "TracePeaks$Reader" (109 : Nat) "noise") ∈ lw_tbl := lw_at lw_m3 180 rfl
theorem q780 : (Jvm.Cond.stringRef "TracePeaks$Reader" (111 : Nat) "reach") ∈ lw_tbl := lw_at lw_m3 181 rfl
theorem q781 : (Jvm.Cond.stringRef "TracePeaks$Reader" (113 : Nat) "line") ∈ lw_tbl := lw_at lw_m3 182 rfl
theorem q782 : (Jvm.Cond.classLink "TracePeaks$Reader" (50 : Nat) "TracePeaks$Wrong") ∈ lw_all := lw_g (lw_at lw_m3 183 rfl) rfl
theorem q820 : (Jvm.Cond.methodLink "TracePeaks$Reader" (52 : Nat) ({ cls := "TracePeaks$Wrong", name := "<init>", desc := "(I)V" } : Jvm.MethodName)) ∈ lw_all := lw_g (lw_at lw_m3 221 rfl) rfl
theorem q846 : (Jvm.Cond.methodLink "TracePeaks$Reader" (119 : Nat) ({ cls := "TracePeaks$Reader", name := "samples", desc := "(LTracePeaks$Samples;)V" } : Jvm.MethodName)) ∈ lw_all := lw_g (lw_at lw_m4 7 rfl) rfl
theorem q847 : (Jvm.Cond.privateMethod ({ cls := "TracePeaks$Reader", name := "samples", desc := "(LTracePeaks$Samples;)V" } : Jvm.MethodName)) ∈ lw_tbl := lw_at lw_m4 8 rfl
theorem q848 : (Jvm.Cond.instanceMethod ({ cls := "TracePeaks$Reader", name := "samples", desc := "(LTracePeaks$Samples;)V" } : Jvm.MethodName)) ∈ lw_all := lw_g (lw_at lw_m4 9 rfl) rfl
theorem q849 : (Jvm.Cond.code ({ cls := "TracePeaks$Reader", name := "samples", desc := "(LTracePeaks$Samples;)V" } : Jvm.MethodName) prog_10_method_8_code (3 : Nat) (Option.none : Option Jvm.ClassFile.FieldType)) ∈ lw_all := lw_g (lw_at lw_m4 10 rfl) rfl
theorem q850 : (Jvm.Cond.methodLink "TracePeaks$Reader" (55 : Nat) ({ cls := "TracePeaks$Reader", name := "number", desc := "(ZI)I" } : Jvm.MethodName)) ∈ lw_all := lw_g (lw_at lw_m4 11 rfl) rfl
theorem q851 : (Jvm.Cond.privateMethod ({ cls := "TracePeaks$Reader", name := "number", desc := "(ZI)I" } : Jvm.MethodName)) ∈ lw_tbl := lw_at lw_m4 12 rfl
theorem q852 : (Jvm.Cond.instanceMethod ({ cls := "TracePeaks$Reader", name := "number", desc := "(ZI)I" } : Jvm.MethodName)) ∈ lw_all := lw_g (lw_at lw_m4 13 rfl) rfl
theorem q853 : (Jvm.Cond.code ({ cls := "TracePeaks$Reader", name := "number", desc := "(ZI)I" } : Jvm.MethodName) prog_10_method_6_code (8 : Nat) (Option.some Jvm.ClassFile.FieldType.int)) ∈ lw_all := lw_g (lw_at lw_m4 14 rfl) rfl
theorem q854 : (Jvm.Cond.methodLink "TracePeaks$Reader" (41 : Nat) ({ cls := "TracePeaks$Reader", name := "isDigit", desc := "()Z" } : Jvm.MethodName)) ∈ lw_all := lw_g (lw_at lw_m4 15 rfl) rfl
theorem q855 : (Jvm.Cond.privateMethod ({ cls := "TracePeaks$Reader", name := "isDigit", desc := "()Z" } : Jvm.MethodName)) ∈ lw_tbl := lw_at lw_m4 16 rfl
theorem q856 : (Jvm.Cond.instanceMethod ({ cls := "TracePeaks$Reader", name := "isDigit", desc := "()Z" } : Jvm.MethodName)) ∈ lw_all := lw_g (lw_at lw_m4 17 rfl) rfl
theorem q857 : (Jvm.Cond.code ({ cls := "TracePeaks$Reader", name := "isDigit", desc := "()Z" } : Jvm.MethodName) prog_10_method_4_code (1 : Nat) (Option.some Jvm.ClassFile.FieldType.boolean)) ∈ lw_all := lw_g (lw_at lw_m4 18 rfl) rfl
theorem q858 : (Jvm.Cond.constantLong "TracePeaks$Reader" (44 : Nat) (3 : Int64)) ∈ lw_all := lw_g (lw_at lw_m4 19 rfl) rfl
theorem q859 : (Jvm.Cond.methodLinkNest "TracePeaks$Reader" (46 : Nat) ({ cls := "TracePeaks", name := "isIn", desc := "(JJJ)Z" } : Jvm.MethodName) "TracePeaks") ∈ lw_tbl := lw_at lw_m4 20 rfl
theorem q860 : (Jvm.Cond.methodLink "TracePeaks$Reader" (59 : Nat) ({ cls := "TracePeaks$Samples", name := "add", desc := "(I)V" } : Jvm.MethodName)) ∈ lw_all := lw_g (lw_at lw_m4 21 rfl) rfl
theorem q864 : (Jvm.Cond.methodLink "TracePeaks$Reader" (126 : Nat) ({ cls := "TracePeaks$Reader", name := "line", desc := "(LTracePeaks$Trace;)V" } : Jvm.MethodName)) ∈ lw_all := lw_g (lw_at lw_m4 25 rfl) rfl
theorem q865 : (Jvm.Cond.privateMethod ({ cls := "TracePeaks$Reader", name := "line", desc := "(LTracePeaks$Trace;)V" } : Jvm.MethodName)) ∈ lw_tbl := lw_at lw_m4 26 rfl
theorem q866 : (Jvm.Cond.instanceMethod ({ cls := "TracePeaks$Reader", name := "line", desc := "(LTracePeaks$Trace;)V" } : Jvm.MethodName)) ∈ lw_all := lw_g (lw_at lw_m4 27 rfl) rfl
theorem q867 : (Jvm.Cond.code ({ cls := "TracePeaks$Reader", name := "line", desc := "(LTracePeaks$Trace;)V" } : Jvm.MethodName) prog_10_method_9_code (5 : Nat) (Option.none : Option Jvm.ClassFile.FieldType)) ∈ lw_all := lw_g (lw_at lw_m4 28 rfl) rfl
theorem q868 : (Jvm.Cond.interfaceEntry "TracePeaks$Reader" (71 : Nat)) ∈ lw_tbl := lw_at lw_m4 29 rfl
theorem q869 : (Jvm.Cond.methodLink "TracePeaks$Reader" (71 : Nat) ({ cls := "java/lang/CharSequence", name := "length", desc := "()I" } : Jvm.MethodName)) ∈ lw_all := lw_g (lw_at lw_m4 30 rfl) rfl
theorem q884 : (Jvm.Cond.constantLong "TracePeaks$Reader" (75 : Nat) (6 : Int64)) ∈ lw_all := lw_g (lw_at lw_m4 45 rfl) rfl
theorem q885 : (Jvm.Cond.methodLink "TracePeaks$Reader" (77 : Nat) ({ cls := "TracePeaks$Trace", name := "has", desc := "(Ljava/lang/CharSequence;)Z" } : Jvm.MethodName)) ∈ lw_all := lw_g (lw_at lw_m4 46 rfl) rfl
theorem q892 : (Jvm.Cond.methodLink "TracePeaks$Reader" (134 : Nat) ({ cls := "TracePeaks$Reader", name := "goesOn", desc := "()Z" } : Jvm.MethodName)) ∈ lw_all := lw_g (lw_at lw_m4 53 rfl) rfl
theorem q893 : (Jvm.Cond.privateMethod ({ cls := "TracePeaks$Reader", name := "goesOn", desc := "()Z" } : Jvm.MethodName)) ∈ lw_tbl := lw_at lw_m4 54 rfl
theorem q894 : (Jvm.Cond.instanceMethod ({ cls := "TracePeaks$Reader", name := "goesOn", desc := "()Z" } : Jvm.MethodName)) ∈ lw_all := lw_g (lw_at lw_m4 55 rfl) rfl
theorem q895 : (Jvm.Cond.code ({ cls := "TracePeaks$Reader", name := "goesOn", desc := "()Z" } : Jvm.MethodName) prog_10_method_7_code (2 : Nat) (Option.some Jvm.ClassFile.FieldType.boolean)) ∈ lw_all := lw_g (lw_at lw_m4 56 rfl) rfl
theorem q897 : (Jvm.Cond.instanceMethod ({ cls := "TracePeaks$Reader", name := "script", desc := "()LTracePeaks$Script;" } : Jvm.MethodName)) ∈ lw_all := lw_g (lw_at lw_m4 58 rfl) rfl
theorem q898 : (Jvm.Cond.selects "TracePeaks$Reader" ({ cls := "TracePeaks$Reader", name := "script", desc := "()LTracePeaks$Script;" } : Jvm.MethodName) ({ cls := "TracePeaks$Reader", name := "script", desc := "()LTracePeaks$Script;" } : Jvm.MethodName)) ∈ lw_all := lw_g (lw_at lw_m4 59 rfl) rfl
theorem q899 : (Jvm.Cond.code ({ cls := "TracePeaks$Reader", name := "script", desc := "()LTracePeaks$Script;" } : Jvm.MethodName) prog_10_method_13_code (3 : Nat) (Option.some (Jvm.ClassFile.FieldType.object "TracePeaks$Script"))) ∈ lw_all := lw_g (lw_at lw_m4 60 rfl) rfl
theorem q900 : (Jvm.Cond.classLink "TracePeaks$Reader" (142 : Nat) "TracePeaks$Script") ∈ lw_all := lw_g (lw_at lw_m4 61 rfl) rfl
theorem q902 : (Jvm.Cond.methodLinkNest "TracePeaks$Reader" (155 : Nat) ({ cls := "TracePeaks$Script", name := "<init>", desc := "()V" } : Jvm.MethodName) "TracePeaks") ∈ lw_tbl := lw_at lw_m4 63 rfl
theorem q907 : (Jvm.Cond.fieldLinkNest "TracePeaks$Reader" (141 : Nat) "TracePeaks$Script" "what" "[I" "TracePeaks") ∈ lw_tbl := lw_at lw_m4 68 rfl
theorem q910 : (Jvm.Cond.fieldLinkNest "TracePeaks$Reader" (147 : Nat) "TracePeaks$Script" "numbers" "[I" "TracePeaks") ∈ lw_tbl := lw_at lw_m4 71 rfl
theorem q911 : (Jvm.Cond.fieldLinkNest "TracePeaks$Reader" (146 : Nat) "TracePeaks$Script" "many" "I" "TracePeaks") ∈ lw_tbl := lw_at lw_m4 72 rfl
theorem q920 : (Jvm.Cond.methodLink "TracePeaks$Reader" (156 : Nat) ({ cls := "TracePeaks$Reader", name := "step", desc := "(LTracePeaks$Script;)V" } : Jvm.MethodName)) ∈ lw_all := lw_g (lw_at lw_m4 81 rfl) rfl
theorem q921 : (Jvm.Cond.privateMethod ({ cls := "TracePeaks$Reader", name := "step", desc := "(LTracePeaks$Script;)V" } : Jvm.MethodName)) ∈ lw_tbl := lw_at lw_m4 82 rfl
theorem q922 : (Jvm.Cond.instanceMethod ({ cls := "TracePeaks$Reader", name := "step", desc := "(LTracePeaks$Script;)V" } : Jvm.MethodName)) ∈ lw_all := lw_g (lw_at lw_m4 83 rfl) rfl
theorem q923 : (Jvm.Cond.code ({ cls := "TracePeaks$Reader", name := "step", desc := "(LTracePeaks$Script;)V" } : Jvm.MethodName) prog_10_method_12_code (6 : Nat) (Option.none : Option Jvm.ClassFile.FieldType)) ∈ lw_all := lw_g (lw_at lw_m4 84 rfl) rfl
theorem q924 : (Jvm.Cond.methodLinkNest "TracePeaks$Reader" (137 : Nat) ({ cls := "TracePeaks", name := "sortOf", desc := "(Ljava/lang/CharSequence;)I" } : Jvm.MethodName) "TracePeaks") ∈ lw_tbl := lw_at lw_m4 85 rfl
theorem q941 : (Jvm.Cond.methodLinkNest "TracePeaks$Reader" (150 : Nat) ({ cls := "TracePeaks", name := "numbersOf", desc := "(I)I" } : Jvm.MethodName) "TracePeaks") ∈ lw_tbl := lw_at lw_m4 102 rfl
theorem q944 : (Jvm.Cond.constant "TracePeaks$Reader" (154 : Nat) (-1000000 : Int32)) ∈ lw_all := lw_g (lw_at lw_m4 105 rfl) rfl
theorem q1447 : (Jvm.Cond.selects "TracePeaks$Reader" ({ cls := "java/lang/Object", name := "toString", desc := "()Ljava/lang/String;" } : Jvm.MethodName) ({ cls := "java/lang/Object", name := "toString", desc := "()Ljava/lang/String;" } : Jvm.MethodName)) ∈ lw_all := lw_g (lw_at lw_m6 128 rfl) rfl
theorem q1463 : (Jvm.Cond.selects "TracePeaks$Reader" ({ cls := "java/lang/Object", name := "getClass", desc := "()Ljava/lang/Class;" } : Jvm.MethodName) ({ cls := "java/lang/Object", name := "getClass", desc := "()Ljava/lang/Class;" } : Jvm.MethodName)) ∈ lw_all := lw_g (lw_at lw_m6 144 rfl) rfl
theorem q2368 : (Jvm.Cond.castable "TracePeaks$Reader" "java/lang/Object") ∈ lw_tbl := lw_at lw_m10 89 rfl
theorem in_X10 : ∀ w ∈ wsX100, w ∈ lw_all := lw_in wsX100 [452, 454] (by decide +kernel) (by decide +kernel)
def RX11 : String := "TracePeaks$Trace"
def TX11 : u_T := fun k => match k with
  | 0 => ("TracePeaks$Trace", "samples", "LTracePeaks$Samples;", true)
  | 1 => ("TracePeaks$Trace", "names", "[Ljava/lang/String;", true)
  | 2 => ("TracePeaks$Trace", "places", "[I", true)
  | 3 => ("TracePeaks$Trace", "lines", "I", false)
  | 4 => ("TracePeaks$Trace", "noise", "I", false)
  | _ => ("TracePeaks$Trace", "reach", "I", false)
def tyX11 : Nat → FieldType := fun k => match k with
  | 0 => .object "TracePeaks$Samples"
  | 1 => .array (.object "java/lang/String")
  | 2 => .array .int
  | 3 => .int
  | 4 => .int
  | _ => .int
abbrev wsX110 : List Cond := u_ws RX11 TX11 6
theorem nmX11 : ∀ a, a < 6 → ∀ b, b < 6 → a ≠ b → (TX11 a).2.1 ≠ (TX11 b).2.1 := by decide +kernel
theorem tyX11_ok : ∀ k, k < 6 → parseFieldDescriptor (TX11 k).2.2.1 = some (tyX11 k) := by decide +kernel
abbrev cX11_init : ByteArray := prog_14_method_1_code
def yX11_init : MethodName := ⟨RX11, "<init>", "()V"⟩
abbrev cX11_has : ByteArray := prog_14_method_2_code
def yX11_has : MethodName := ⟨RX11, "has", "(Ljava/lang/CharSequence;)Z"⟩
theorem q131 : (Jvm.Cond.initialized "TracePeaks$Trace") ∈ lw_all := lw_g (lw_at lw_m1 12 rfl) rfl
theorem q462 : (Jvm.Cond.instantiable "TracePeaks$Trace" (6 : Nat)) ∈ lw_all := lw_g (lw_at lw_m2 103 rfl) rfl
theorem q464 : (Jvm.Cond.instanceMethod ({ cls := "TracePeaks$Trace", name := "<init>", desc := "()V" } : Jvm.MethodName)) ∈ lw_all := lw_g (lw_at lw_m2 105 rfl) rfl
theorem q465 : (Jvm.Cond.code ({ cls := "TracePeaks$Trace", name := "<init>", desc := "()V" } : Jvm.MethodName) prog_14_method_1_code (1 : Nat) (Option.none : Option Jvm.ClassFile.FieldType)) ∈ lw_all := lw_g (lw_at lw_m2 106 rfl) rfl
theorem q466 : (Jvm.Cond.methodLink "TracePeaks$Trace" (3 : Nat) ({ cls := "java/lang/Object", name := "<init>", desc := "()V" } : Jvm.MethodName)) ∈ lw_all := lw_g (lw_at lw_m2 107 rfl) rfl
theorem q467 : (Jvm.Cond.classLink "TracePeaks$Trace" (9 : Nat) "TracePeaks$Samples") ∈ lw_all := lw_g (lw_at lw_m2 108 rfl) rfl
theorem q468 : (Jvm.Cond.methodLinkNest "TracePeaks$Trace" (11 : Nat) ({ cls := "TracePeaks$Samples", name := "<init>", desc := "()V" } : Jvm.MethodName) "TracePeaks") ∈ lw_tbl := lw_at lw_m2 109 rfl
theorem q469 : (Jvm.Cond.classLink "TracePeaks$Trace" (18 : Nat) "java/lang/String") ∈ lw_all := lw_g (lw_at lw_m2 110 rfl) rfl
theorem q471 : (Jvm.Cond.fieldLink "TracePeaks$Trace" (12 : Nat) "TracePeaks$Trace" "samples" "LTracePeaks$Samples;") ∈ lw_all := lw_g (lw_at lw_m2 112 rfl) rfl
theorem q474 : (Jvm.Cond.fieldLink "TracePeaks$Trace" (20 : Nat) "TracePeaks$Trace" "names" "[Ljava/lang/String;") ∈ lw_all := lw_g (lw_at lw_m2 115 rfl) rfl
theorem q477 : (Jvm.Cond.fieldLink "TracePeaks$Trace" (24 : Nat) "TracePeaks$Trace" "places" "[I") ∈ lw_all := lw_g (lw_at lw_m2 118 rfl) rfl
theorem q481 : (Jvm.Cond.fieldLink "TracePeaks$Trace" (32 : Nat) "TracePeaks$Trace" "lines" "I") ∈ lw_all := lw_g (lw_at lw_m2 122 rfl) rfl
theorem q487 : (Jvm.Cond.fieldLink "TracePeaks$Trace" (28 : Nat) "TracePeaks$Trace" "reach" "I") ∈ lw_all := lw_g (lw_at lw_m2 128 rfl) rfl
theorem q491 : (Jvm.Cond.laysFinal "TracePeaks$Trace" "TracePeaks$Trace" "samples" "LTracePeaks$Samples;") ∈ lw_all := lw_g (lw_at lw_m2 132 rfl) rfl
theorem q492 : (Jvm.Cond.soleField "TracePeaks$Trace" "samples") ∈ lw_all := lw_g (lw_at lw_m2 133 rfl) rfl
theorem q493 : (Jvm.Cond.laysFinal "TracePeaks$Trace" "TracePeaks$Trace" "names" "[Ljava/lang/String;") ∈ lw_all := lw_g (lw_at lw_m2 134 rfl) rfl
theorem q494 : (Jvm.Cond.soleField "TracePeaks$Trace" "names") ∈ lw_all := lw_g (lw_at lw_m2 135 rfl) rfl
theorem q495 : (Jvm.Cond.laysFinal "TracePeaks$Trace" "TracePeaks$Trace" "places" "[I") ∈ lw_all := lw_g (lw_at lw_m2 136 rfl) rfl
theorem q496 : (Jvm.Cond.soleField "TracePeaks$Trace" "places") ∈ lw_all := lw_g (lw_at lw_m2 137 rfl) rfl
theorem q497 : (Jvm.Cond.lays "TracePeaks$Trace" "TracePeaks$Trace" "lines" "I") ∈ lw_all := lw_g (lw_at lw_m2 138 rfl) rfl
theorem q498 : (Jvm.Cond.soleField "TracePeaks$Trace" "lines") ∈ lw_all := lw_g (lw_at lw_m2 139 rfl) rfl
theorem q499 : (Jvm.Cond.lays "TracePeaks$Trace" "TracePeaks$Trace" "noise" "I") ∈ lw_all := lw_g (lw_at lw_m2 140 rfl) rfl
theorem q500 : (Jvm.Cond.soleField "TracePeaks$Trace" "noise") ∈ lw_all := lw_g (lw_at lw_m2 141 rfl) rfl
theorem q501 : (Jvm.Cond.lays "TracePeaks$Trace" "TracePeaks$Trace" "reach" "I") ∈ lw_all := lw_g (lw_at lw_m2 142 rfl) rfl
theorem q502 : (Jvm.Cond.soleField "TracePeaks$Trace" "reach") ∈ lw_all := lw_g (lw_at lw_m2 143 rfl) rfl
theorem q503 : (Jvm.Cond.superclass "TracePeaks$Trace" "java/lang/Object") ∈ lw_all := lw_g (lw_at lw_m2 144 rfl) rfl
theorem q886 : (Jvm.Cond.instanceMethod ({ cls := "TracePeaks$Trace", name := "has", desc := "(Ljava/lang/CharSequence;)Z" } : Jvm.MethodName)) ∈ lw_all := lw_g (lw_at lw_m4 47 rfl) rfl
theorem q887 : (Jvm.Cond.selects "TracePeaks$Trace" ({ cls := "TracePeaks$Trace", name := "has", desc := "(Ljava/lang/CharSequence;)Z" } : Jvm.MethodName) ({ cls := "TracePeaks$Trace", name := "has", desc := "(Ljava/lang/CharSequence;)Z" } : Jvm.MethodName)) ∈ lw_all := lw_g (lw_at lw_m4 48 rfl) rfl
theorem q888 : (Jvm.Cond.code ({ cls := "TracePeaks$Trace", name := "has", desc := "(Ljava/lang/CharSequence;)Z" } : Jvm.MethodName) prog_14_method_2_code (3 : Nat) (Option.some Jvm.ClassFile.FieldType.boolean)) ∈ lw_all := lw_g (lw_at lw_m4 49 rfl) rfl
theorem q889 : (Jvm.Cond.interfaceEntry "TracePeaks$Trace" (35 : Nat)) ∈ lw_tbl := lw_at lw_m4 50 rfl
theorem q890 : (Jvm.Cond.methodLink "TracePeaks$Trace" (35 : Nat) ({ cls := "java/lang/CharSequence", name := "toString", desc := "()Ljava/lang/String;" } : Jvm.MethodName)) ∈ lw_all := lw_g (lw_at lw_m4 51 rfl) rfl
theorem q891 : (Jvm.Cond.methodLink "TracePeaks$Trace" (41 : Nat) ({ cls := "java/lang/String", name := "equals", desc := "(Ljava/lang/Object;)Z" } : Jvm.MethodName)) ∈ lw_all := lw_g (lw_at lw_m4 52 rfl) rfl
theorem q1451 : (Jvm.Cond.selects "TracePeaks$Trace" ({ cls := "java/lang/Object", name := "toString", desc := "()Ljava/lang/String;" } : Jvm.MethodName) ({ cls := "java/lang/Object", name := "toString", desc := "()Ljava/lang/String;" } : Jvm.MethodName)) ∈ lw_all := lw_g (lw_at lw_m6 132 rfl) rfl
theorem q1467 : (Jvm.Cond.selects "TracePeaks$Trace" ({ cls := "java/lang/Object", name := "getClass", desc := "()Ljava/lang/Class;" } : Jvm.MethodName) ({ cls := "java/lang/Object", name := "getClass", desc := "()Ljava/lang/Class;" } : Jvm.MethodName)) ∈ lw_all := lw_g (lw_at lw_m6 148 rfl) rfl
theorem q2369 : (Jvm.Cond.castable "TracePeaks$Trace" "java/lang/Object") ∈ lw_tbl := lw_at lw_m10 90 rfl
theorem in_X11 : ∀ w ∈ wsX110, w ∈ lw_all := lw_in wsX110 [491, 493, 495, 497, 499, 501] (by decide +kernel) (by decide +kernel)
def RJ1 : String := "java/lang/AbstractStringBuilder"
abbrev cJ1_init : ByteArray := prog_19_method_2_code
def yJ1_init : MethodName := ⟨RJ1, "<init>", "(I)V"⟩
abbrev cJ1_append : ByteArray := prog_19_method_31_code
def yJ1_append : MethodName := ⟨RJ1, "append", "(C)Ljava/lang/AbstractStringBuilder;"⟩
abbrev cJ1_ensureCapacityInternal : ByteArray := prog_19_method_9_code
def yJ1_ensureCapacityInternal : MethodName := ⟨RJ1, "ensureCapacityInternal", "(I)V"⟩
abbrev cJ1_newCapacity : ByteArray := prog_19_method_10_code
def yJ1_newCapacity : MethodName := ⟨RJ1, "newCapacity", "(I)I"⟩
abbrev cJ1_isLatin1 : ByteArray := prog_19_method_68_code
def yJ1_isLatin1 : MethodName := ⟨RJ1, "isLatin1", "()Z"⟩
abbrev cJ1_inflate : ByteArray := prog_19_method_11_code
def yJ1_inflate : MethodName := ⟨RJ1, "inflate", "()V"⟩
abbrev cJ1_getValue : ByteArray := prog_19_method_64_code
def yJ1_getValue : MethodName := ⟨RJ1, "getValue", "()[B"⟩
abbrev cJ1_length : ByteArray := prog_19_method_6_code
def yJ1_length : MethodName := ⟨RJ1, "length", "()I"⟩
abbrev cJ1_append_2 : ByteArray := prog_19_method_22_code
def yJ1_append_2 : MethodName := ⟨RJ1, "append", "(Ljava/lang/String;)Ljava/lang/AbstractStringBuilder;"⟩
abbrev cJ1_appendNull : ByteArray := prog_19_method_26_code
def yJ1_appendNull : MethodName := ⟨RJ1, "appendNull", "()Ljava/lang/AbstractStringBuilder;"⟩
abbrev cJ1_putStringAt : ByteArray := prog_19_method_73_code
def yJ1_putStringAt : MethodName := ⟨RJ1, "putStringAt", "(ILjava/lang/String;)V"⟩
abbrev cJ1_inflateIfNeededFor : ByteArray := prog_19_method_71_code
def yJ1_inflateIfNeededFor : MethodName := ⟨RJ1, "inflateIfNeededFor", "(Ljava/lang/String;)V"⟩
abbrev cJ1_append_3 : ByteArray := prog_19_method_32_code
def yJ1_append_3 : MethodName := ⟨RJ1, "append", "(I)Ljava/lang/AbstractStringBuilder;"⟩
abbrev cJ1_charAt : ByteArray := prog_19_method_14_code
def yJ1_charAt : MethodName := ⟨RJ1, "charAt", "(I)C"⟩
theorem q132 : (Jvm.Cond.initialized "java/lang/AbstractStringBuilder") ∈ lw_all := lw_g (lw_at lw_m1 13 rfl) rfl
theorem q522 : (Jvm.Cond.instanceMethod ({ cls := "java/lang/AbstractStringBuilder", name := "<init>", desc := "(I)V" } : Jvm.MethodName)) ∈ lw_all := lw_g (lw_at lw_m2 163 rfl) rfl
theorem q523 : (Jvm.Cond.code ({ cls := "java/lang/AbstractStringBuilder", name := "<init>", desc := "(I)V" } : Jvm.MethodName) prog_19_method_2_code (2 : Nat) (Option.none : Option Jvm.ClassFile.FieldType)) ∈ lw_all := lw_g (lw_at lw_m2 164 rfl) rfl
theorem q524 : (Jvm.Cond.methodLink "java/lang/AbstractStringBuilder" (3 : Nat) ({ cls := "java/lang/Object", name := "<init>", desc := "()V" } : Jvm.MethodName)) ∈ lw_all := lw_g (lw_at lw_m2 165 rfl) rfl
theorem q525 : (Jvm.Cond.fieldLink "java/lang/AbstractStringBuilder" (18 : Nat) "java/lang/String" "COMPACT_STRINGS" "Z") ∈ lw_all := lw_g (lw_at lw_m2 166 rfl) rfl
theorem q527 : (Jvm.Cond.methodLink "java/lang/AbstractStringBuilder" (26 : Nat) ({ cls := "java/lang/StringUTF16", name := "newBytesFor", desc := "(I)[B" } : Jvm.MethodName)) ∈ lw_all := lw_g (lw_at lw_m2 168 rfl) rfl
theorem q534 : (Jvm.Cond.fieldLink "java/lang/AbstractStringBuilder" (15 : Nat) "java/lang/AbstractStringBuilder" "value" "[B") ∈ lw_all := lw_g (lw_at lw_m2 175 rfl) rfl
theorem q535 : (Jvm.Cond.fieldLink "java/lang/AbstractStringBuilder" (22 : Nat) "java/lang/AbstractStringBuilder" "coder" "B") ∈ lw_all := lw_g (lw_at lw_m2 176 rfl) rfl
theorem q537 : (Jvm.Cond.fieldLink "java/lang/AbstractStringBuilder" (79 : Nat) "java/lang/AbstractStringBuilder" "count" "I") ∈ lw_all := lw_g (lw_at lw_m2 178 rfl) rfl
theorem q539 : (Jvm.Cond.soleField "java/lang/AbstractStringBuilder" "value") ∈ lw_all := lw_g (lw_at lw_m2 180 rfl) rfl
theorem q541 : (Jvm.Cond.soleField "java/lang/AbstractStringBuilder" "coder") ∈ lw_all := lw_g (lw_at lw_m2 182 rfl) rfl
theorem q543 : (Jvm.Cond.soleField "java/lang/AbstractStringBuilder" "maybeLatin1") ∈ lw_all := lw_g (lw_at lw_m2 184 rfl) rfl
theorem q545 : (Jvm.Cond.soleField "java/lang/AbstractStringBuilder" "count") ∈ lw_all := lw_g (lw_at lw_m2 186 rfl) rfl
theorem q556 : (Jvm.Cond.instanceMethod ({ cls := "java/lang/AbstractStringBuilder", name := "append", desc := "(C)Ljava/lang/AbstractStringBuilder;" } : Jvm.MethodName)) ∈ lw_all := lw_g (lw_at lw_m2 197 rfl) rfl
theorem q557 : (Jvm.Cond.code ({ cls := "java/lang/AbstractStringBuilder", name := "append", desc := "(C)Ljava/lang/AbstractStringBuilder;" } : Jvm.MethodName) prog_19_method_31_code (2 : Nat) (Option.some (Jvm.ClassFile.FieldType.object "java/lang/AbstractStringBuilder"))) ∈ lw_all := lw_g (lw_at lw_m2 198 rfl) rfl
theorem q558 : (Jvm.Cond.methodLink "java/lang/AbstractStringBuilder" (100 : Nat) ({ cls := "java/lang/AbstractStringBuilder", name := "ensureCapacityInternal", desc := "(I)V" } : Jvm.MethodName)) ∈ lw_all := lw_g (lw_at lw_m2 199 rfl) rfl
theorem q559 : (Jvm.Cond.privateMethod ({ cls := "java/lang/AbstractStringBuilder", name := "ensureCapacityInternal", desc := "(I)V" } : Jvm.MethodName)) ∈ lw_tbl := lw_at lw_m2 200 rfl
theorem q560 : (Jvm.Cond.instanceMethod ({ cls := "java/lang/AbstractStringBuilder", name := "ensureCapacityInternal", desc := "(I)V" } : Jvm.MethodName)) ∈ lw_all := lw_g (lw_at lw_m2 201 rfl) rfl
theorem q561 : (Jvm.Cond.code ({ cls := "java/lang/AbstractStringBuilder", name := "ensureCapacityInternal", desc := "(I)V" } : Jvm.MethodName) prog_19_method_9_code (3 : Nat) (Option.none : Option Jvm.ClassFile.FieldType)) ∈ lw_all := lw_g (lw_at lw_m2 202 rfl) rfl
theorem q562 : (Jvm.Cond.methodLink "java/lang/AbstractStringBuilder" (104 : Nat) ({ cls := "java/lang/AbstractStringBuilder", name := "newCapacity", desc := "(I)I" } : Jvm.MethodName)) ∈ lw_all := lw_g (lw_at lw_m2 203 rfl) rfl
theorem q563 : (Jvm.Cond.privateMethod ({ cls := "java/lang/AbstractStringBuilder", name := "newCapacity", desc := "(I)I" } : Jvm.MethodName)) ∈ lw_tbl := lw_at lw_m2 204 rfl
theorem q564 : (Jvm.Cond.instanceMethod ({ cls := "java/lang/AbstractStringBuilder", name := "newCapacity", desc := "(I)I" } : Jvm.MethodName)) ∈ lw_all := lw_g (lw_at lw_m2 205 rfl) rfl
theorem q565 : (Jvm.Cond.code ({ cls := "java/lang/AbstractStringBuilder", name := "newCapacity", desc := "(I)I" } : Jvm.MethodName) prog_19_method_10_code (6 : Nat) (Option.some Jvm.ClassFile.FieldType.int)) ∈ lw_all := lw_g (lw_at lw_m2 206 rfl) rfl
theorem q566 : (Jvm.Cond.methodLink "java/lang/AbstractStringBuilder" (114 : Nat) ({ cls := "jdk/internal/util/ArraysSupport", name := "newLength", desc := "(III)I" } : Jvm.MethodName)) ∈ lw_all := lw_g (lw_at lw_m2 207 rfl) rfl
theorem q574 : (Jvm.Cond.constant "java/lang/AbstractStringBuilder" (39 : Nat) (2147483647 : Int32)) ∈ lw_all := lw_g (lw_at lw_m2 215 rfl) rfl
theorem q575 : (Jvm.Cond.methodLink "java/lang/AbstractStringBuilder" (108 : Nat) ({ cls := "java/util/Arrays", name := "copyOf", desc := "([BI)[B" } : Jvm.MethodName)) ∈ lw_all := lw_g (lw_at lw_m2 216 rfl) rfl
theorem q589 : (Jvm.Cond.methodLink "java/lang/AbstractStringBuilder" (83 : Nat) ({ cls := "java/lang/AbstractStringBuilder", name := "isLatin1", desc := "()Z" } : Jvm.MethodName)) ∈ lw_all := lw_g (lw_at lw_m2 230 rfl) rfl
theorem q590 : (Jvm.Cond.instanceMethod ({ cls := "java/lang/AbstractStringBuilder", name := "isLatin1", desc := "()Z" } : Jvm.MethodName)) ∈ lw_all := lw_g (lw_at lw_m2 231 rfl) rfl
theorem q591 : (Jvm.Cond.sameMethod "java/lang/AbstractStringBuilder" "java/lang/AbstractStringBuilder" "isLatin1" "()Z") ∈ lw_all := lw_g (lw_at lw_m2 232 rfl) rfl
theorem q593 : (Jvm.Cond.code ({ cls := "java/lang/AbstractStringBuilder", name := "isLatin1", desc := "()Z" } : Jvm.MethodName) prog_19_method_68_code (1 : Nat) (Option.some Jvm.ClassFile.FieldType.boolean)) ∈ lw_all := lw_g (lw_at lw_m2 234 rfl) rfl
theorem q594 : (Jvm.Cond.methodLink "java/lang/AbstractStringBuilder" (191 : Nat) ({ cls := "java/lang/StringLatin1", name := "canEncode", desc := "(C)Z" } : Jvm.MethodName)) ∈ lw_all := lw_g (lw_at lw_m2 235 rfl) rfl
theorem q597 : (Jvm.Cond.methodLink "java/lang/AbstractStringBuilder" (195 : Nat) ({ cls := "java/lang/AbstractStringBuilder", name := "inflate", desc := "()V" } : Jvm.MethodName)) ∈ lw_all := lw_g (lw_at lw_m2 238 rfl) rfl
theorem q598 : (Jvm.Cond.privateMethod ({ cls := "java/lang/AbstractStringBuilder", name := "inflate", desc := "()V" } : Jvm.MethodName)) ∈ lw_tbl := lw_at lw_m2 239 rfl
theorem q599 : (Jvm.Cond.instanceMethod ({ cls := "java/lang/AbstractStringBuilder", name := "inflate", desc := "()V" } : Jvm.MethodName)) ∈ lw_all := lw_g (lw_at lw_m3 0 rfl) rfl
theorem q600 : (Jvm.Cond.code ({ cls := "java/lang/AbstractStringBuilder", name := "inflate", desc := "()V" } : Jvm.MethodName) prog_19_method_11_code (2 : Nat) (Option.none : Option Jvm.ClassFile.FieldType)) ∈ lw_all := lw_g (lw_at lw_m3 1 rfl) rfl
theorem q601 : (Jvm.Cond.methodLink "java/lang/AbstractStringBuilder" (125 : Nat) ({ cls := "java/lang/StringLatin1", name := "inflate", desc := "([BI[BII)V" } : Jvm.MethodName)) ∈ lw_all := lw_g (lw_at lw_m3 2 rfl) rfl
theorem q630 : (Jvm.Cond.methodLink "java/lang/AbstractStringBuilder" (197 : Nat) ({ cls := "java/lang/StringUTF16", name := "putCharSB", desc := "([BII)V" } : Jvm.MethodName)) ∈ lw_all := lw_g (lw_at lw_m3 31 rfl) rfl
theorem q668 : (Jvm.Cond.instanceMethod ({ cls := "java/lang/AbstractStringBuilder", name := "getValue", desc := "()[B" } : Jvm.MethodName)) ∈ lw_all := lw_g (lw_at lw_m3 69 rfl) rfl
theorem q669 : (Jvm.Cond.sameMethod "java/lang/AbstractStringBuilder" "java/lang/AbstractStringBuilder" "getValue" "()[B") ∈ lw_all := lw_g (lw_at lw_m3 70 rfl) rfl
theorem q671 : (Jvm.Cond.code ({ cls := "java/lang/AbstractStringBuilder", name := "getValue", desc := "()[B" } : Jvm.MethodName) prog_19_method_64_code (1 : Nat) (Option.some (Jvm.ClassFile.FieldType.array Jvm.ClassFile.FieldType.byte))) ∈ lw_all := lw_g (lw_at lw_m3 72 rfl) rfl
theorem q673 : (Jvm.Cond.instanceMethod ({ cls := "java/lang/AbstractStringBuilder", name := "length", desc := "()I" } : Jvm.MethodName)) ∈ lw_all := lw_g (lw_at lw_m3 74 rfl) rfl
theorem q674 : (Jvm.Cond.sameMethod "java/lang/AbstractStringBuilder" "java/lang/AbstractStringBuilder" "length" "()I") ∈ lw_all := lw_g (lw_at lw_m3 75 rfl) rfl
theorem q679 : (Jvm.Cond.code ({ cls := "java/lang/AbstractStringBuilder", name := "length", desc := "()I" } : Jvm.MethodName) prog_19_method_6_code (1 : Nat) (Option.some Jvm.ClassFile.FieldType.int)) ∈ lw_all := lw_g (lw_at lw_m3 80 rfl) rfl
theorem q1396 : (Jvm.Cond.instanceMethod ({ cls := "java/lang/AbstractStringBuilder", name := "append", desc := "(Ljava/lang/String;)Ljava/lang/AbstractStringBuilder;" } : Jvm.MethodName)) ∈ lw_all := lw_g (lw_at lw_m6 77 rfl) rfl
theorem q1397 : (Jvm.Cond.code ({ cls := "java/lang/AbstractStringBuilder", name := "append", desc := "(Ljava/lang/String;)Ljava/lang/AbstractStringBuilder;" } : Jvm.MethodName) prog_19_method_22_code (3 : Nat) (Option.some (Jvm.ClassFile.FieldType.object "java/lang/AbstractStringBuilder"))) ∈ lw_all := lw_g (lw_at lw_m6 78 rfl) rfl
theorem q1398 : (Jvm.Cond.methodLink "java/lang/AbstractStringBuilder" (204 : Nat) ({ cls := "java/lang/AbstractStringBuilder", name := "appendNull", desc := "()Ljava/lang/AbstractStringBuilder;" } : Jvm.MethodName)) ∈ lw_all := lw_g (lw_at lw_m6 79 rfl) rfl
theorem q1399 : (Jvm.Cond.privateMethod ({ cls := "java/lang/AbstractStringBuilder", name := "appendNull", desc := "()Ljava/lang/AbstractStringBuilder;" } : Jvm.MethodName)) ∈ lw_tbl := lw_at lw_m6 80 rfl
theorem q1400 : (Jvm.Cond.instanceMethod ({ cls := "java/lang/AbstractStringBuilder", name := "appendNull", desc := "()Ljava/lang/AbstractStringBuilder;" } : Jvm.MethodName)) ∈ lw_all := lw_g (lw_at lw_m6 81 rfl) rfl
theorem q1401 : (Jvm.Cond.code ({ cls := "java/lang/AbstractStringBuilder", name := "appendNull", desc := "()Ljava/lang/AbstractStringBuilder;" } : Jvm.MethodName) prog_19_method_26_code (3 : Nat) (Option.some (Jvm.ClassFile.FieldType.object "java/lang/AbstractStringBuilder"))) ∈ lw_all := lw_g (lw_at lw_m6 82 rfl) rfl
theorem q1402 : (Jvm.Cond.methodLink "java/lang/AbstractStringBuilder" (226 : Nat) ({ cls := "java/lang/StringUTF16", name := "putCharsAt", desc := "([BICCCC)I" } : Jvm.MethodName)) ∈ lw_all := lw_g (lw_at lw_m6 83 rfl) rfl
theorem q1414 : (Jvm.Cond.methodLink "java/lang/AbstractStringBuilder" (32 : Nat) ({ cls := "java/lang/String", name := "length", desc := "()I" } : Jvm.MethodName)) ∈ lw_all := lw_g (lw_at lw_m6 95 rfl) rfl
theorem q1415 : (Jvm.Cond.methodLink "java/lang/AbstractStringBuilder" (208 : Nat) ({ cls := "java/lang/AbstractStringBuilder", name := "putStringAt", desc := "(ILjava/lang/String;)V" } : Jvm.MethodName)) ∈ lw_all := lw_g (lw_at lw_m6 96 rfl) rfl
theorem q1416 : (Jvm.Cond.privateMethod ({ cls := "java/lang/AbstractStringBuilder", name := "putStringAt", desc := "(ILjava/lang/String;)V" } : Jvm.MethodName)) ∈ lw_tbl := lw_at lw_m6 97 rfl
theorem q1417 : (Jvm.Cond.instanceMethod ({ cls := "java/lang/AbstractStringBuilder", name := "putStringAt", desc := "(ILjava/lang/String;)V" } : Jvm.MethodName)) ∈ lw_all := lw_g (lw_at lw_m6 98 rfl) rfl
theorem q1418 : (Jvm.Cond.code ({ cls := "java/lang/AbstractStringBuilder", name := "putStringAt", desc := "(ILjava/lang/String;)V" } : Jvm.MethodName) prog_19_method_73_code (3 : Nat) (Option.none : Option Jvm.ClassFile.FieldType)) ∈ lw_all := lw_g (lw_at lw_m6 99 rfl) rfl
theorem q1419 : (Jvm.Cond.methodLink "java/lang/AbstractStringBuilder" (397 : Nat) ({ cls := "java/lang/AbstractStringBuilder", name := "inflateIfNeededFor", desc := "(Ljava/lang/String;)V" } : Jvm.MethodName)) ∈ lw_all := lw_g (lw_at lw_m6 100 rfl) rfl
theorem q1420 : (Jvm.Cond.privateMethod ({ cls := "java/lang/AbstractStringBuilder", name := "inflateIfNeededFor", desc := "(Ljava/lang/String;)V" } : Jvm.MethodName)) ∈ lw_tbl := lw_at lw_m6 101 rfl
theorem q1421 : (Jvm.Cond.instanceMethod ({ cls := "java/lang/AbstractStringBuilder", name := "inflateIfNeededFor", desc := "(Ljava/lang/String;)V" } : Jvm.MethodName)) ∈ lw_all := lw_g (lw_at lw_m6 102 rfl) rfl
theorem q1422 : (Jvm.Cond.code ({ cls := "java/lang/AbstractStringBuilder", name := "inflateIfNeededFor", desc := "(Ljava/lang/String;)V" } : Jvm.MethodName) prog_19_method_71_code (2 : Nat) (Option.none : Option Jvm.ClassFile.FieldType)) ∈ lw_all := lw_g (lw_at lw_m6 103 rfl) rfl
theorem q1423 : (Jvm.Cond.methodLink "java/lang/AbstractStringBuilder" (40 : Nat) ({ cls := "java/lang/String", name := "coder", desc := "()B" } : Jvm.MethodName)) ∈ lw_all := lw_g (lw_at lw_m6 104 rfl) rfl
theorem q1424 : (Jvm.Cond.methodLink "java/lang/AbstractStringBuilder" (399 : Nat) ({ cls := "java/lang/String", name := "getBytes", desc := "([BIB)V" } : Jvm.MethodName)) ∈ lw_all := lw_g (lw_at lw_m6 105 rfl) rfl
theorem q1503 : (Jvm.Cond.instanceMethod ({ cls := "java/lang/AbstractStringBuilder", name := "append", desc := "(I)Ljava/lang/AbstractStringBuilder;" } : Jvm.MethodName)) ∈ lw_all := lw_g (lw_at lw_m6 184 rfl) rfl
theorem q1504 : (Jvm.Cond.code ({ cls := "java/lang/AbstractStringBuilder", name := "append", desc := "(I)Ljava/lang/AbstractStringBuilder;" } : Jvm.MethodName) prog_19_method_32_code (4 : Nat) (Option.some (Jvm.ClassFile.FieldType.object "java/lang/AbstractStringBuilder"))) ∈ lw_all := lw_g (lw_at lw_m6 185 rfl) rfl
theorem q1505 : (Jvm.Cond.methodLink "java/lang/AbstractStringBuilder" (245 : Nat) ({ cls := "java/lang/Integer", name := "stringSize", desc := "(I)I" } : Jvm.MethodName)) ∈ lw_all := lw_g (lw_at lw_m6 186 rfl) rfl
theorem q1508 : (Jvm.Cond.methodLink "java/lang/AbstractStringBuilder" (248 : Nat) ({ cls := "java/lang/Integer", name := "getChars", desc := "(II[B)I" } : Jvm.MethodName)) ∈ lw_all := lw_g (lw_at lw_m6 189 rfl) rfl
theorem q1515 : (Jvm.Cond.methodLink "java/lang/AbstractStringBuilder" (251 : Nat) ({ cls := "java/lang/StringUTF16", name := "getChars", desc := "(III[B)I" } : Jvm.MethodName)) ∈ lw_all := lw_g (lw_at lw_m6 196 rfl) rfl
theorem q1549 : (Jvm.Cond.instanceMethod ({ cls := "java/lang/AbstractStringBuilder", name := "charAt", desc := "(I)C" } : Jvm.MethodName)) ∈ lw_all := lw_g (lw_at lw_m6 230 rfl) rfl
theorem q1550 : (Jvm.Cond.code ({ cls := "java/lang/AbstractStringBuilder", name := "charAt", desc := "(I)C" } : Jvm.MethodName) prog_19_method_14_code (5 : Nat) (Option.some Jvm.ClassFile.FieldType.char)) ∈ lw_all := lw_g (lw_at lw_m6 231 rfl) rfl
theorem q1551 : (Jvm.Cond.methodLink "java/lang/AbstractStringBuilder" (138 : Nat) ({ cls := "java/lang/Math", name := "min", desc := "(II)I" } : Jvm.MethodName)) ∈ lw_all := lw_g (lw_at lw_m6 232 rfl) rfl
theorem q1552 : (Jvm.Cond.methodLink "java/lang/AbstractStringBuilder" (144 : Nat) ({ cls := "java/lang/String", name := "checkIndex", desc := "(II)V" } : Jvm.MethodName)) ∈ lw_all := lw_g (lw_at lw_m6 233 rfl) rfl
theorem q1553 : (Jvm.Cond.methodLink "java/lang/AbstractStringBuilder" (148 : Nat) ({ cls := "java/lang/StringUTF16", name := "getChar", desc := "([BI)C" } : Jvm.MethodName)) ∈ lw_all := lw_g (lw_at lw_m6 234 rfl) rfl
theorem q2345 : (Jvm.Cond.sameMethod "java/lang/AbstractStringBuilder" "java/lang/AbstractStringBuilder" "append" "(C)Ljava/lang/AbstractStringBuilder;") ∈ lw_all := lw_g (lw_at lw_m10 66 rfl) rfl
theorem q2346 : (Jvm.Cond.sameMethod "java/lang/AbstractStringBuilder" "java/lang/AbstractStringBuilder" "ensureCapacityInternal" "(I)V") ∈ lw_all := lw_g (lw_at lw_m10 67 rfl) rfl
theorem q2347 : (Jvm.Cond.sameMethod "java/lang/AbstractStringBuilder" "java/lang/AbstractStringBuilder" "newCapacity" "(I)I") ∈ lw_all := lw_g (lw_at lw_m10 68 rfl) rfl
theorem q2348 : (Jvm.Cond.sameMethod "java/lang/AbstractStringBuilder" "java/lang/AbstractStringBuilder" "inflate" "()V") ∈ lw_all := lw_g (lw_at lw_m10 69 rfl) rfl
theorem q2352 : (Jvm.Cond.sameMethod "java/lang/AbstractStringBuilder" "java/lang/AbstractStringBuilder" "append" "(Ljava/lang/String;)Ljava/lang/AbstractStringBuilder;") ∈ lw_all := lw_g (lw_at lw_m10 73 rfl) rfl
theorem q2353 : (Jvm.Cond.sameMethod "java/lang/AbstractStringBuilder" "java/lang/AbstractStringBuilder" "appendNull" "()Ljava/lang/AbstractStringBuilder;") ∈ lw_all := lw_g (lw_at lw_m10 74 rfl) rfl
theorem q2354 : (Jvm.Cond.sameMethod "java/lang/AbstractStringBuilder" "java/lang/AbstractStringBuilder" "putStringAt" "(ILjava/lang/String;)V") ∈ lw_all := lw_g (lw_at lw_m10 75 rfl) rfl
theorem q2355 : (Jvm.Cond.sameMethod "java/lang/AbstractStringBuilder" "java/lang/AbstractStringBuilder" "inflateIfNeededFor" "(Ljava/lang/String;)V") ∈ lw_all := lw_g (lw_at lw_m10 76 rfl) rfl
theorem q2357 : (Jvm.Cond.sameMethod "java/lang/AbstractStringBuilder" "java/lang/AbstractStringBuilder" "append" "(I)Ljava/lang/AbstractStringBuilder;") ∈ lw_all := lw_g (lw_at lw_m10 78 rfl) rfl
theorem q2358 : (Jvm.Cond.sameMethod "java/lang/AbstractStringBuilder" "java/lang/AbstractStringBuilder" "charAt" "(I)C") ∈ lw_all := lw_g (lw_at lw_m10 79 rfl) rfl
def RJ2 : String := "java/lang/StringBuilder"
def TJ2 : u_T := fun k => match k with
  | 0 => ("java/lang/AbstractStringBuilder", "value", "[B", false)
  | 1 => ("java/lang/AbstractStringBuilder", "coder", "B", false)
  | 2 => ("java/lang/AbstractStringBuilder", "maybeLatin1", "Z", false)
  | _ => ("java/lang/AbstractStringBuilder", "count", "I", false)
def tyJ2 : Nat → FieldType := fun k => match k with
  | 0 => .array .byte
  | 1 => .byte
  | 2 => .boolean
  | _ => .int
abbrev wsJ20 : List Cond := u_ws RJ2 TJ2 4
theorem nmJ2 : ∀ a, a < 4 → ∀ b, b < 4 → a ≠ b → (TJ2 a).2.1 ≠ (TJ2 b).2.1 := by decide +kernel
theorem tyJ2_ok : ∀ k, k < 4 → parseFieldDescriptor (TJ2 k).2.2.1 = some (tyJ2 k) := by decide +kernel
abbrev cJ2_init : ByteArray := prog_30_method_1_code
def yJ2_init : MethodName := ⟨RJ2, "<init>", "()V"⟩
abbrev cJ2_append : ByteArray := prog_30_method_14_code
def yJ2_append : MethodName := ⟨RJ2, "append", "(C)Ljava/lang/StringBuilder;"⟩
abbrev cJ2_toString : ByteArray := prog_30_method_42_code
def yJ2_toString : MethodName := ⟨RJ2, "toString", "()Ljava/lang/String;"⟩
abbrev cJ2_length : ByteArray := prog_30_method_93_code
def yJ2_length : MethodName := ⟨RJ2, "length", "()I"⟩
abbrev cJ2_append_2 : ByteArray := prog_30_method_7_code
def yJ2_append_2 : MethodName := ⟨RJ2, "append", "(Ljava/lang/String;)Ljava/lang/StringBuilder;"⟩
abbrev cJ2_append_3 : ByteArray := prog_30_method_6_code
def yJ2_append_3 : MethodName := ⟨RJ2, "append", "(Ljava/lang/Object;)Ljava/lang/StringBuilder;"⟩
abbrev cJ2_append_4 : ByteArray := prog_30_method_15_code
def yJ2_append_4 : MethodName := ⟨RJ2, "append", "(I)Ljava/lang/StringBuilder;"⟩
abbrev cJ2_charAt : ByteArray := prog_30_method_88_code
def yJ2_charAt : MethodName := ⟨RJ2, "charAt", "(I)C"⟩
theorem q133 : (Jvm.Cond.initialized "java/lang/StringBuilder") ∈ lw_all := lw_g (lw_at lw_m1 14 rfl) rfl
theorem q517 : (Jvm.Cond.instantiable "java/lang/StringBuilder" (4 : Nat)) ∈ lw_all := lw_g (lw_at lw_m2 158 rfl) rfl
theorem q519 : (Jvm.Cond.instanceMethod ({ cls := "java/lang/StringBuilder", name := "<init>", desc := "()V" } : Jvm.MethodName)) ∈ lw_all := lw_g (lw_at lw_m2 160 rfl) rfl
theorem q520 : (Jvm.Cond.code ({ cls := "java/lang/StringBuilder", name := "<init>", desc := "()V" } : Jvm.MethodName) prog_30_method_1_code (1 : Nat) (Option.none : Option Jvm.ClassFile.FieldType)) ∈ lw_all := lw_g (lw_at lw_m2 161 rfl) rfl
theorem q521 : (Jvm.Cond.methodLink "java/lang/StringBuilder" (1 : Nat) ({ cls := "java/lang/AbstractStringBuilder", name := "<init>", desc := "(I)V" } : Jvm.MethodName)) ∈ lw_all := lw_g (lw_at lw_m2 162 rfl) rfl
theorem q538 : (Jvm.Cond.lays "java/lang/StringBuilder" "java/lang/AbstractStringBuilder" "value" "[B") ∈ lw_all := lw_g (lw_at lw_m2 179 rfl) rfl
theorem q540 : (Jvm.Cond.lays "java/lang/StringBuilder" "java/lang/AbstractStringBuilder" "coder" "B") ∈ lw_all := lw_g (lw_at lw_m2 181 rfl) rfl
theorem q542 : (Jvm.Cond.lays "java/lang/StringBuilder" "java/lang/AbstractStringBuilder" "maybeLatin1" "Z") ∈ lw_all := lw_g (lw_at lw_m2 183 rfl) rfl
theorem q544 : (Jvm.Cond.lays "java/lang/StringBuilder" "java/lang/AbstractStringBuilder" "count" "I") ∈ lw_all := lw_g (lw_at lw_m2 185 rfl) rfl
theorem q546 : (Jvm.Cond.superclass "java/lang/StringBuilder" "java/lang/AbstractStringBuilder") ∈ lw_all := lw_g (lw_at lw_m2 187 rfl) rfl
theorem q552 : (Jvm.Cond.instanceMethod ({ cls := "java/lang/StringBuilder", name := "append", desc := "(C)Ljava/lang/StringBuilder;" } : Jvm.MethodName)) ∈ lw_all := lw_g (lw_at lw_m2 193 rfl) rfl
theorem q553 : (Jvm.Cond.selects "java/lang/StringBuilder" ({ cls := "java/lang/StringBuilder", name := "append", desc := "(C)Ljava/lang/StringBuilder;" } : Jvm.MethodName) ({ cls := "java/lang/StringBuilder", name := "append", desc := "(C)Ljava/lang/StringBuilder;" } : Jvm.MethodName)) ∈ lw_all := lw_g (lw_at lw_m2 194 rfl) rfl
theorem q554 : (Jvm.Cond.code ({ cls := "java/lang/StringBuilder", name := "append", desc := "(C)Ljava/lang/StringBuilder;" } : Jvm.MethodName) prog_30_method_14_code (2 : Nat) (Option.some (Jvm.ClassFile.FieldType.object "java/lang/StringBuilder"))) ∈ lw_all := lw_g (lw_at lw_m2 195 rfl) rfl
theorem q555 : (Jvm.Cond.methodLink "java/lang/StringBuilder" (50 : Nat) ({ cls := "java/lang/AbstractStringBuilder", name := "append", desc := "(C)Ljava/lang/AbstractStringBuilder;" } : Jvm.MethodName)) ∈ lw_all := lw_g (lw_at lw_m2 196 rfl) rfl
theorem q592 : (Jvm.Cond.selects "java/lang/StringBuilder" ({ cls := "java/lang/AbstractStringBuilder", name := "isLatin1", desc := "()Z" } : Jvm.MethodName) ({ cls := "java/lang/AbstractStringBuilder", name := "isLatin1", desc := "()Z" } : Jvm.MethodName)) ∈ lw_all := lw_g (lw_at lw_m2 233 rfl) rfl
theorem q652 : (Jvm.Cond.castable "java/lang/StringBuilder" "java/lang/CharSequence") ∈ lw_tbl := lw_at lw_m3 53 rfl
theorem q653 : (Jvm.Cond.selects "java/lang/StringBuilder" ({ cls := "java/lang/CharSequence", name := "toString", desc := "()Ljava/lang/String;" } : Jvm.MethodName) ({ cls := "java/lang/StringBuilder", name := "toString", desc := "()Ljava/lang/String;" } : Jvm.MethodName)) ∈ lw_all := lw_g (lw_at lw_m3 54 rfl) rfl
theorem q654 : (Jvm.Cond.unhidden "java/lang/StringBuilder" "toString" "()Ljava/lang/String;") ∈ lw_tbl := lw_at lw_m3 55 rfl
theorem q655 : (Jvm.Cond.instanceMethod ({ cls := "java/lang/StringBuilder", name := "toString", desc := "()Ljava/lang/String;" } : Jvm.MethodName)) ∈ lw_all := lw_g (lw_at lw_m3 56 rfl) rfl
theorem q656 : (Jvm.Cond.publicMethod ({ cls := "java/lang/StringBuilder", name := "toString", desc := "()Ljava/lang/String;" } : Jvm.MethodName)) ∈ lw_tbl := lw_at lw_m3 57 rfl
theorem q657 : (Jvm.Cond.code ({ cls := "java/lang/StringBuilder", name := "toString", desc := "()Ljava/lang/String;" } : Jvm.MethodName) prog_30_method_42_code (1 : Nat) (Option.some (Jvm.ClassFile.FieldType.object "java/lang/String"))) ∈ lw_all := lw_g (lw_at lw_m3 58 rfl) rfl
theorem q658 : (Jvm.Cond.classLink "java/lang/StringBuilder" (18 : Nat) "java/lang/String") ∈ lw_all := lw_g (lw_at lw_m3 59 rfl) rfl
theorem q660 : (Jvm.Cond.methodLink "java/lang/StringBuilder" (137 : Nat) ({ cls := "java/lang/String", name := "<init>", desc := "(Ljava/lang/StringBuilder;)V" } : Jvm.MethodName)) ∈ lw_all := lw_g (lw_at lw_m3 61 rfl) rfl
theorem q670 : (Jvm.Cond.selects "java/lang/StringBuilder" ({ cls := "java/lang/AbstractStringBuilder", name := "getValue", desc := "()[B" } : Jvm.MethodName) ({ cls := "java/lang/AbstractStringBuilder", name := "getValue", desc := "()[B" } : Jvm.MethodName)) ∈ lw_all := lw_g (lw_at lw_m3 71 rfl) rfl
theorem q675 : (Jvm.Cond.selects "java/lang/StringBuilder" ({ cls := "java/lang/AbstractStringBuilder", name := "length", desc := "()I" } : Jvm.MethodName) ({ cls := "java/lang/StringBuilder", name := "length", desc := "()I" } : Jvm.MethodName)) ∈ lw_all := lw_g (lw_at lw_m3 76 rfl) rfl
theorem q676 : (Jvm.Cond.instanceMethod ({ cls := "java/lang/StringBuilder", name := "length", desc := "()I" } : Jvm.MethodName)) ∈ lw_all := lw_g (lw_at lw_m3 77 rfl) rfl
theorem q677 : (Jvm.Cond.code ({ cls := "java/lang/StringBuilder", name := "length", desc := "()I" } : Jvm.MethodName) prog_30_method_93_code (1 : Nat) (Option.some Jvm.ClassFile.FieldType.int)) ∈ lw_all := lw_g (lw_at lw_m3 78 rfl) rfl
theorem q678 : (Jvm.Cond.methodLink "java/lang/StringBuilder" (343 : Nat) ({ cls := "java/lang/AbstractStringBuilder", name := "length", desc := "()I" } : Jvm.MethodName)) ∈ lw_all := lw_g (lw_at lw_m3 79 rfl) rfl
theorem q881 : (Jvm.Cond.selects "java/lang/StringBuilder" ({ cls := "java/lang/CharSequence", name := "length", desc := "()I" } : Jvm.MethodName) ({ cls := "java/lang/StringBuilder", name := "length", desc := "()I" } : Jvm.MethodName)) ∈ lw_all := lw_g (lw_at lw_m4 42 rfl) rfl
theorem q882 : (Jvm.Cond.unhidden "java/lang/StringBuilder" "length" "()I") ∈ lw_tbl := lw_at lw_m4 43 rfl
theorem q883 : (Jvm.Cond.publicMethod ({ cls := "java/lang/StringBuilder", name := "length", desc := "()I" } : Jvm.MethodName)) ∈ lw_tbl := lw_at lw_m4 44 rfl
theorem q1392 : (Jvm.Cond.instanceMethod ({ cls := "java/lang/StringBuilder", name := "append", desc := "(Ljava/lang/String;)Ljava/lang/StringBuilder;" } : Jvm.MethodName)) ∈ lw_all := lw_g (lw_at lw_m6 73 rfl) rfl
theorem q1393 : (Jvm.Cond.selects "java/lang/StringBuilder" ({ cls := "java/lang/StringBuilder", name := "append", desc := "(Ljava/lang/String;)Ljava/lang/StringBuilder;" } : Jvm.MethodName) ({ cls := "java/lang/StringBuilder", name := "append", desc := "(Ljava/lang/String;)Ljava/lang/StringBuilder;" } : Jvm.MethodName)) ∈ lw_all := lw_g (lw_at lw_m6 74 rfl) rfl
theorem q1394 : (Jvm.Cond.code ({ cls := "java/lang/StringBuilder", name := "append", desc := "(Ljava/lang/String;)Ljava/lang/StringBuilder;" } : Jvm.MethodName) prog_30_method_7_code (2 : Nat) (Option.some (Jvm.ClassFile.FieldType.object "java/lang/StringBuilder"))) ∈ lw_all := lw_g (lw_at lw_m6 75 rfl) rfl
theorem q1395 : (Jvm.Cond.methodLink "java/lang/StringBuilder" (29 : Nat) ({ cls := "java/lang/AbstractStringBuilder", name := "append", desc := "(Ljava/lang/String;)Ljava/lang/AbstractStringBuilder;" } : Jvm.MethodName)) ∈ lw_all := lw_g (lw_at lw_m6 76 rfl) rfl
theorem q1431 : (Jvm.Cond.instanceMethod ({ cls := "java/lang/StringBuilder", name := "append", desc := "(Ljava/lang/Object;)Ljava/lang/StringBuilder;" } : Jvm.MethodName)) ∈ lw_all := lw_g (lw_at lw_m6 112 rfl) rfl
theorem q1432 : (Jvm.Cond.selects "java/lang/StringBuilder" ({ cls := "java/lang/StringBuilder", name := "append", desc := "(Ljava/lang/Object;)Ljava/lang/StringBuilder;" } : Jvm.MethodName) ({ cls := "java/lang/StringBuilder", name := "append", desc := "(Ljava/lang/Object;)Ljava/lang/StringBuilder;" } : Jvm.MethodName)) ∈ lw_all := lw_g (lw_at lw_m6 113 rfl) rfl
theorem q1433 : (Jvm.Cond.code ({ cls := "java/lang/StringBuilder", name := "append", desc := "(Ljava/lang/Object;)Ljava/lang/StringBuilder;" } : Jvm.MethodName) prog_30_method_6_code (2 : Nat) (Option.some (Jvm.ClassFile.FieldType.object "java/lang/StringBuilder"))) ∈ lw_all := lw_g (lw_at lw_m6 114 rfl) rfl
theorem q1434 : (Jvm.Cond.methodLink "java/lang/StringBuilder" (17 : Nat) ({ cls := "java/lang/String", name := "valueOf", desc := "(Ljava/lang/Object;)Ljava/lang/String;" } : Jvm.MethodName)) ∈ lw_all := lw_g (lw_at lw_m6 115 rfl) rfl
theorem q1471 : (Jvm.Cond.selects "java/lang/StringBuilder" ({ cls := "java/lang/Object", name := "getClass", desc := "()Ljava/lang/Class;" } : Jvm.MethodName) ({ cls := "java/lang/Object", name := "getClass", desc := "()Ljava/lang/Class;" } : Jvm.MethodName)) ∈ lw_all := lw_g (lw_at lw_m6 152 rfl) rfl
theorem q1494 : (Jvm.Cond.selects "java/lang/StringBuilder" ({ cls := "java/lang/Object", name := "toString", desc := "()Ljava/lang/String;" } : Jvm.MethodName) ({ cls := "java/lang/StringBuilder", name := "toString", desc := "()Ljava/lang/String;" } : Jvm.MethodName)) ∈ lw_all := lw_g (lw_at lw_m6 175 rfl) rfl
theorem q1496 : (Jvm.Cond.methodLink "java/lang/StringBuilder" (23 : Nat) ({ cls := "java/lang/StringBuilder", name := "append", desc := "(Ljava/lang/String;)Ljava/lang/StringBuilder;" } : Jvm.MethodName)) ∈ lw_all := lw_g (lw_at lw_m6 177 rfl) rfl
theorem q1499 : (Jvm.Cond.instanceMethod ({ cls := "java/lang/StringBuilder", name := "append", desc := "(I)Ljava/lang/StringBuilder;" } : Jvm.MethodName)) ∈ lw_all := lw_g (lw_at lw_m6 180 rfl) rfl
theorem q1500 : (Jvm.Cond.selects "java/lang/StringBuilder" ({ cls := "java/lang/StringBuilder", name := "append", desc := "(I)Ljava/lang/StringBuilder;" } : Jvm.MethodName) ({ cls := "java/lang/StringBuilder", name := "append", desc := "(I)Ljava/lang/StringBuilder;" } : Jvm.MethodName)) ∈ lw_all := lw_g (lw_at lw_m6 181 rfl) rfl
theorem q1501 : (Jvm.Cond.code ({ cls := "java/lang/StringBuilder", name := "append", desc := "(I)Ljava/lang/StringBuilder;" } : Jvm.MethodName) prog_30_method_15_code (2 : Nat) (Option.some (Jvm.ClassFile.FieldType.object "java/lang/StringBuilder"))) ∈ lw_all := lw_g (lw_at lw_m6 182 rfl) rfl
theorem q1502 : (Jvm.Cond.methodLink "java/lang/StringBuilder" (53 : Nat) ({ cls := "java/lang/AbstractStringBuilder", name := "append", desc := "(I)Ljava/lang/AbstractStringBuilder;" } : Jvm.MethodName)) ∈ lw_all := lw_g (lw_at lw_m6 183 rfl) rfl
theorem q1543 : (Jvm.Cond.selects "java/lang/StringBuilder" ({ cls := "java/lang/CharSequence", name := "charAt", desc := "(I)C" } : Jvm.MethodName) ({ cls := "java/lang/StringBuilder", name := "charAt", desc := "(I)C" } : Jvm.MethodName)) ∈ lw_all := lw_g (lw_at lw_m6 224 rfl) rfl
theorem q1544 : (Jvm.Cond.unhidden "java/lang/StringBuilder" "charAt" "(I)C") ∈ lw_tbl := lw_at lw_m6 225 rfl
theorem q1545 : (Jvm.Cond.instanceMethod ({ cls := "java/lang/StringBuilder", name := "charAt", desc := "(I)C" } : Jvm.MethodName)) ∈ lw_all := lw_g (lw_at lw_m6 226 rfl) rfl
theorem q1546 : (Jvm.Cond.publicMethod ({ cls := "java/lang/StringBuilder", name := "charAt", desc := "(I)C" } : Jvm.MethodName)) ∈ lw_tbl := lw_at lw_m6 227 rfl
theorem q1547 : (Jvm.Cond.code ({ cls := "java/lang/StringBuilder", name := "charAt", desc := "(I)C" } : Jvm.MethodName) prog_30_method_88_code (2 : Nat) (Option.some Jvm.ClassFile.FieldType.char)) ∈ lw_all := lw_g (lw_at lw_m6 228 rfl) rfl
theorem q1548 : (Jvm.Cond.methodLink "java/lang/StringBuilder" (329 : Nat) ({ cls := "java/lang/AbstractStringBuilder", name := "charAt", desc := "(I)C" } : Jvm.MethodName)) ∈ lw_all := lw_g (lw_at lw_m6 229 rfl) rfl
theorem q2356 : (Jvm.Cond.selects "java/lang/StringBuilder" ({ cls := "java/lang/StringBuilder", name := "toString", desc := "()Ljava/lang/String;" } : Jvm.MethodName) ({ cls := "java/lang/StringBuilder", name := "toString", desc := "()Ljava/lang/String;" } : Jvm.MethodName)) ∈ lw_all := lw_g (lw_at lw_m10 77 rfl) rfl
theorem q2370 : (Jvm.Cond.castable "java/lang/StringBuilder" "java/lang/Object") ∈ lw_tbl := lw_at lw_m10 91 rfl
theorem in_J2 : ∀ w ∈ wsJ20, w ∈ lw_all := lw_in wsJ20 [538, 540, 542, 544] (by decide +kernel) (by decide +kernel)
def RJ3 : String := "java/lang/String"
def TJ3 : u_T := fun k => match k with
  | 0 => ("java/lang/String", "value", "[B", true)
  | 1 => ("java/lang/String", "coder", "B", true)
  | 2 => ("java/lang/String", "hash", "I", false)
  | _ => ("java/lang/String", "hashIsZero", "Z", false)
def tyJ3 : Nat → FieldType := fun k => match k with
  | 0 => .array .byte
  | 1 => .byte
  | 2 => .int
  | _ => .boolean
abbrev wsJ30 : List Cond := u_ws RJ3 TJ3 4
theorem nmJ3 : ∀ a, a < 4 → ∀ b, b < 4 → a ≠ b → (TJ3 a).2.1 ≠ (TJ3 b).2.1 := by decide +kernel
theorem tyJ3_ok : ∀ k, k < 4 → parseFieldDescriptor (TJ3 k).2.2.1 = some (tyJ3 k) := by decide +kernel
abbrev cJ3_checkBoundsOffCount : ByteArray := prog_29_method_157_code
def yJ3_checkBoundsOffCount : MethodName := ⟨RJ3, "checkBoundsOffCount", "(III)I"⟩
abbrev cJ3_checkIndex : ByteArray := prog_29_method_155_code
def yJ3_checkIndex : MethodName := ⟨RJ3, "checkIndex", "(II)V"⟩
abbrev cJ3_toString : ByteArray := prog_29_method_126_code
def yJ3_toString : MethodName := ⟨RJ3, "toString", "()Ljava/lang/String;"⟩
abbrev cJ3_init : ByteArray := prog_29_method_53_code
def yJ3_init : MethodName := ⟨RJ3, "<init>", "(Ljava/lang/StringBuilder;)V"⟩
abbrev cJ3_init_2 : ByteArray := prog_29_method_150_code
def yJ3_init_2 : MethodName := ⟨RJ3, "<init>", "(Ljava/lang/AbstractStringBuilder;Ljava/lang/Void;)V"⟩
abbrev cJ3_hashCode : ByteArray := prog_29_method_78_code
def yJ3_hashCode : MethodName := ⟨RJ3, "hashCode", "()I"⟩
abbrev cJ3_isLatin1 : ByteArray := prog_29_method_154_code
def yJ3_isLatin1 : MethodName := ⟨RJ3, "isLatin1", "()Z"⟩
abbrev cJ3_equals : ByteArray := prog_29_method_66_code
def yJ3_equals : MethodName := ⟨RJ3, "equals", "(Ljava/lang/Object;)Z"⟩
abbrev cJ3_length : ByteArray := prog_29_method_54_code
def yJ3_length : MethodName := ⟨RJ3, "length", "()I"⟩
abbrev cJ3_coder : ByteArray := prog_29_method_152_code
def yJ3_coder : MethodName := ⟨RJ3, "coder", "()B"⟩
abbrev cJ3_checkBoundsBeginEnd : ByteArray := prog_29_method_158_code
def yJ3_checkBoundsBeginEnd : MethodName := ⟨RJ3, "checkBoundsBeginEnd", "(III)V"⟩
abbrev cJ3_getBytes : ByteArray := prog_29_method_147_code
def yJ3_getBytes : MethodName := ⟨RJ3, "getBytes", "([BIB)V"⟩
abbrev cJ3_valueOf : ByteArray := prog_29_method_133_code
def yJ3_valueOf : MethodName := ⟨RJ3, "valueOf", "(Ljava/lang/Object;)Ljava/lang/String;"⟩
abbrev cJ3_charAt : ByteArray := prog_29_method_56_code
def yJ3_charAt : MethodName := ⟨RJ3, "charAt", "(I)C"⟩
theorem q134 : (Jvm.Cond.initialized "java/lang/String") ∈ lw_all := lw_g (lw_at lw_m1 15 rfl) rfl
theorem q526 : (Jvm.Cond.laysStatic "java/lang/String" "COMPACT_STRINGS" "Z") ∈ lw_tbl := lw_at lw_m2 167 rfl
theorem q536 : (Jvm.Cond.fieldLink "java/lang/String" (1048 : Nat) "java/lang/AbstractStringBuilder" "maybeLatin1" "Z") ∈ lw_all := lw_g (lw_at lw_m2 177 rfl) rfl
theorem q614 : (Jvm.Cond.static ({ cls := "java/lang/String", name := "checkBoundsOffCount", desc := "(III)I" } : Jvm.MethodName)) ∈ lw_all := lw_g (lw_at lw_m3 15 rfl) rfl
theorem q615 : (Jvm.Cond.code ({ cls := "java/lang/String", name := "checkBoundsOffCount", desc := "(III)I" } : Jvm.MethodName) prog_29_method_157_code (3 : Nat) (Option.some Jvm.ClassFile.FieldType.int)) ∈ lw_all := lw_g (lw_at lw_m3 16 rfl) rfl
theorem q616 : (Jvm.Cond.fieldLink "java/lang/String" (1053 : Nat) "jdk/internal/util/Preconditions" "SIOOBE_FORMATTER" "Ljava/util/function/BiFunction;") ∈ lw_all := lw_g (lw_at lw_m3 17 rfl) rfl
theorem q618 : (Jvm.Cond.methodLink "java/lang/String" (1065 : Nat) ({ cls := "jdk/internal/util/Preconditions", name := "checkFromIndexSize", desc := "(IIILjava/util/function/BiFunction;)I" } : Jvm.MethodName)) ∈ lw_all := lw_g (lw_at lw_m3 19 rfl) rfl
theorem q637 : (Jvm.Cond.static ({ cls := "java/lang/String", name := "checkIndex", desc := "(II)V" } : Jvm.MethodName)) ∈ lw_all := lw_g (lw_at lw_m3 38 rfl) rfl
theorem q638 : (Jvm.Cond.code ({ cls := "java/lang/String", name := "checkIndex", desc := "(II)V" } : Jvm.MethodName) prog_29_method_155_code (2 : Nat) (Option.none : Option Jvm.ClassFile.FieldType)) ∈ lw_all := lw_g (lw_at lw_m3 39 rfl) rfl
theorem q639 : (Jvm.Cond.methodLink "java/lang/String" (1059 : Nat) ({ cls := "jdk/internal/util/Preconditions", name := "checkIndex", desc := "(IILjava/util/function/BiFunction;)I" } : Jvm.MethodName)) ∈ lw_all := lw_g (lw_at lw_m3 40 rfl) rfl
theorem q646 : (Jvm.Cond.castable "java/lang/String" "java/lang/CharSequence") ∈ lw_tbl := lw_at lw_m3 47 rfl
theorem q647 : (Jvm.Cond.selects "java/lang/String" ({ cls := "java/lang/CharSequence", name := "toString", desc := "()Ljava/lang/String;" } : Jvm.MethodName) ({ cls := "java/lang/String", name := "toString", desc := "()Ljava/lang/String;" } : Jvm.MethodName)) ∈ lw_all := lw_g (lw_at lw_m3 48 rfl) rfl
theorem q648 : (Jvm.Cond.unhidden "java/lang/String" "toString" "()Ljava/lang/String;") ∈ lw_tbl := lw_at lw_m3 49 rfl
theorem q649 : (Jvm.Cond.instanceMethod ({ cls := "java/lang/String", name := "toString", desc := "()Ljava/lang/String;" } : Jvm.MethodName)) ∈ lw_all := lw_g (lw_at lw_m3 50 rfl) rfl
theorem q650 : (Jvm.Cond.publicMethod ({ cls := "java/lang/String", name := "toString", desc := "()Ljava/lang/String;" } : Jvm.MethodName)) ∈ lw_tbl := lw_at lw_m3 51 rfl
theorem q651 : (Jvm.Cond.code ({ cls := "java/lang/String", name := "toString", desc := "()Ljava/lang/String;" } : Jvm.MethodName) prog_29_method_126_code (1 : Nat) (Option.some (Jvm.ClassFile.FieldType.object "java/lang/String"))) ∈ lw_all := lw_g (lw_at lw_m3 52 rfl) rfl
theorem q659 : (Jvm.Cond.instantiable "java/lang/String" (4 : Nat)) ∈ lw_all := lw_g (lw_at lw_m3 60 rfl) rfl
theorem q661 : (Jvm.Cond.instanceMethod ({ cls := "java/lang/String", name := "<init>", desc := "(Ljava/lang/StringBuilder;)V" } : Jvm.MethodName)) ∈ lw_all := lw_g (lw_at lw_m3 62 rfl) rfl
theorem q662 : (Jvm.Cond.code ({ cls := "java/lang/String", name := "<init>", desc := "(Ljava/lang/StringBuilder;)V" } : Jvm.MethodName) prog_29_method_53_code (2 : Nat) (Option.none : Option Jvm.ClassFile.FieldType)) ∈ lw_all := lw_g (lw_at lw_m3 63 rfl) rfl
theorem q663 : (Jvm.Cond.methodLink "java/lang/String" (489 : Nat) ({ cls := "java/lang/String", name := "<init>", desc := "(Ljava/lang/AbstractStringBuilder;Ljava/lang/Void;)V" } : Jvm.MethodName)) ∈ lw_all := lw_g (lw_at lw_m3 64 rfl) rfl
theorem q664 : (Jvm.Cond.instanceMethod ({ cls := "java/lang/String", name := "<init>", desc := "(Ljava/lang/AbstractStringBuilder;Ljava/lang/Void;)V" } : Jvm.MethodName)) ∈ lw_all := lw_g (lw_at lw_m3 65 rfl) rfl
theorem q665 : (Jvm.Cond.code ({ cls := "java/lang/String", name := "<init>", desc := "(Ljava/lang/AbstractStringBuilder;Ljava/lang/Void;)V" } : Jvm.MethodName) prog_29_method_150_code (5 : Nat) (Option.none : Option Jvm.ClassFile.FieldType)) ∈ lw_all := lw_g (lw_at lw_m3 66 rfl) rfl
theorem q666 : (Jvm.Cond.methodLink "java/lang/String" (1 : Nat) ({ cls := "java/lang/Object", name := "<init>", desc := "()V" } : Jvm.MethodName)) ∈ lw_all := lw_g (lw_at lw_m3 67 rfl) rfl
theorem q667 : (Jvm.Cond.methodLink "java/lang/String" (552 : Nat) ({ cls := "java/lang/AbstractStringBuilder", name := "getValue", desc := "()[B" } : Jvm.MethodName)) ∈ lw_all := lw_g (lw_at lw_m3 68 rfl) rfl
theorem q672 : (Jvm.Cond.methodLink "java/lang/String" (549 : Nat) ({ cls := "java/lang/AbstractStringBuilder", name := "length", desc := "()I" } : Jvm.MethodName)) ∈ lw_all := lw_g (lw_at lw_m3 73 rfl) rfl
theorem q680 : (Jvm.Cond.methodLink "java/lang/String" (1047 : Nat) ({ cls := "java/lang/AbstractStringBuilder", name := "isLatin1", desc := "()Z" } : Jvm.MethodName)) ∈ lw_all := lw_g (lw_at lw_m3 81 rfl) rfl
theorem q681 : (Jvm.Cond.methodLink "java/lang/String" (54 : Nat) ({ cls := "java/util/Arrays", name := "copyOfRange", desc := "([BII)[B" } : Jvm.MethodName)) ∈ lw_all := lw_g (lw_at lw_m3 82 rfl) rfl
theorem q690 : (Jvm.Cond.fieldLink "java/lang/String" (38 : Nat) "java/lang/String" "COMPACT_STRINGS" "Z") ∈ lw_all := lw_g (lw_at lw_m3 91 rfl) rfl
theorem q691 : (Jvm.Cond.methodLink "java/lang/String" (1051 : Nat) ({ cls := "java/lang/StringUTF16", name := "compress", desc := "([BII)[B" } : Jvm.MethodName)) ∈ lw_all := lw_g (lw_at lw_m3 92 rfl) rfl
theorem q701 : (Jvm.Cond.methodLink "java/lang/String" (47 : Nat) ({ cls := "java/lang/StringUTF16", name := "coderFromArrayLen", desc := "([BI)B" } : Jvm.MethodName)) ∈ lw_all := lw_g (lw_at lw_m3 102 rfl) rfl
theorem q704 : (Jvm.Cond.fieldLink "java/lang/String" (9 : Nat) "java/lang/String" "value" "[B") ∈ lw_all := lw_g (lw_at lw_m3 105 rfl) rfl
theorem q705 : (Jvm.Cond.fieldLink "java/lang/String" (15 : Nat) "java/lang/String" "coder" "B") ∈ lw_all := lw_g (lw_at lw_m3 106 rfl) rfl
theorem q706 : (Jvm.Cond.fieldLink "java/lang/String" (19 : Nat) "java/lang/String" "hash" "I") ∈ lw_all := lw_g (lw_at lw_m3 107 rfl) rfl
theorem q707 : (Jvm.Cond.fieldLink "java/lang/String" (23 : Nat) "java/lang/String" "hashIsZero" "Z") ∈ lw_all := lw_g (lw_at lw_m3 108 rfl) rfl
theorem q708 : (Jvm.Cond.laysFinal "java/lang/String" "java/lang/String" "value" "[B") ∈ lw_all := lw_g (lw_at lw_m3 109 rfl) rfl
theorem q709 : (Jvm.Cond.soleField "java/lang/String" "value") ∈ lw_all := lw_g (lw_at lw_m3 110 rfl) rfl
theorem q710 : (Jvm.Cond.laysFinal "java/lang/String" "java/lang/String" "coder" "B") ∈ lw_all := lw_g (lw_at lw_m3 111 rfl) rfl
theorem q711 : (Jvm.Cond.soleField "java/lang/String" "coder") ∈ lw_all := lw_g (lw_at lw_m3 112 rfl) rfl
theorem q712 : (Jvm.Cond.lays "java/lang/String" "java/lang/String" "hash" "I") ∈ lw_all := lw_g (lw_at lw_m3 113 rfl) rfl
theorem q713 : (Jvm.Cond.soleField "java/lang/String" "hash") ∈ lw_all := lw_g (lw_at lw_m3 114 rfl) rfl
theorem q714 : (Jvm.Cond.lays "java/lang/String" "java/lang/String" "hashIsZero" "Z") ∈ lw_all := lw_g (lw_at lw_m3 115 rfl) rfl
theorem q715 : (Jvm.Cond.soleField "java/lang/String" "hashIsZero") ∈ lw_all := lw_g (lw_at lw_m3 116 rfl) rfl
theorem q716 : (Jvm.Cond.superclass "java/lang/String" "java/lang/Object") ∈ lw_all := lw_g (lw_at lw_m3 117 rfl) rfl
theorem q718 : (Jvm.Cond.instanceMethod ({ cls := "java/lang/String", name := "hashCode", desc := "()I" } : Jvm.MethodName)) ∈ lw_all := lw_g (lw_at lw_m3 119 rfl) rfl
theorem q719 : (Jvm.Cond.selects "java/lang/String" ({ cls := "java/lang/String", name := "hashCode", desc := "()I" } : Jvm.MethodName) ({ cls := "java/lang/String", name := "hashCode", desc := "()I" } : Jvm.MethodName)) ∈ lw_all := lw_g (lw_at lw_m3 120 rfl) rfl
theorem q720 : (Jvm.Cond.code ({ cls := "java/lang/String", name := "hashCode", desc := "()I" } : Jvm.MethodName) prog_29_method_78_code (2 : Nat) (Option.some Jvm.ClassFile.FieldType.int)) ∈ lw_all := lw_g (lw_at lw_m3 121 rfl) rfl
theorem q721 : (Jvm.Cond.methodLink "java/lang/String" (492 : Nat) ({ cls := "java/lang/String", name := "isLatin1", desc := "()Z" } : Jvm.MethodName)) ∈ lw_all := lw_g (lw_at lw_m3 122 rfl) rfl
theorem q722 : (Jvm.Cond.instanceMethod ({ cls := "java/lang/String", name := "isLatin1", desc := "()Z" } : Jvm.MethodName)) ∈ lw_all := lw_g (lw_at lw_m3 123 rfl) rfl
theorem q723 : (Jvm.Cond.selects "java/lang/String" ({ cls := "java/lang/String", name := "isLatin1", desc := "()Z" } : Jvm.MethodName) ({ cls := "java/lang/String", name := "isLatin1", desc := "()Z" } : Jvm.MethodName)) ∈ lw_all := lw_g (lw_at lw_m3 124 rfl) rfl
theorem q724 : (Jvm.Cond.code ({ cls := "java/lang/String", name := "isLatin1", desc := "()Z" } : Jvm.MethodName) prog_29_method_154_code (1 : Nat) (Option.some Jvm.ClassFile.FieldType.boolean)) ∈ lw_all := lw_g (lw_at lw_m3 125 rfl) rfl
theorem q725 : (Jvm.Cond.methodLink "java/lang/String" (628 : Nat) ({ cls := "java/lang/StringLatin1", name := "hashCode", desc := "([B)I" } : Jvm.MethodName)) ∈ lw_all := lw_g (lw_at lw_m3 126 rfl) rfl
theorem q766 : (Jvm.Cond.methodLink "java/lang/String" (632 : Nat) ({ cls := "java/lang/StringUTF16", name := "hashCode", desc := "([B)I" } : Jvm.MethodName)) ∈ lw_all := lw_g (lw_at lw_m3 167 rfl) rfl
theorem q772 : (Jvm.Cond.instanceMethod ({ cls := "java/lang/String", name := "equals", desc := "(Ljava/lang/Object;)Z" } : Jvm.MethodName)) ∈ lw_all := lw_g (lw_at lw_m3 173 rfl) rfl
theorem q773 : (Jvm.Cond.selects "java/lang/String" ({ cls := "java/lang/String", name := "equals", desc := "(Ljava/lang/Object;)Z" } : Jvm.MethodName) ({ cls := "java/lang/String", name := "equals", desc := "(Ljava/lang/Object;)Z" } : Jvm.MethodName)) ∈ lw_all := lw_g (lw_at lw_m3 174 rfl) rfl
theorem q774 : (Jvm.Cond.code ({ cls := "java/lang/String", name := "equals", desc := "(Ljava/lang/Object;)Z" } : Jvm.MethodName) prog_29_method_66_code (3 : Nat) (Option.some Jvm.ClassFile.FieldType.boolean)) ∈ lw_all := lw_g (lw_at lw_m3 175 rfl) rfl
theorem q775 : (Jvm.Cond.classLink "java/lang/String" (10 : Nat) "java/lang/String") ∈ lw_all := lw_g (lw_at lw_m3 176 rfl) rfl
theorem q776 : (Jvm.Cond.methodLink "java/lang/String" (541 : Nat) ({ cls := "java/lang/StringLatin1", name := "equals", desc := "([B[B)Z" } : Jvm.MethodName)) ∈ lw_all := lw_g (lw_at lw_m3 177 rfl) rfl
theorem q872 : (Jvm.Cond.selects "java/lang/String" ({ cls := "java/lang/CharSequence", name := "length", desc := "()I" } : Jvm.MethodName) ({ cls := "java/lang/String", name := "length", desc := "()I" } : Jvm.MethodName)) ∈ lw_all := lw_g (lw_at lw_m4 33 rfl) rfl
theorem q873 : (Jvm.Cond.unhidden "java/lang/String" "length" "()I") ∈ lw_tbl := lw_at lw_m4 34 rfl
theorem q874 : (Jvm.Cond.instanceMethod ({ cls := "java/lang/String", name := "length", desc := "()I" } : Jvm.MethodName)) ∈ lw_all := lw_g (lw_at lw_m4 35 rfl) rfl
theorem q875 : (Jvm.Cond.publicMethod ({ cls := "java/lang/String", name := "length", desc := "()I" } : Jvm.MethodName)) ∈ lw_tbl := lw_at lw_m4 36 rfl
theorem q876 : (Jvm.Cond.code ({ cls := "java/lang/String", name := "length", desc := "()I" } : Jvm.MethodName) prog_29_method_54_code (1 : Nat) (Option.some Jvm.ClassFile.FieldType.int)) ∈ lw_all := lw_g (lw_at lw_m4 37 rfl) rfl
theorem q877 : (Jvm.Cond.methodLink "java/lang/String" (335 : Nat) ({ cls := "java/lang/String", name := "coder", desc := "()B" } : Jvm.MethodName)) ∈ lw_all := lw_g (lw_at lw_m4 38 rfl) rfl
theorem q878 : (Jvm.Cond.instanceMethod ({ cls := "java/lang/String", name := "coder", desc := "()B" } : Jvm.MethodName)) ∈ lw_all := lw_g (lw_at lw_m4 39 rfl) rfl
theorem q879 : (Jvm.Cond.selects "java/lang/String" ({ cls := "java/lang/String", name := "coder", desc := "()B" } : Jvm.MethodName) ({ cls := "java/lang/String", name := "coder", desc := "()B" } : Jvm.MethodName)) ∈ lw_all := lw_g (lw_at lw_m4 40 rfl) rfl
theorem q880 : (Jvm.Cond.code ({ cls := "java/lang/String", name := "coder", desc := "()B" } : Jvm.MethodName) prog_29_method_152_code (1 : Nat) (Option.some Jvm.ClassFile.FieldType.byte)) ∈ lw_all := lw_g (lw_at lw_m4 41 rfl) rfl
theorem q1409 : (Jvm.Cond.static ({ cls := "java/lang/String", name := "checkBoundsBeginEnd", desc := "(III)V" } : Jvm.MethodName)) ∈ lw_all := lw_g (lw_at lw_m6 90 rfl) rfl
theorem q1410 : (Jvm.Cond.code ({ cls := "java/lang/String", name := "checkBoundsBeginEnd", desc := "(III)V" } : Jvm.MethodName) prog_29_method_158_code (3 : Nat) (Option.none : Option Jvm.ClassFile.FieldType)) ∈ lw_all := lw_g (lw_at lw_m6 91 rfl) rfl
theorem q1411 : (Jvm.Cond.methodLink "java/lang/String" (1062 : Nat) ({ cls := "jdk/internal/util/Preconditions", name := "checkFromToIndex", desc := "(IIILjava/util/function/BiFunction;)I" } : Jvm.MethodName)) ∈ lw_all := lw_g (lw_at lw_m6 92 rfl) rfl
theorem q1425 : (Jvm.Cond.instanceMethod ({ cls := "java/lang/String", name := "getBytes", desc := "([BIB)V" } : Jvm.MethodName)) ∈ lw_all := lw_g (lw_at lw_m6 106 rfl) rfl
theorem q1426 : (Jvm.Cond.selects "java/lang/String" ({ cls := "java/lang/String", name := "getBytes", desc := "([BIB)V" } : Jvm.MethodName) ({ cls := "java/lang/String", name := "getBytes", desc := "([BIB)V" } : Jvm.MethodName)) ∈ lw_all := lw_g (lw_at lw_m6 107 rfl) rfl
theorem q1427 : (Jvm.Cond.code ({ cls := "java/lang/String", name := "getBytes", desc := "([BIB)V" } : Jvm.MethodName) prog_29_method_147_code (4 : Nat) (Option.none : Option Jvm.ClassFile.FieldType)) ∈ lw_all := lw_g (lw_at lw_m6 108 rfl) rfl
theorem q1428 : (Jvm.Cond.methodLink "java/lang/String" (212 : Nat) ({ cls := "java/lang/System", name := "arraycopy", desc := "(Ljava/lang/Object;ILjava/lang/Object;II)V" } : Jvm.MethodName)) ∈ lw_all := lw_g (lw_at lw_m6 109 rfl) rfl
theorem q1429 : (Jvm.Cond.methodLink "java/lang/String" (106 : Nat) ({ cls := "java/lang/StringLatin1", name := "inflate", desc := "([BI[BII)V" } : Jvm.MethodName)) ∈ lw_all := lw_g (lw_at lw_m6 110 rfl) rfl
theorem q1435 : (Jvm.Cond.static ({ cls := "java/lang/String", name := "valueOf", desc := "(Ljava/lang/Object;)Ljava/lang/String;" } : Jvm.MethodName)) ∈ lw_all := lw_g (lw_at lw_m6 116 rfl) rfl
theorem q1436 : (Jvm.Cond.code ({ cls := "java/lang/String", name := "valueOf", desc := "(Ljava/lang/Object;)Ljava/lang/String;" } : Jvm.MethodName) prog_29_method_133_code (1 : Nat) (Option.some (Jvm.ClassFile.FieldType.object "java/lang/String"))) ∈ lw_all := lw_g (lw_at lw_m6 117 rfl) rfl
theorem q1437 : (Jvm.Cond.stringRef "java/lang/String" (1005 : Nat) "null") ∈ lw_tbl := lw_at lw_m6 118 rfl
theorem q1439 : (Jvm.Cond.methodLink "java/lang/String" (1007 : Nat) ({ cls := "java/lang/Object", name := "toString", desc := "()Ljava/lang/String;" } : Jvm.MethodName)) ∈ lw_all := lw_g (lw_at lw_m6 120 rfl) rfl
theorem q1470 : (Jvm.Cond.selects "java/lang/String" ({ cls := "java/lang/Object", name := "getClass", desc := "()Ljava/lang/Class;" } : Jvm.MethodName) ({ cls := "java/lang/Object", name := "getClass", desc := "()Ljava/lang/Class;" } : Jvm.MethodName)) ∈ lw_all := lw_g (lw_at lw_m6 151 rfl) rfl
theorem q1493 : (Jvm.Cond.selects "java/lang/String" ({ cls := "java/lang/Object", name := "toString", desc := "()Ljava/lang/String;" } : Jvm.MethodName) ({ cls := "java/lang/String", name := "toString", desc := "()Ljava/lang/String;" } : Jvm.MethodName)) ∈ lw_all := lw_g (lw_at lw_m6 174 rfl) rfl
theorem q1531 : (Jvm.Cond.selects "java/lang/String" ({ cls := "java/lang/CharSequence", name := "charAt", desc := "(I)C" } : Jvm.MethodName) ({ cls := "java/lang/String", name := "charAt", desc := "(I)C" } : Jvm.MethodName)) ∈ lw_all := lw_g (lw_at lw_m6 212 rfl) rfl
theorem q1532 : (Jvm.Cond.unhidden "java/lang/String" "charAt" "(I)C") ∈ lw_tbl := lw_at lw_m6 213 rfl
theorem q1533 : (Jvm.Cond.instanceMethod ({ cls := "java/lang/String", name := "charAt", desc := "(I)C" } : Jvm.MethodName)) ∈ lw_all := lw_g (lw_at lw_m6 214 rfl) rfl
theorem q1534 : (Jvm.Cond.publicMethod ({ cls := "java/lang/String", name := "charAt", desc := "(I)C" } : Jvm.MethodName)) ∈ lw_tbl := lw_at lw_m6 215 rfl
theorem q1535 : (Jvm.Cond.code ({ cls := "java/lang/String", name := "charAt", desc := "(I)C" } : Jvm.MethodName) prog_29_method_56_code (2 : Nat) (Option.some Jvm.ClassFile.FieldType.char)) ∈ lw_all := lw_g (lw_at lw_m6 216 rfl) rfl
theorem q1536 : (Jvm.Cond.methodLink "java/lang/String" (495 : Nat) ({ cls := "java/lang/StringLatin1", name := "charAt", desc := "([BI)C" } : Jvm.MethodName)) ∈ lw_all := lw_g (lw_at lw_m6 217 rfl) rfl
theorem q1540 : (Jvm.Cond.methodLink "java/lang/String" (498 : Nat) ({ cls := "java/lang/StringUTF16", name := "charAt", desc := "([BI)C" } : Jvm.MethodName)) ∈ lw_all := lw_g (lw_at lw_m6 221 rfl) rfl
theorem q2350 : (Jvm.Cond.selects "java/lang/String" ({ cls := "java/lang/String", name := "length", desc := "()I" } : Jvm.MethodName) ({ cls := "java/lang/String", name := "length", desc := "()I" } : Jvm.MethodName)) ∈ lw_all := lw_g (lw_at lw_m10 71 rfl) rfl
theorem q2371 : (Jvm.Cond.castable "java/lang/String" "java/lang/Object") ∈ lw_tbl := lw_at lw_m10 92 rfl
theorem in_J3 : ∀ w ∈ wsJ30, w ∈ lw_all := lw_in wsJ30 [708, 710, 712, 714] (by decide +kernel) (by decide +kernel)
def RJ4 : String := "java/lang/StringUTF16"
abbrev cJ4_newBytesFor : ByteArray := prog_32_method_2_code
def yJ4_newBytesFor : MethodName := ⟨RJ4, "newBytesFor", "(I)[B"⟩
abbrev cJ4_newBytesLength : ByteArray := prog_32_method_3_code
def yJ4_newBytesLength : MethodName := ⟨RJ4, "newBytesLength", "(I)I"⟩
abbrev cJ4_inflate : ByteArray := prog_32_method_86_code
def yJ4_inflate : MethodName := ⟨RJ4, "inflate", "([BI[BII)V"⟩
abbrev cJ4_checkBoundsOffCount : ByteArray := prog_32_method_94_code
def yJ4_checkBoundsOffCount : MethodName := ⟨RJ4, "checkBoundsOffCount", "(II[B)V"⟩
abbrev cJ4_length : ByteArray := prog_32_method_6_code
def yJ4_length : MethodName := ⟨RJ4, "length", "([B)I"⟩
abbrev cJ4_putChar : ByteArray := prog_32_method_4_code
def yJ4_putChar : MethodName := ⟨RJ4, "putChar", "([BII)V"⟩
abbrev cJ4_putCharSB : ByteArray := prog_32_method_71_code
def yJ4_putCharSB : MethodName := ⟨RJ4, "putCharSB", "([BII)V"⟩
abbrev cJ4_checkIndex : ByteArray := prog_32_method_91_code
def yJ4_checkIndex : MethodName := ⟨RJ4, "checkIndex", "(I[B)V"⟩
abbrev cJ4_compress : ByteArray := prog_32_method_17_code
def yJ4_compress : MethodName := ⟨RJ4, "compress", "([BII)[B"⟩
abbrev cJ4_compress_2 : ByteArray := prog_32_method_22_code
def yJ4_compress_2 : MethodName := ⟨RJ4, "compress", "([BI[BII)I"⟩
abbrev cJ4_getChar : ByteArray := prog_32_method_5_code
def yJ4_getChar : MethodName := ⟨RJ4, "getChar", "([BI)C"⟩
abbrev cJ4_coderFromArrayLen : ByteArray := prog_32_method_15_code
def yJ4_coderFromArrayLen : MethodName := ⟨RJ4, "coderFromArrayLen", "([BI)B"⟩
abbrev cJ4_hashCode : ByteArray := prog_32_method_39_code
def yJ4_hashCode : MethodName := ⟨RJ4, "hashCode", "([B)I"⟩
abbrev cJ4_putCharsAt : ByteArray := prog_32_method_81_code
def yJ4_putCharsAt : MethodName := ⟨RJ4, "putCharsAt", "([BICCCC)I"⟩
abbrev cJ4_checkBoundsBeginEnd : ByteArray := prog_32_method_93_code
def yJ4_checkBoundsBeginEnd : MethodName := ⟨RJ4, "checkBoundsBeginEnd", "(II[B)V"⟩
abbrev cJ4_getChars : ByteArray := prog_32_method_77_code
def yJ4_getChars : MethodName := ⟨RJ4, "getChars", "(III[B)I"⟩
abbrev cJ4_getChars_2 : ByteArray := prog_32_method_89_code
def yJ4_getChars_2 : MethodName := ⟨RJ4, "getChars", "(II[B)I"⟩
abbrev cJ4_charAt : ByteArray := prog_32_method_83_code
def yJ4_charAt : MethodName := ⟨RJ4, "charAt", "([BI)C"⟩
theorem q135 : (Jvm.Cond.initialized "java/lang/StringUTF16") ∈ lw_all := lw_g (lw_at lw_m1 16 rfl) rfl
theorem q528 : (Jvm.Cond.static ({ cls := "java/lang/StringUTF16", name := "newBytesFor", desc := "(I)[B" } : Jvm.MethodName)) ∈ lw_all := lw_g (lw_at lw_m2 169 rfl) rfl
theorem q529 : (Jvm.Cond.code ({ cls := "java/lang/StringUTF16", name := "newBytesFor", desc := "(I)[B" } : Jvm.MethodName) prog_32_method_2_code (1 : Nat) (Option.some (Jvm.ClassFile.FieldType.array Jvm.ClassFile.FieldType.byte))) ∈ lw_all := lw_g (lw_at lw_m2 170 rfl) rfl
theorem q530 : (Jvm.Cond.methodLink "java/lang/StringUTF16" (11 : Nat) ({ cls := "java/lang/StringUTF16", name := "newBytesLength", desc := "(I)I" } : Jvm.MethodName)) ∈ lw_all := lw_g (lw_at lw_m2 171 rfl) rfl
theorem q531 : (Jvm.Cond.static ({ cls := "java/lang/StringUTF16", name := "newBytesLength", desc := "(I)I" } : Jvm.MethodName)) ∈ lw_all := lw_g (lw_at lw_m2 172 rfl) rfl
theorem q532 : (Jvm.Cond.code ({ cls := "java/lang/StringUTF16", name := "newBytesLength", desc := "(I)I" } : Jvm.MethodName) prog_32_method_3_code (1 : Nat) (Option.some Jvm.ClassFile.FieldType.int)) ∈ lw_all := lw_g (lw_at lw_m2 173 rfl) rfl
theorem q533 : (Jvm.Cond.constant "java/lang/StringUTF16" (20 : Nat) (1073741823 : Int32)) ∈ lw_all := lw_g (lw_at lw_m2 174 rfl) rfl
theorem q605 : (Jvm.Cond.static ({ cls := "java/lang/StringUTF16", name := "inflate", desc := "([BI[BII)V" } : Jvm.MethodName)) ∈ lw_all := lw_g (lw_at lw_m3 6 rfl) rfl
theorem q606 : (Jvm.Cond.code ({ cls := "java/lang/StringUTF16", name := "inflate", desc := "([BI[BII)V" } : Jvm.MethodName) prog_32_method_86_code (6 : Nat) (Option.none : Option Jvm.ClassFile.FieldType)) ∈ lw_all := lw_g (lw_at lw_m3 7 rfl) rfl
theorem q607 : (Jvm.Cond.methodLink "java/lang/StringUTF16" (173 : Nat) ({ cls := "java/lang/StringUTF16", name := "checkBoundsOffCount", desc := "(II[B)V" } : Jvm.MethodName)) ∈ lw_all := lw_g (lw_at lw_m3 8 rfl) rfl
theorem q608 : (Jvm.Cond.static ({ cls := "java/lang/StringUTF16", name := "checkBoundsOffCount", desc := "(II[B)V" } : Jvm.MethodName)) ∈ lw_all := lw_g (lw_at lw_m3 9 rfl) rfl
theorem q609 : (Jvm.Cond.code ({ cls := "java/lang/StringUTF16", name := "checkBoundsOffCount", desc := "(II[B)V" } : Jvm.MethodName) prog_32_method_94_code (3 : Nat) (Option.none : Option Jvm.ClassFile.FieldType)) ∈ lw_all := lw_g (lw_at lw_m3 10 rfl) rfl
theorem q610 : (Jvm.Cond.methodLink "java/lang/StringUTF16" (48 : Nat) ({ cls := "java/lang/StringUTF16", name := "length", desc := "([B)I" } : Jvm.MethodName)) ∈ lw_all := lw_g (lw_at lw_m3 11 rfl) rfl
theorem q611 : (Jvm.Cond.static ({ cls := "java/lang/StringUTF16", name := "length", desc := "([B)I" } : Jvm.MethodName)) ∈ lw_all := lw_g (lw_at lw_m3 12 rfl) rfl
theorem q612 : (Jvm.Cond.code ({ cls := "java/lang/StringUTF16", name := "length", desc := "([B)I" } : Jvm.MethodName) prog_32_method_6_code (1 : Nat) (Option.some Jvm.ClassFile.FieldType.int)) ∈ lw_all := lw_g (lw_at lw_m3 13 rfl) rfl
theorem q613 : (Jvm.Cond.methodLink "java/lang/StringUTF16" (419 : Nat) ({ cls := "java/lang/String", name := "checkBoundsOffCount", desc := "(III)I" } : Jvm.MethodName)) ∈ lw_all := lw_g (lw_at lw_m3 14 rfl) rfl
theorem q621 : (Jvm.Cond.methodLink "java/lang/StringUTF16" (111 : Nat) ({ cls := "java/lang/StringUTF16", name := "putChar", desc := "([BII)V" } : Jvm.MethodName)) ∈ lw_all := lw_g (lw_at lw_m3 22 rfl) rfl
theorem q622 : (Jvm.Cond.static ({ cls := "java/lang/StringUTF16", name := "putChar", desc := "([BII)V" } : Jvm.MethodName)) ∈ lw_all := lw_g (lw_at lw_m3 23 rfl) rfl
theorem q623 : (Jvm.Cond.code ({ cls := "java/lang/StringUTF16", name := "putChar", desc := "([BII)V" } : Jvm.MethodName) prog_32_method_4_code (3 : Nat) (Option.none : Option Jvm.ClassFile.FieldType)) ∈ lw_all := lw_g (lw_at lw_m3 24 rfl) rfl
theorem q624 : (Jvm.Cond.fieldLink "java/lang/StringUTF16" (44 : Nat) "java/lang/StringUTF16" "$assertionsDisabled" "Z") ∈ lw_all := lw_g (lw_at lw_m3 25 rfl) rfl
theorem q625 : (Jvm.Cond.laysStatic "java/lang/StringUTF16" "$assertionsDisabled" "Z") ∈ lw_tbl := lw_at lw_m3 26 rfl
theorem q626 : (Jvm.Cond.fieldLink "java/lang/StringUTF16" (59 : Nat) "java/lang/StringUTF16" "HI_BYTE_SHIFT" "I") ∈ lw_all := lw_g (lw_at lw_m3 27 rfl) rfl
theorem q627 : (Jvm.Cond.laysStatic "java/lang/StringUTF16" "HI_BYTE_SHIFT" "I") ∈ lw_tbl := lw_at lw_m3 28 rfl
theorem q628 : (Jvm.Cond.fieldLink "java/lang/StringUTF16" (63 : Nat) "java/lang/StringUTF16" "LO_BYTE_SHIFT" "I") ∈ lw_all := lw_g (lw_at lw_m3 29 rfl) rfl
theorem q629 : (Jvm.Cond.laysStatic "java/lang/StringUTF16" "LO_BYTE_SHIFT" "I") ∈ lw_tbl := lw_at lw_m3 30 rfl
theorem q631 : (Jvm.Cond.static ({ cls := "java/lang/StringUTF16", name := "putCharSB", desc := "([BII)V" } : Jvm.MethodName)) ∈ lw_all := lw_g (lw_at lw_m3 32 rfl) rfl
theorem q632 : (Jvm.Cond.code ({ cls := "java/lang/StringUTF16", name := "putCharSB", desc := "([BII)V" } : Jvm.MethodName) prog_32_method_71_code (3 : Nat) (Option.none : Option Jvm.ClassFile.FieldType)) ∈ lw_all := lw_g (lw_at lw_m3 33 rfl) rfl
theorem q633 : (Jvm.Cond.methodLink "java/lang/StringUTF16" (67 : Nat) ({ cls := "java/lang/StringUTF16", name := "checkIndex", desc := "(I[B)V" } : Jvm.MethodName)) ∈ lw_all := lw_g (lw_at lw_m3 34 rfl) rfl
theorem q634 : (Jvm.Cond.static ({ cls := "java/lang/StringUTF16", name := "checkIndex", desc := "(I[B)V" } : Jvm.MethodName)) ∈ lw_all := lw_g (lw_at lw_m3 35 rfl) rfl
theorem q635 : (Jvm.Cond.code ({ cls := "java/lang/StringUTF16", name := "checkIndex", desc := "(I[B)V" } : Jvm.MethodName) prog_32_method_91_code (2 : Nat) (Option.none : Option Jvm.ClassFile.FieldType)) ∈ lw_all := lw_g (lw_at lw_m3 36 rfl) rfl
theorem q636 : (Jvm.Cond.methodLink "java/lang/StringUTF16" (414 : Nat) ({ cls := "java/lang/String", name := "checkIndex", desc := "(II)V" } : Jvm.MethodName)) ∈ lw_all := lw_g (lw_at lw_m3 37 rfl) rfl
theorem q692 : (Jvm.Cond.static ({ cls := "java/lang/StringUTF16", name := "compress", desc := "([BII)[B" } : Jvm.MethodName)) ∈ lw_all := lw_g (lw_at lw_m3 93 rfl) rfl
theorem q693 : (Jvm.Cond.code ({ cls := "java/lang/StringUTF16", name := "compress", desc := "([BII)[B" } : Jvm.MethodName) prog_32_method_17_code (6 : Nat) (Option.some (Jvm.ClassFile.FieldType.array Jvm.ClassFile.FieldType.byte))) ∈ lw_all := lw_g (lw_at lw_m3 94 rfl) rfl
theorem q694 : (Jvm.Cond.methodLink "java/lang/StringUTF16" (123 : Nat) ({ cls := "java/lang/StringUTF16", name := "compress", desc := "([BI[BII)I" } : Jvm.MethodName)) ∈ lw_all := lw_g (lw_at lw_m3 95 rfl) rfl
theorem q695 : (Jvm.Cond.static ({ cls := "java/lang/StringUTF16", name := "compress", desc := "([BI[BII)I" } : Jvm.MethodName)) ∈ lw_all := lw_g (lw_at lw_m3 96 rfl) rfl
theorem q696 : (Jvm.Cond.code ({ cls := "java/lang/StringUTF16", name := "compress", desc := "([BI[BII)I" } : Jvm.MethodName) prog_32_method_22_code (7 : Nat) (Option.some Jvm.ClassFile.FieldType.int)) ∈ lw_all := lw_g (lw_at lw_m3 97 rfl) rfl
theorem q697 : (Jvm.Cond.methodLink "java/lang/StringUTF16" (71 : Nat) ({ cls := "java/lang/StringUTF16", name := "getChar", desc := "([BI)C" } : Jvm.MethodName)) ∈ lw_all := lw_g (lw_at lw_m3 98 rfl) rfl
theorem q698 : (Jvm.Cond.static ({ cls := "java/lang/StringUTF16", name := "getChar", desc := "([BI)C" } : Jvm.MethodName)) ∈ lw_all := lw_g (lw_at lw_m3 99 rfl) rfl
theorem q699 : (Jvm.Cond.code ({ cls := "java/lang/StringUTF16", name := "getChar", desc := "([BI)C" } : Jvm.MethodName) prog_32_method_5_code (2 : Nat) (Option.some Jvm.ClassFile.FieldType.char)) ∈ lw_all := lw_g (lw_at lw_m3 100 rfl) rfl
theorem q700 : (Jvm.Cond.methodLink "java/lang/StringUTF16" (126 : Nat) ({ cls := "java/util/Arrays", name := "copyOfRange", desc := "([BII)[B" } : Jvm.MethodName)) ∈ lw_all := lw_g (lw_at lw_m3 101 rfl) rfl
theorem q702 : (Jvm.Cond.static ({ cls := "java/lang/StringUTF16", name := "coderFromArrayLen", desc := "([BI)B" } : Jvm.MethodName)) ∈ lw_all := lw_g (lw_at lw_m3 103 rfl) rfl
theorem q703 : (Jvm.Cond.code ({ cls := "java/lang/StringUTF16", name := "coderFromArrayLen", desc := "([BI)B" } : Jvm.MethodName) prog_32_method_15_code (2 : Nat) (Option.some Jvm.ClassFile.FieldType.byte)) ∈ lw_all := lw_g (lw_at lw_m3 104 rfl) rfl
theorem q767 : (Jvm.Cond.static ({ cls := "java/lang/StringUTF16", name := "hashCode", desc := "([B)I" } : Jvm.MethodName)) ∈ lw_all := lw_g (lw_at lw_m3 168 rfl) rfl
theorem q768 : (Jvm.Cond.code ({ cls := "java/lang/StringUTF16", name := "hashCode", desc := "([B)I" } : Jvm.MethodName) prog_32_method_39_code (1 : Nat) (Option.some Jvm.ClassFile.FieldType.int)) ∈ lw_all := lw_g (lw_at lw_m3 169 rfl) rfl
theorem q769 : (Jvm.Cond.methodLink "java/lang/StringUTF16" (220 : Nat) ({ cls := "jdk/internal/util/ArraysSupport", name := "vectorizedHashCode", desc := "(Ljava/lang/Object;IIII)I" } : Jvm.MethodName)) ∈ lw_all := lw_g (lw_at lw_m3 170 rfl) rfl
theorem q1403 : (Jvm.Cond.static ({ cls := "java/lang/StringUTF16", name := "putCharsAt", desc := "([BICCCC)I" } : Jvm.MethodName)) ∈ lw_all := lw_g (lw_at lw_m6 84 rfl) rfl
theorem q1404 : (Jvm.Cond.code ({ cls := "java/lang/StringUTF16", name := "putCharsAt", desc := "([BICCCC)I" } : Jvm.MethodName) prog_32_method_81_code (7 : Nat) (Option.some Jvm.ClassFile.FieldType.int)) ∈ lw_all := lw_g (lw_at lw_m6 85 rfl) rfl
theorem q1405 : (Jvm.Cond.methodLink "java/lang/StringUTF16" (96 : Nat) ({ cls := "java/lang/StringUTF16", name := "checkBoundsBeginEnd", desc := "(II[B)V" } : Jvm.MethodName)) ∈ lw_all := lw_g (lw_at lw_m6 86 rfl) rfl
theorem q1406 : (Jvm.Cond.static ({ cls := "java/lang/StringUTF16", name := "checkBoundsBeginEnd", desc := "(II[B)V" } : Jvm.MethodName)) ∈ lw_all := lw_g (lw_at lw_m6 87 rfl) rfl
theorem q1407 : (Jvm.Cond.code ({ cls := "java/lang/StringUTF16", name := "checkBoundsBeginEnd", desc := "(II[B)V" } : Jvm.MethodName) prog_32_method_93_code (3 : Nat) (Option.none : Option Jvm.ClassFile.FieldType)) ∈ lw_all := lw_g (lw_at lw_m6 88 rfl) rfl
theorem q1408 : (Jvm.Cond.methodLink "java/lang/StringUTF16" (241 : Nat) ({ cls := "java/lang/String", name := "checkBoundsBeginEnd", desc := "(III)V" } : Jvm.MethodName)) ∈ lw_all := lw_g (lw_at lw_m6 89 rfl) rfl
theorem q1516 : (Jvm.Cond.static ({ cls := "java/lang/StringUTF16", name := "getChars", desc := "(III[B)I" } : Jvm.MethodName)) ∈ lw_all := lw_g (lw_at lw_m6 197 rfl) rfl
theorem q1517 : (Jvm.Cond.code ({ cls := "java/lang/StringUTF16", name := "getChars", desc := "(III[B)I" } : Jvm.MethodName) prog_32_method_77_code (5 : Nat) (Option.some Jvm.ClassFile.FieldType.int)) ∈ lw_all := lw_g (lw_at lw_m6 198 rfl) rfl
theorem q1518 : (Jvm.Cond.methodLink "java/lang/StringUTF16" (393 : Nat) ({ cls := "java/lang/StringUTF16", name := "getChars", desc := "(II[B)I" } : Jvm.MethodName)) ∈ lw_all := lw_g (lw_at lw_m6 199 rfl) rfl
theorem q1519 : (Jvm.Cond.static ({ cls := "java/lang/StringUTF16", name := "getChars", desc := "(II[B)I" } : Jvm.MethodName)) ∈ lw_all := lw_g (lw_at lw_m6 200 rfl) rfl
theorem q1520 : (Jvm.Cond.code ({ cls := "java/lang/StringUTF16", name := "getChars", desc := "(II[B)I" } : Jvm.MethodName) prog_32_method_89_code (7 : Nat) (Option.some Jvm.ClassFile.FieldType.int)) ∈ lw_all := lw_g (lw_at lw_m6 201 rfl) rfl
theorem q1521 : (Jvm.Cond.fieldLink "java/lang/StringUTF16" (403 : Nat) "java/lang/Integer" "DigitOnes" "[B") ∈ lw_all := lw_g (lw_at lw_m6 202 rfl) rfl
theorem q1522 : (Jvm.Cond.fieldLink "java/lang/StringUTF16" (407 : Nat) "java/lang/Integer" "DigitTens" "[B") ∈ lw_all := lw_g (lw_at lw_m6 203 rfl) rfl
theorem q1541 : (Jvm.Cond.static ({ cls := "java/lang/StringUTF16", name := "charAt", desc := "([BI)C" } : Jvm.MethodName)) ∈ lw_all := lw_g (lw_at lw_m6 222 rfl) rfl
theorem q1542 : (Jvm.Cond.code ({ cls := "java/lang/StringUTF16", name := "charAt", desc := "([BI)C" } : Jvm.MethodName) prog_32_method_83_code (2 : Nat) (Option.some Jvm.ClassFile.FieldType.char)) ∈ lw_all := lw_g (lw_at lw_m6 223 rfl) rfl
def RJ5 : String := "jdk/internal/util/ArraysSupport"
abbrev cJ5_newLength : ByteArray := prog_41_method_27_code
def yJ5_newLength : MethodName := ⟨RJ5, "newLength", "(III)I"⟩
abbrev cJ5_hugeLength : ByteArray := prog_41_method_28_code
def yJ5_hugeLength : MethodName := ⟨RJ5, "hugeLength", "(II)I"⟩
abbrev cJ5_vectorizedHashCode : ByteArray := prog_41_method_4_code
def yJ5_vectorizedHashCode : MethodName := ⟨RJ5, "vectorizedHashCode", "(Ljava/lang/Object;IIII)I"⟩
abbrev cJ5_signedHashCode : ByteArray := prog_41_method_5_code
def yJ5_signedHashCode : MethodName := ⟨RJ5, "signedHashCode", "(I[BII)I"⟩
abbrev cJ5_utf16hashCode : ByteArray := prog_41_method_10_code
def yJ5_utf16hashCode : MethodName := ⟨RJ5, "utf16hashCode", "(I[BII)I"⟩
abbrev cJ5_hashCode : ByteArray := prog_41_method_7_code
def yJ5_hashCode : MethodName := ⟨RJ5, "hashCode", "(I[CII)I"⟩
abbrev cJ5_hashCode_2 : ByteArray := prog_41_method_6_code
def yJ5_hashCode_2 : MethodName := ⟨RJ5, "hashCode", "(I[BII)I"⟩
abbrev cJ5_hashCode_3 : ByteArray := prog_41_method_8_code
def yJ5_hashCode_3 : MethodName := ⟨RJ5, "hashCode", "(I[SII)I"⟩
abbrev cJ5_hashCode_4 : ByteArray := prog_41_method_9_code
def yJ5_hashCode_4 : MethodName := ⟨RJ5, "hashCode", "(I[III)I"⟩
theorem q136 : (Jvm.Cond.initialized "jdk/internal/util/ArraysSupport") ∈ lw_all := lw_g (lw_at lw_m1 17 rfl) rfl
theorem q567 : (Jvm.Cond.static ({ cls := "jdk/internal/util/ArraysSupport", name := "newLength", desc := "(III)I" } : Jvm.MethodName)) ∈ lw_all := lw_g (lw_at lw_m2 208 rfl) rfl
theorem q568 : (Jvm.Cond.code ({ cls := "jdk/internal/util/ArraysSupport", name := "newLength", desc := "(III)I" } : Jvm.MethodName) prog_41_method_27_code (4 : Nat) (Option.some Jvm.ClassFile.FieldType.int)) ∈ lw_all := lw_g (lw_at lw_m2 209 rfl) rfl
theorem q569 : (Jvm.Cond.methodLink "jdk/internal/util/ArraysSupport" (194 : Nat) ({ cls := "java/lang/Math", name := "max", desc := "(II)I" } : Jvm.MethodName)) ∈ lw_all := lw_g (lw_at lw_m2 210 rfl) rfl
theorem q570 : (Jvm.Cond.constant "jdk/internal/util/ArraysSupport" (200 : Nat) (2147483639 : Int32)) ∈ lw_all := lw_g (lw_at lw_m2 211 rfl) rfl
theorem q571 : (Jvm.Cond.methodLink "jdk/internal/util/ArraysSupport" (201 : Nat) ({ cls := "jdk/internal/util/ArraysSupport", name := "hugeLength", desc := "(II)I" } : Jvm.MethodName)) ∈ lw_all := lw_g (lw_at lw_m2 212 rfl) rfl
theorem q572 : (Jvm.Cond.static ({ cls := "jdk/internal/util/ArraysSupport", name := "hugeLength", desc := "(II)I" } : Jvm.MethodName)) ∈ lw_all := lw_g (lw_at lw_m2 213 rfl) rfl
theorem q573 : (Jvm.Cond.code ({ cls := "jdk/internal/util/ArraysSupport", name := "hugeLength", desc := "(II)I" } : Jvm.MethodName) prog_41_method_28_code (3 : Nat) (Option.some Jvm.ClassFile.FieldType.int)) ∈ lw_all := lw_g (lw_at lw_m2 214 rfl) rfl
theorem q729 : (Jvm.Cond.static ({ cls := "jdk/internal/util/ArraysSupport", name := "vectorizedHashCode", desc := "(Ljava/lang/Object;IIII)I" } : Jvm.MethodName)) ∈ lw_all := lw_g (lw_at lw_m3 130 rfl) rfl
theorem q730 : (Jvm.Cond.code ({ cls := "jdk/internal/util/ArraysSupport", name := "vectorizedHashCode", desc := "(Ljava/lang/Object;IIII)I" } : Jvm.MethodName) prog_41_method_4_code (5 : Nat) (Option.some Jvm.ClassFile.FieldType.int)) ∈ lw_all := lw_g (lw_at lw_m3 131 rfl) rfl
theorem q731 : (Jvm.Cond.classLink "jdk/internal/util/ArraysSupport" (60 : Nat) "[B") ∈ lw_all := lw_g (lw_at lw_m3 132 rfl) rfl
theorem q732 : (Jvm.Cond.methodLink "jdk/internal/util/ArraysSupport" (62 : Nat) ({ cls := "jdk/internal/util/ArraysSupport", name := "signedHashCode", desc := "(I[BII)I" } : Jvm.MethodName)) ∈ lw_all := lw_g (lw_at lw_m3 133 rfl) rfl
theorem q733 : (Jvm.Cond.static ({ cls := "jdk/internal/util/ArraysSupport", name := "signedHashCode", desc := "(I[BII)I" } : Jvm.MethodName)) ∈ lw_all := lw_g (lw_at lw_m3 134 rfl) rfl
theorem q734 : (Jvm.Cond.code ({ cls := "jdk/internal/util/ArraysSupport", name := "signedHashCode", desc := "(I[BII)I" } : Jvm.MethodName) prog_41_method_5_code (6 : Nat) (Option.some Jvm.ClassFile.FieldType.int)) ∈ lw_all := lw_g (lw_at lw_m3 135 rfl) rfl
theorem q735 : (Jvm.Cond.methodLink "jdk/internal/util/ArraysSupport" (66 : Nat) ({ cls := "jdk/internal/util/ArraysSupport", name := "utf16hashCode", desc := "(I[BII)I" } : Jvm.MethodName)) ∈ lw_all := lw_g (lw_at lw_m3 136 rfl) rfl
theorem q736 : (Jvm.Cond.static ({ cls := "jdk/internal/util/ArraysSupport", name := "utf16hashCode", desc := "(I[BII)I" } : Jvm.MethodName)) ∈ lw_all := lw_g (lw_at lw_m3 137 rfl) rfl
theorem q737 : (Jvm.Cond.code ({ cls := "jdk/internal/util/ArraysSupport", name := "utf16hashCode", desc := "(I[BII)I" } : Jvm.MethodName) prog_41_method_10_code (6 : Nat) (Option.some Jvm.ClassFile.FieldType.int)) ∈ lw_all := lw_g (lw_at lw_m3 138 rfl) rfl
theorem q738 : (Jvm.Cond.fieldLink "jdk/internal/util/ArraysSupport" (106 : Nat) "jdk/internal/util/ArraysSupport" "JLA" "Ljdk/internal/access/JavaLangAccess;") ∈ lw_all := lw_g (lw_at lw_m3 139 rfl) rfl
theorem q739 : (Jvm.Cond.laysStatic "jdk/internal/util/ArraysSupport" "JLA" "Ljdk/internal/access/JavaLangAccess;") ∈ lw_tbl := lw_at lw_m3 140 rfl
theorem q740 : (Jvm.Cond.interfaceEntry "jdk/internal/util/ArraysSupport" (110 : Nat)) ∈ lw_tbl := lw_at lw_m3 141 rfl
theorem q741 : (Jvm.Cond.methodLink "jdk/internal/util/ArraysSupport" (110 : Nat) ({ cls := "jdk/internal/access/JavaLangAccess", name := "getUTF16Char", desc := "([BI)C" } : Jvm.MethodName)) ∈ lw_all := lw_g (lw_at lw_m3 142 rfl) rfl
theorem q751 : (Jvm.Cond.classLink "jdk/internal/util/ArraysSupport" (69 : Nat) "[C") ∈ lw_all := lw_g (lw_at lw_m3 152 rfl) rfl
theorem q752 : (Jvm.Cond.methodLink "jdk/internal/util/ArraysSupport" (71 : Nat) ({ cls := "jdk/internal/util/ArraysSupport", name := "hashCode", desc := "(I[CII)I" } : Jvm.MethodName)) ∈ lw_all := lw_g (lw_at lw_m3 153 rfl) rfl
theorem q753 : (Jvm.Cond.static ({ cls := "jdk/internal/util/ArraysSupport", name := "hashCode", desc := "(I[CII)I" } : Jvm.MethodName)) ∈ lw_all := lw_g (lw_at lw_m3 154 rfl) rfl
theorem q754 : (Jvm.Cond.code ({ cls := "jdk/internal/util/ArraysSupport", name := "hashCode", desc := "(I[CII)I" } : Jvm.MethodName) prog_41_method_7_code (6 : Nat) (Option.some Jvm.ClassFile.FieldType.int)) ∈ lw_all := lw_g (lw_at lw_m3 155 rfl) rfl
theorem q755 : (Jvm.Cond.methodLink "jdk/internal/util/ArraysSupport" (75 : Nat) ({ cls := "jdk/internal/util/ArraysSupport", name := "hashCode", desc := "(I[BII)I" } : Jvm.MethodName)) ∈ lw_all := lw_g (lw_at lw_m3 156 rfl) rfl
theorem q756 : (Jvm.Cond.static ({ cls := "jdk/internal/util/ArraysSupport", name := "hashCode", desc := "(I[BII)I" } : Jvm.MethodName)) ∈ lw_all := lw_g (lw_at lw_m3 157 rfl) rfl
theorem q757 : (Jvm.Cond.code ({ cls := "jdk/internal/util/ArraysSupport", name := "hashCode", desc := "(I[BII)I" } : Jvm.MethodName) prog_41_method_6_code (6 : Nat) (Option.some Jvm.ClassFile.FieldType.int)) ∈ lw_all := lw_g (lw_at lw_m3 158 rfl) rfl
theorem q758 : (Jvm.Cond.classLink "jdk/internal/util/ArraysSupport" (77 : Nat) "[S") ∈ lw_all := lw_g (lw_at lw_m3 159 rfl) rfl
theorem q759 : (Jvm.Cond.methodLink "jdk/internal/util/ArraysSupport" (79 : Nat) ({ cls := "jdk/internal/util/ArraysSupport", name := "hashCode", desc := "(I[SII)I" } : Jvm.MethodName)) ∈ lw_all := lw_g (lw_at lw_m3 160 rfl) rfl
theorem q760 : (Jvm.Cond.static ({ cls := "jdk/internal/util/ArraysSupport", name := "hashCode", desc := "(I[SII)I" } : Jvm.MethodName)) ∈ lw_all := lw_g (lw_at lw_m3 161 rfl) rfl
theorem q761 : (Jvm.Cond.code ({ cls := "jdk/internal/util/ArraysSupport", name := "hashCode", desc := "(I[SII)I" } : Jvm.MethodName) prog_41_method_8_code (6 : Nat) (Option.some Jvm.ClassFile.FieldType.int)) ∈ lw_all := lw_g (lw_at lw_m3 162 rfl) rfl
theorem q762 : (Jvm.Cond.classLink "jdk/internal/util/ArraysSupport" (82 : Nat) "[I") ∈ lw_all := lw_g (lw_at lw_m3 163 rfl) rfl
theorem q763 : (Jvm.Cond.methodLink "jdk/internal/util/ArraysSupport" (84 : Nat) ({ cls := "jdk/internal/util/ArraysSupport", name := "hashCode", desc := "(I[III)I" } : Jvm.MethodName)) ∈ lw_all := lw_g (lw_at lw_m3 164 rfl) rfl
theorem q764 : (Jvm.Cond.static ({ cls := "jdk/internal/util/ArraysSupport", name := "hashCode", desc := "(I[III)I" } : Jvm.MethodName)) ∈ lw_all := lw_g (lw_at lw_m3 165 rfl) rfl
theorem q765 : (Jvm.Cond.code ({ cls := "jdk/internal/util/ArraysSupport", name := "hashCode", desc := "(I[III)I" } : Jvm.MethodName) prog_41_method_9_code (6 : Nat) (Option.some Jvm.ClassFile.FieldType.int)) ∈ lw_all := lw_g (lw_at lw_m3 166 rfl) rfl
def RJ6 : String := "java/util/Arrays"
abbrev cJ6_copyOf : ByteArray := prog_38_method_121_code
def yJ6_copyOf : MethodName := ⟨RJ6, "copyOf", "([BI)[B"⟩
abbrev cJ6_copyOfRange : ByteArray := prog_38_method_132_code
def yJ6_copyOfRange : MethodName := ⟨RJ6, "copyOfRange", "([BII)[B"⟩
abbrev cJ6_copyOfRangeByte : ByteArray := prog_38_method_133_code
def yJ6_copyOfRangeByte : MethodName := ⟨RJ6, "copyOfRangeByte", "([BII)[B"⟩
abbrev cJ6_checkLength : ByteArray := prog_38_method_131_code
def yJ6_checkLength : MethodName := ⟨RJ6, "checkLength", "(II)V"⟩
theorem q137 : (Jvm.Cond.initialized "java/util/Arrays") ∈ lw_all := lw_g (lw_at lw_m1 18 rfl) rfl
theorem q576 : (Jvm.Cond.static ({ cls := "java/util/Arrays", name := "copyOf", desc := "([BI)[B" } : Jvm.MethodName)) ∈ lw_all := lw_g (lw_at lw_m2 217 rfl) rfl
theorem q577 : (Jvm.Cond.code ({ cls := "java/util/Arrays", name := "copyOf", desc := "([BI)[B" } : Jvm.MethodName) prog_38_method_121_code (3 : Nat) (Option.some (Jvm.ClassFile.FieldType.array Jvm.ClassFile.FieldType.byte))) ∈ lw_all := lw_g (lw_at lw_m2 218 rfl) rfl
theorem q578 : (Jvm.Cond.methodLink "java/util/Arrays" (310 : Nat) ({ cls := "[B", name := "clone", desc := "()Ljava/lang/Object;" } : Jvm.MethodName)) ∈ lw_all := lw_g (lw_at lw_m2 219 rfl) rfl
theorem q584 : (Jvm.Cond.classLink "java/util/Arrays" (311 : Nat) "[B") ∈ lw_all := lw_g (lw_at lw_m2 225 rfl) rfl
theorem q585 : (Jvm.Cond.methodLink "java/util/Arrays" (304 : Nat) ({ cls := "java/lang/Math", name := "min", desc := "(II)I" } : Jvm.MethodName)) ∈ lw_all := lw_g (lw_at lw_m2 226 rfl) rfl
theorem q586 : (Jvm.Cond.methodLink "java/util/Arrays" (150 : Nat) ({ cls := "java/lang/System", name := "arraycopy", desc := "(Ljava/lang/Object;ILjava/lang/Object;II)V" } : Jvm.MethodName)) ∈ lw_all := lw_g (lw_at lw_m2 227 rfl) rfl
theorem q682 : (Jvm.Cond.static ({ cls := "java/util/Arrays", name := "copyOfRange", desc := "([BII)[B" } : Jvm.MethodName)) ∈ lw_all := lw_g (lw_at lw_m3 83 rfl) rfl
theorem q683 : (Jvm.Cond.code ({ cls := "java/util/Arrays", name := "copyOfRange", desc := "([BII)[B" } : Jvm.MethodName) prog_38_method_132_code (3 : Nat) (Option.some (Jvm.ClassFile.FieldType.array Jvm.ClassFile.FieldType.byte))) ∈ lw_all := lw_g (lw_at lw_m3 84 rfl) rfl
theorem q684 : (Jvm.Cond.methodLink "java/util/Arrays" (339 : Nat) ({ cls := "java/util/Arrays", name := "copyOfRangeByte", desc := "([BII)[B" } : Jvm.MethodName)) ∈ lw_all := lw_g (lw_at lw_m3 85 rfl) rfl
theorem q685 : (Jvm.Cond.static ({ cls := "java/util/Arrays", name := "copyOfRangeByte", desc := "([BII)[B" } : Jvm.MethodName)) ∈ lw_all := lw_g (lw_at lw_m3 86 rfl) rfl
theorem q686 : (Jvm.Cond.code ({ cls := "java/util/Arrays", name := "copyOfRangeByte", desc := "([BII)[B" } : Jvm.MethodName) prog_38_method_133_code (5 : Nat) (Option.some (Jvm.ClassFile.FieldType.array Jvm.ClassFile.FieldType.byte))) ∈ lw_all := lw_g (lw_at lw_m3 87 rfl) rfl
theorem q687 : (Jvm.Cond.methodLink "java/util/Arrays" (343 : Nat) ({ cls := "java/util/Arrays", name := "checkLength", desc := "(II)V" } : Jvm.MethodName)) ∈ lw_all := lw_g (lw_at lw_m3 88 rfl) rfl
theorem q688 : (Jvm.Cond.static ({ cls := "java/util/Arrays", name := "checkLength", desc := "(II)V" } : Jvm.MethodName)) ∈ lw_all := lw_g (lw_at lw_m3 89 rfl) rfl
theorem q689 : (Jvm.Cond.code ({ cls := "java/util/Arrays", name := "checkLength", desc := "(II)V" } : Jvm.MethodName) prog_38_method_131_code (2 : Nat) (Option.none : Option Jvm.ClassFile.FieldType)) ∈ lw_all := lw_g (lw_at lw_m3 90 rfl) rfl
def RJ7 : String := "java/lang/StringLatin1"
abbrev cJ7_canEncode : ByteArray := prog_31_method_3_code
def yJ7_canEncode : MethodName := ⟨RJ7, "canEncode", "(C)Z"⟩
abbrev cJ7_inflate : ByteArray := prog_31_method_50_code
def yJ7_inflate : MethodName := ⟨RJ7, "inflate", "([BI[BII)V"⟩
abbrev cJ7_hashCode : ByteArray := prog_31_method_21_code
def yJ7_hashCode : MethodName := ⟨RJ7, "hashCode", "([B)I"⟩
abbrev cJ7_equals : ByteArray := prog_31_method_13_code
def yJ7_equals : MethodName := ⟨RJ7, "equals", "([B[B)Z"⟩
abbrev cJ7_charAt : ByteArray := prog_31_method_2_code
def yJ7_charAt : MethodName := ⟨RJ7, "charAt", "([BI)C"⟩
theorem q139 : (Jvm.Cond.initialized "java/lang/StringLatin1") ∈ lw_all := lw_g (lw_at lw_m1 20 rfl) rfl
theorem q595 : (Jvm.Cond.static ({ cls := "java/lang/StringLatin1", name := "canEncode", desc := "(C)Z" } : Jvm.MethodName)) ∈ lw_all := lw_g (lw_at lw_m2 236 rfl) rfl
theorem q596 : (Jvm.Cond.code ({ cls := "java/lang/StringLatin1", name := "canEncode", desc := "(C)Z" } : Jvm.MethodName) prog_31_method_3_code (1 : Nat) (Option.some Jvm.ClassFile.FieldType.boolean)) ∈ lw_all := lw_g (lw_at lw_m2 237 rfl) rfl
theorem q602 : (Jvm.Cond.static ({ cls := "java/lang/StringLatin1", name := "inflate", desc := "([BI[BII)V" } : Jvm.MethodName)) ∈ lw_all := lw_g (lw_at lw_m3 3 rfl) rfl
theorem q603 : (Jvm.Cond.code ({ cls := "java/lang/StringLatin1", name := "inflate", desc := "([BI[BII)V" } : Jvm.MethodName) prog_31_method_50_code (5 : Nat) (Option.none : Option Jvm.ClassFile.FieldType)) ∈ lw_all := lw_g (lw_at lw_m3 4 rfl) rfl
theorem q604 : (Jvm.Cond.methodLink "java/lang/StringLatin1" (240 : Nat) ({ cls := "java/lang/StringUTF16", name := "inflate", desc := "([BI[BII)V" } : Jvm.MethodName)) ∈ lw_all := lw_g (lw_at lw_m3 5 rfl) rfl
theorem q726 : (Jvm.Cond.static ({ cls := "java/lang/StringLatin1", name := "hashCode", desc := "([B)I" } : Jvm.MethodName)) ∈ lw_all := lw_g (lw_at lw_m3 127 rfl) rfl
theorem q727 : (Jvm.Cond.code ({ cls := "java/lang/StringLatin1", name := "hashCode", desc := "([B)I" } : Jvm.MethodName) prog_31_method_21_code (1 : Nat) (Option.some Jvm.ClassFile.FieldType.int)) ∈ lw_all := lw_g (lw_at lw_m3 128 rfl) rfl
theorem q728 : (Jvm.Cond.methodLink "java/lang/StringLatin1" (84 : Nat) ({ cls := "jdk/internal/util/ArraysSupport", name := "vectorizedHashCode", desc := "(Ljava/lang/Object;IIII)I" } : Jvm.MethodName)) ∈ lw_all := lw_g (lw_at lw_m3 129 rfl) rfl
theorem q777 : (Jvm.Cond.static ({ cls := "java/lang/StringLatin1", name := "equals", desc := "([B[B)Z" } : Jvm.MethodName)) ∈ lw_all := lw_g (lw_at lw_m3 178 rfl) rfl
theorem q778 : (Jvm.Cond.code ({ cls := "java/lang/StringLatin1", name := "equals", desc := "([B[B)Z" } : Jvm.MethodName) prog_31_method_13_code (3 : Nat) (Option.some Jvm.ClassFile.FieldType.boolean)) ∈ lw_all := lw_g (lw_at lw_m3 179 rfl) rfl
theorem q1537 : (Jvm.Cond.static ({ cls := "java/lang/StringLatin1", name := "charAt", desc := "([BI)C" } : Jvm.MethodName)) ∈ lw_all := lw_g (lw_at lw_m6 218 rfl) rfl
theorem q1538 : (Jvm.Cond.code ({ cls := "java/lang/StringLatin1", name := "charAt", desc := "([BI)C" } : Jvm.MethodName) prog_31_method_2_code (2 : Nat) (Option.some Jvm.ClassFile.FieldType.char)) ∈ lw_all := lw_g (lw_at lw_m6 219 rfl) rfl
theorem q1539 : (Jvm.Cond.methodLink "java/lang/StringLatin1" (9 : Nat) ({ cls := "java/lang/String", name := "checkIndex", desc := "(II)V" } : Jvm.MethodName)) ∈ lw_all := lw_g (lw_at lw_m6 220 rfl) rfl
def RJ8 : String := "jdk/internal/util/Preconditions"
abbrev cJ8_checkFromIndexSize : ByteArray := prog_42_method_13_code
def yJ8_checkFromIndexSize : MethodName := ⟨RJ8, "checkFromIndexSize", "(IIILjava/util/function/BiFunction;)I"⟩
abbrev cJ8_checkIndex : ByteArray := prog_42_method_11_code
def yJ8_checkIndex : MethodName := ⟨RJ8, "checkIndex", "(IILjava/util/function/BiFunction;)I"⟩
abbrev cJ8_checkFromToIndex : ByteArray := prog_42_method_12_code
def yJ8_checkFromToIndex : MethodName := ⟨RJ8, "checkFromToIndex", "(IIILjava/util/function/BiFunction;)I"⟩
theorem q140 : (Jvm.Cond.initialized "jdk/internal/util/Preconditions") ∈ lw_all := lw_g (lw_at lw_m1 21 rfl) rfl
theorem q617 : (Jvm.Cond.laysStatic "jdk/internal/util/Preconditions" "SIOOBE_FORMATTER" "Ljava/util/function/BiFunction;") ∈ lw_tbl := lw_at lw_m3 18 rfl
theorem q619 : (Jvm.Cond.static ({ cls := "jdk/internal/util/Preconditions", name := "checkFromIndexSize", desc := "(IIILjava/util/function/BiFunction;)I" } : Jvm.MethodName)) ∈ lw_all := lw_g (lw_at lw_m3 20 rfl) rfl
theorem q620 : (Jvm.Cond.code ({ cls := "jdk/internal/util/Preconditions", name := "checkFromIndexSize", desc := "(IIILjava/util/function/BiFunction;)I" } : Jvm.MethodName) prog_42_method_13_code (4 : Nat) (Option.some Jvm.ClassFile.FieldType.int)) ∈ lw_all := lw_g (lw_at lw_m3 21 rfl) rfl
theorem q640 : (Jvm.Cond.static ({ cls := "jdk/internal/util/Preconditions", name := "checkIndex", desc := "(IILjava/util/function/BiFunction;)I" } : Jvm.MethodName)) ∈ lw_all := lw_g (lw_at lw_m3 41 rfl) rfl
theorem q641 : (Jvm.Cond.code ({ cls := "jdk/internal/util/Preconditions", name := "checkIndex", desc := "(IILjava/util/function/BiFunction;)I" } : Jvm.MethodName) prog_42_method_11_code (3 : Nat) (Option.some Jvm.ClassFile.FieldType.int)) ∈ lw_all := lw_g (lw_at lw_m3 42 rfl) rfl
theorem q1412 : (Jvm.Cond.static ({ cls := "jdk/internal/util/Preconditions", name := "checkFromToIndex", desc := "(IIILjava/util/function/BiFunction;)I" } : Jvm.MethodName)) ∈ lw_all := lw_g (lw_at lw_m6 93 rfl) rfl
theorem q1413 : (Jvm.Cond.code ({ cls := "jdk/internal/util/Preconditions", name := "checkFromToIndex", desc := "(IIILjava/util/function/BiFunction;)I" } : Jvm.MethodName) prog_42_method_12_code (4 : Nat) (Option.some Jvm.ClassFile.FieldType.int)) ∈ lw_all := lw_g (lw_at lw_m6 94 rfl) rfl
def RJ9 : String := "java/lang/Throwable"
def TJ9 : u_T := fun k => match k with
  | 0 => ("java/lang/Throwable", "cause", "Ljava/lang/Throwable;", false)
  | 1 => ("java/lang/Throwable", "stackTrace", "[Ljava/lang/StackTraceElement;", false)
  | 2 => ("java/lang/Throwable", "suppressedExceptions", "Ljava/util/List;", false)
  | 3 => ("java/lang/Throwable", "detailMessage", "Ljava/lang/String;", false)
  | _ => ("java/lang/Throwable", "backtrace", "Ljava/lang/Object;", false)
def tyJ9 : Nat → FieldType := fun k => match k with
  | 0 => .object "java/lang/Throwable"
  | 1 => .array (.object "java/lang/StackTraceElement")
  | 2 => .object "java/util/List"
  | 3 => .object "java/lang/String"
  | _ => .object "java/lang/Object"
abbrev wsJ90 : List Cond := u_ws RJ9 TJ9 5
theorem nmJ9 : ∀ a, a < 5 → ∀ b, b < 5 → a ≠ b → (TJ9 a).2.1 ≠ (TJ9 b).2.1 := by decide +kernel
theorem tyJ9_ok : ∀ k, k < 5 → parseFieldDescriptor (TJ9 k).2.2.1 = some (tyJ9 k) := by decide +kernel
abbrev cJ9_init : ByteArray := prog_35_method_1_code
def yJ9_init : MethodName := ⟨RJ9, "<init>", "()V"⟩
abbrev cJ9_init_2 : ByteArray := prog_35_method_5_code
def yJ9_init_2 : MethodName := ⟨RJ9, "<init>", "(Ljava/lang/String;Ljava/lang/Throwable;ZZ)V"⟩
abbrev cJ9_toString : ByteArray := prog_35_method_11_code
def yJ9_toString : MethodName := ⟨RJ9, "toString", "()Ljava/lang/String;"⟩
abbrev cJ9_getLocalizedMessage : ByteArray := prog_35_method_7_code
def yJ9_getLocalizedMessage : MethodName := ⟨RJ9, "getLocalizedMessage", "()Ljava/lang/String;"⟩
abbrev cJ9_getMessage : ByteArray := prog_35_method_6_code
def yJ9_getMessage : MethodName := ⟨RJ9, "getMessage", "()Ljava/lang/String;"⟩
theorem q141 : (Jvm.Cond.initialized "java/lang/Throwable") ∈ lw_all := lw_g (lw_at lw_m1 22 rfl) rfl
theorem q787 : (Jvm.Cond.declares ({ cls := "java/lang/Throwable", name := "<init>", desc := "()V" } : Jvm.MethodName)) ∈ lw_tbl := lw_at lw_m3 188 rfl
theorem q788 : (Jvm.Cond.declares ({ cls := "java/lang/Throwable", name := "<init>", desc := "(Ljava/lang/String;)V" } : Jvm.MethodName)) ∈ lw_tbl := lw_at lw_m3 189 rfl
theorem q792 : (Jvm.Cond.lays "java/lang/Throwable" "java/lang/Throwable" "cause" "Ljava/lang/Throwable;") ∈ lw_all := lw_g (lw_at lw_m3 193 rfl) rfl
theorem q794 : (Jvm.Cond.lays "java/lang/Throwable" "java/lang/Throwable" "stackTrace" "[Ljava/lang/StackTraceElement;") ∈ lw_all := lw_g (lw_at lw_m3 195 rfl) rfl
theorem q796 : (Jvm.Cond.lays "java/lang/Throwable" "java/lang/Throwable" "suppressedExceptions" "Ljava/util/List;") ∈ lw_all := lw_g (lw_at lw_m3 197 rfl) rfl
theorem q798 : (Jvm.Cond.lays "java/lang/Throwable" "java/lang/Throwable" "detailMessage" "Ljava/lang/String;") ∈ lw_all := lw_g (lw_at lw_m3 199 rfl) rfl
theorem q800 : (Jvm.Cond.lays "java/lang/Throwable" "java/lang/Throwable" "backtrace" "Ljava/lang/Object;") ∈ lw_all := lw_g (lw_at lw_m3 201 rfl) rfl
theorem q801 : (Jvm.Cond.fieldLink "java/lang/Throwable" (198 : Nat) "java/lang/Throwable" "backtrace" "Ljava/lang/Object;") ∈ lw_all := lw_g (lw_at lw_m3 202 rfl) rfl
theorem q802 : (Jvm.Cond.superclass "java/lang/Throwable" "java/lang/Object") ∈ lw_all := lw_g (lw_at lw_m3 203 rfl) rfl
theorem q803 : (Jvm.Cond.instanceMethod ({ cls := "java/lang/Throwable", name := "<init>", desc := "()V" } : Jvm.MethodName)) ∈ lw_all := lw_g (lw_at lw_m3 204 rfl) rfl
theorem q804 : (Jvm.Cond.code ({ cls := "java/lang/Throwable", name := "<init>", desc := "()V" } : Jvm.MethodName) prog_35_method_1_code (1 : Nat) (Option.none : Option Jvm.ClassFile.FieldType)) ∈ lw_all := lw_g (lw_at lw_m3 205 rfl) rfl
theorem q805 : (Jvm.Cond.methodLink "java/lang/Throwable" (1 : Nat) ({ cls := "java/lang/Object", name := "<init>", desc := "()V" } : Jvm.MethodName)) ∈ lw_all := lw_g (lw_at lw_m3 206 rfl) rfl
theorem q806 : (Jvm.Cond.fieldLink "java/lang/Throwable" (13 : Nat) "java/lang/Throwable" "UNASSIGNED_STACK" "[Ljava/lang/StackTraceElement;") ∈ lw_all := lw_g (lw_at lw_m3 207 rfl) rfl
theorem q807 : (Jvm.Cond.laysStatic "java/lang/Throwable" "UNASSIGNED_STACK" "[Ljava/lang/StackTraceElement;") ∈ lw_tbl := lw_at lw_m3 208 rfl
theorem q808 : (Jvm.Cond.fieldLink "java/lang/Throwable" (20 : Nat) "java/lang/Throwable" "SUPPRESSED_SENTINEL" "Ljava/util/List;") ∈ lw_all := lw_g (lw_at lw_m3 209 rfl) rfl
theorem q809 : (Jvm.Cond.laysStatic "java/lang/Throwable" "SUPPRESSED_SENTINEL" "Ljava/util/List;") ∈ lw_tbl := lw_at lw_m3 210 rfl
theorem q810 : (Jvm.Cond.methodLink "java/lang/Throwable" (27 : Nat) ({ cls := "java/lang/Throwable", name := "fillInStackTrace", desc := "()Ljava/lang/Throwable;" } : Jvm.MethodName)) ∈ lw_all := lw_g (lw_at lw_m3 211 rfl) rfl
theorem q811 : (Jvm.Cond.instanceMethod ({ cls := "java/lang/Throwable", name := "fillInStackTrace", desc := "()Ljava/lang/Throwable;" } : Jvm.MethodName)) ∈ lw_all := lw_g (lw_at lw_m3 212 rfl) rfl
theorem q812 : (Jvm.Cond.sameMethod "java/lang/Throwable" "java/lang/Throwable" "fillInStackTrace" "()Ljava/lang/Throwable;") ∈ lw_all := lw_g (lw_at lw_m3 213 rfl) rfl
theorem q814 : (Jvm.Cond.codeSync ({ cls := "java/lang/Throwable", name := "fillInStackTrace", desc := "()Ljava/lang/Throwable;" } : Jvm.MethodName) prog_35_method_18_code (1 : Nat) (Option.some (Jvm.ClassFile.FieldType.object "java/lang/Throwable"))) ∈ lw_all := lw_g (lw_at lw_m3 215 rfl) rfl
theorem q815 : (Jvm.Cond.methodLink "java/lang/Throwable" (202 : Nat) ({ cls := "java/lang/Throwable", name := "fillInStackTrace", desc := "(I)Ljava/lang/Throwable;" } : Jvm.MethodName)) ∈ lw_all := lw_g (lw_at lw_m3 216 rfl) rfl
theorem q816 : (Jvm.Cond.privateMethod ({ cls := "java/lang/Throwable", name := "fillInStackTrace", desc := "(I)Ljava/lang/Throwable;" } : Jvm.MethodName)) ∈ lw_tbl := lw_at lw_m3 217 rfl
theorem q817 : (Jvm.Cond.instanceMethod ({ cls := "java/lang/Throwable", name := "fillInStackTrace", desc := "(I)Ljava/lang/Throwable;" } : Jvm.MethodName)) ∈ lw_all := lw_g (lw_at lw_m3 218 rfl) rfl
theorem q818 : (Jvm.Cond.instantiable "java/lang/Throwable" (6 : Nat)) ∈ lw_all := lw_g (lw_at lw_m3 219 rfl) rfl
theorem q819 : (Jvm.Cond.native ({ cls := "java/lang/Throwable", name := "fillInStackTrace", desc := "(I)Ljava/lang/Throwable;" } : Jvm.MethodName)) ∈ lw_all := lw_g (lw_at lw_m3 220 rfl) rfl
theorem q827 : (Jvm.Cond.instanceMethod ({ cls := "java/lang/Throwable", name := "<init>", desc := "(Ljava/lang/String;Ljava/lang/Throwable;ZZ)V" } : Jvm.MethodName)) ∈ lw_all := lw_g (lw_at lw_m3 228 rfl) rfl
theorem q828 : (Jvm.Cond.code ({ cls := "java/lang/Throwable", name := "<init>", desc := "(Ljava/lang/String;Ljava/lang/Throwable;ZZ)V" } : Jvm.MethodName) prog_35_method_5_code (5 : Nat) (Option.none : Option Jvm.ClassFile.FieldType)) ∈ lw_all := lw_g (lw_at lw_m3 229 rfl) rfl
theorem q831 : (Jvm.Cond.fieldLink "java/lang/Throwable" (198 : Nat) "java/lang/Throwable" "backtrace" "Ljava/lang/Object;") ∈ lw_all := lw_g (lw_at lw_m3 232 rfl) rfl
theorem q832 : (Jvm.Cond.fieldLink "java/lang/Throwable" (31 : Nat) "java/lang/Throwable" "detailMessage" "Ljava/lang/String;") ∈ lw_all := lw_g (lw_at lw_m3 233 rfl) rfl
theorem q833 : (Jvm.Cond.fieldLink "java/lang/Throwable" (7 : Nat) "java/lang/Throwable" "cause" "Ljava/lang/Throwable;") ∈ lw_all := lw_g (lw_at lw_m3 234 rfl) rfl
theorem q834 : (Jvm.Cond.fieldLink "java/lang/Throwable" (17 : Nat) "java/lang/Throwable" "stackTrace" "[Ljava/lang/StackTraceElement;") ∈ lw_all := lw_g (lw_at lw_m3 235 rfl) rfl
theorem q835 : (Jvm.Cond.fieldLink "java/lang/Throwable" (24 : Nat) "java/lang/Throwable" "suppressedExceptions" "Ljava/util/List;") ∈ lw_all := lw_g (lw_at lw_m3 236 rfl) rfl
theorem q838 : (Jvm.Cond.soleField "java/lang/Throwable" "backtrace") ∈ lw_all := lw_g (lw_at lw_m3 239 rfl) rfl
theorem q839 : (Jvm.Cond.soleField "java/lang/Throwable" "detailMessage") ∈ lw_all := lw_g (lw_at lw_m4 0 rfl) rfl
theorem q840 : (Jvm.Cond.soleField "java/lang/Throwable" "cause") ∈ lw_all := lw_g (lw_at lw_m4 1 rfl) rfl
theorem q841 : (Jvm.Cond.soleField "java/lang/Throwable" "stackTrace") ∈ lw_all := lw_g (lw_at lw_m4 2 rfl) rfl
theorem q843 : (Jvm.Cond.soleField "java/lang/Throwable" "depth") ∈ lw_all := lw_g (lw_at lw_m4 4 rfl) rfl
theorem q844 : (Jvm.Cond.soleField "java/lang/Throwable" "suppressedExceptions") ∈ lw_all := lw_g (lw_at lw_m4 5 rfl) rfl
theorem q1453 : (Jvm.Cond.instanceMethod ({ cls := "java/lang/Throwable", name := "toString", desc := "()Ljava/lang/String;" } : Jvm.MethodName)) ∈ lw_all := lw_g (lw_at lw_m6 134 rfl) rfl
theorem q1454 : (Jvm.Cond.code ({ cls := "java/lang/Throwable", name := "toString", desc := "()Ljava/lang/String;" } : Jvm.MethodName) prog_35_method_11_code (3 : Nat) (Option.some (Jvm.ClassFile.FieldType.object "java/lang/String"))) ∈ lw_all := lw_g (lw_at lw_m6 135 rfl) rfl
theorem q1455 : (Jvm.Cond.methodLink "java/lang/Throwable" (69 : Nat) ({ cls := "java/lang/Object", name := "getClass", desc := "()Ljava/lang/Class;" } : Jvm.MethodName)) ∈ lw_all := lw_g (lw_at lw_m6 136 rfl) rfl
theorem q1475 : (Jvm.Cond.methodLink "java/lang/Throwable" (78 : Nat) ({ cls := "java/lang/Throwable", name := "getLocalizedMessage", desc := "()Ljava/lang/String;" } : Jvm.MethodName)) ∈ lw_all := lw_g (lw_at lw_m6 156 rfl) rfl
theorem q1476 : (Jvm.Cond.instanceMethod ({ cls := "java/lang/Throwable", name := "getLocalizedMessage", desc := "()Ljava/lang/String;" } : Jvm.MethodName)) ∈ lw_all := lw_g (lw_at lw_m6 157 rfl) rfl
theorem q1477 : (Jvm.Cond.sameMethod "java/lang/Throwable" "java/lang/Throwable" "getLocalizedMessage" "()Ljava/lang/String;") ∈ lw_all := lw_g (lw_at lw_m6 158 rfl) rfl
theorem q1480 : (Jvm.Cond.code ({ cls := "java/lang/Throwable", name := "getLocalizedMessage", desc := "()Ljava/lang/String;" } : Jvm.MethodName) prog_35_method_7_code (1 : Nat) (Option.some (Jvm.ClassFile.FieldType.object "java/lang/String"))) ∈ lw_all := lw_g (lw_at lw_m6 161 rfl) rfl
theorem q1481 : (Jvm.Cond.methodLink "java/lang/Throwable" (39 : Nat) ({ cls := "java/lang/Throwable", name := "getMessage", desc := "()Ljava/lang/String;" } : Jvm.MethodName)) ∈ lw_all := lw_g (lw_at lw_m6 162 rfl) rfl
theorem q1482 : (Jvm.Cond.instanceMethod ({ cls := "java/lang/Throwable", name := "getMessage", desc := "()Ljava/lang/String;" } : Jvm.MethodName)) ∈ lw_all := lw_g (lw_at lw_m6 163 rfl) rfl
theorem q1483 : (Jvm.Cond.sameMethod "java/lang/Throwable" "java/lang/Throwable" "getMessage" "()Ljava/lang/String;") ∈ lw_all := lw_g (lw_at lw_m6 164 rfl) rfl
theorem q1486 : (Jvm.Cond.code ({ cls := "java/lang/Throwable", name := "getMessage", desc := "()Ljava/lang/String;" } : Jvm.MethodName) prog_35_method_6_code (1 : Nat) (Option.some (Jvm.ClassFile.FieldType.object "java/lang/String"))) ∈ lw_all := lw_g (lw_at lw_m6 167 rfl) rfl
theorem q1487 : (Jvm.Cond.classLink "java/lang/Throwable" (44 : Nat) "java/lang/StringBuilder") ∈ lw_all := lw_g (lw_at lw_m6 168 rfl) rfl
theorem q1488 : (Jvm.Cond.methodLink "java/lang/Throwable" (46 : Nat) ({ cls := "java/lang/StringBuilder", name := "<init>", desc := "()V" } : Jvm.MethodName)) ∈ lw_all := lw_g (lw_at lw_m6 169 rfl) rfl
theorem q1489 : (Jvm.Cond.methodLink "java/lang/Throwable" (49 : Nat) ({ cls := "java/lang/StringBuilder", name := "append", desc := "(Ljava/lang/String;)Ljava/lang/StringBuilder;" } : Jvm.MethodName)) ∈ lw_all := lw_g (lw_at lw_m6 170 rfl) rfl
theorem q1490 : (Jvm.Cond.stringRef "java/lang/Throwable" (81 : Nat) ": ") ∈ lw_tbl := lw_at lw_m6 171 rfl
theorem q1491 : (Jvm.Cond.methodLink "java/lang/Throwable" (60 : Nat) ({ cls := "java/lang/StringBuilder", name := "toString", desc := "()Ljava/lang/String;" } : Jvm.MethodName)) ∈ lw_all := lw_g (lw_at lw_m6 172 rfl) rfl
theorem q2349 : (Jvm.Cond.sameMethod "java/lang/Throwable" "java/lang/Throwable" "fillInStackTrace" "(I)Ljava/lang/Throwable;") ∈ lw_all := lw_g (lw_at lw_m10 70 rfl) rfl
theorem q2376 : (Jvm.Cond.castable "java/lang/Throwable" "java/lang/Object") ∈ lw_tbl := lw_at lw_m10 97 rfl
theorem in_J9 : ∀ w ∈ wsJ90, w ∈ lw_all := lw_in wsJ90 [792, 794, 796, 798, 800] (by decide +kernel) (by decide +kernel)
def RJ10 : String := "java/lang/Exception"
abbrev cJ10_init : ByteArray := prog_24_method_5_code
def yJ10_init : MethodName := ⟨RJ10, "<init>", "(Ljava/lang/String;Ljava/lang/Throwable;ZZ)V"⟩
abbrev cJ10_init_2 : ByteArray := prog_24_method_1_code
def yJ10_init_2 : MethodName := ⟨RJ10, "<init>", "()V"⟩
theorem q142 : (Jvm.Cond.initialized "java/lang/Exception") ∈ lw_all := lw_g (lw_at lw_m1 23 rfl) rfl
theorem q785 : (Jvm.Cond.declares ({ cls := "java/lang/Exception", name := "<init>", desc := "()V" } : Jvm.MethodName)) ∈ lw_tbl := lw_at lw_m3 186 rfl
theorem q786 : (Jvm.Cond.declares ({ cls := "java/lang/Exception", name := "<init>", desc := "(Ljava/lang/String;)V" } : Jvm.MethodName)) ∈ lw_tbl := lw_at lw_m3 187 rfl
theorem q824 : (Jvm.Cond.instanceMethod ({ cls := "java/lang/Exception", name := "<init>", desc := "(Ljava/lang/String;Ljava/lang/Throwable;ZZ)V" } : Jvm.MethodName)) ∈ lw_all := lw_g (lw_at lw_m3 225 rfl) rfl
theorem q825 : (Jvm.Cond.code ({ cls := "java/lang/Exception", name := "<init>", desc := "(Ljava/lang/String;Ljava/lang/Throwable;ZZ)V" } : Jvm.MethodName) prog_24_method_5_code (5 : Nat) (Option.none : Option Jvm.ClassFile.FieldType)) ∈ lw_all := lw_g (lw_at lw_m3 226 rfl) rfl
theorem q826 : (Jvm.Cond.methodLink "java/lang/Exception" (16 : Nat) ({ cls := "java/lang/Throwable", name := "<init>", desc := "(Ljava/lang/String;Ljava/lang/Throwable;ZZ)V" } : Jvm.MethodName)) ∈ lw_all := lw_g (lw_at lw_m3 227 rfl) rfl
theorem q1638 : (Jvm.Cond.instanceMethod ({ cls := "java/lang/Exception", name := "<init>", desc := "()V" } : Jvm.MethodName)) ∈ lw_all := lw_g (lw_at lw_m7 79 rfl) rfl
theorem q1639 : (Jvm.Cond.code ({ cls := "java/lang/Exception", name := "<init>", desc := "()V" } : Jvm.MethodName) prog_24_method_1_code (1 : Nat) (Option.none : Option Jvm.ClassFile.FieldType)) ∈ lw_all := lw_g (lw_at lw_m7 80 rfl) rfl
theorem q1640 : (Jvm.Cond.methodLink "java/lang/Exception" (1 : Nat) ({ cls := "java/lang/Throwable", name := "<init>", desc := "()V" } : Jvm.MethodName)) ∈ lw_all := lw_g (lw_at lw_m7 81 rfl) rfl
def RX12 : String := "TracePeaks$Wrong"
def TX12 : u_T := fun k => match k with
  | 0 => ("java/lang/Throwable", "cause", "Ljava/lang/Throwable;", false)
  | 1 => ("java/lang/Throwable", "stackTrace", "[Ljava/lang/StackTraceElement;", false)
  | 2 => ("java/lang/Throwable", "suppressedExceptions", "Ljava/util/List;", false)
  | 3 => ("java/lang/Throwable", "detailMessage", "Ljava/lang/String;", false)
  | 4 => ("java/lang/Throwable", "backtrace", "Ljava/lang/Object;", false)
  | 5 => ("java/lang/Throwable", "depth", "I", false)
  | _ => ("TracePeaks$Wrong", "at", "I", true)
def tyX12 : Nat → FieldType := fun k => match k with
  | 0 => .object "java/lang/Throwable"
  | 1 => .array (.object "java/lang/StackTraceElement")
  | 2 => .object "java/util/List"
  | 3 => .object "java/lang/String"
  | 4 => .object "java/lang/Object"
  | 5 => .int
  | _ => .int
abbrev wsX120 : List Cond := u_ws RX12 TX12 7
theorem nmX12 : ∀ a, a < 7 → ∀ b, b < 7 → a ≠ b → (TX12 a).2.1 ≠ (TX12 b).2.1 := by decide +kernel
theorem tyX12_ok : ∀ k, k < 7 → parseFieldDescriptor (TX12 k).2.2.1 = some (tyX12 k) := by decide +kernel
abbrev cX12_init : ByteArray := prog_15_method_1_code
def yX12_init : MethodName := ⟨RX12, "<init>", "(I)V"⟩
theorem q143 : (Jvm.Cond.initialized "TracePeaks$Wrong") ∈ lw_all := lw_g (lw_at lw_m1 24 rfl) rfl
theorem q783 : (Jvm.Cond.instantiable "TracePeaks$Wrong" (7 : Nat)) ∈ lw_all := lw_g (lw_at lw_m3 184 rfl) rfl
theorem q784 : (Jvm.Cond.castable "TracePeaks$Wrong" "TracePeaks$Wrong") ∈ lw_tbl := lw_at lw_m3 185 rfl
theorem q789 : (Jvm.Cond.selects "TracePeaks$Wrong" ({ cls := "java/lang/Throwable", name := "fillInStackTrace", desc := "(I)Ljava/lang/Throwable;" } : Jvm.MethodName) ({ cls := "java/lang/Throwable", name := "fillInStackTrace", desc := "(I)Ljava/lang/Throwable;" } : Jvm.MethodName)) ∈ lw_all := lw_g (lw_at lw_m3 190 rfl) rfl
theorem q790 : (Jvm.Cond.selects "TracePeaks$Wrong" ({ cls := "java/lang/Throwable", name := "fillInStackTrace", desc := "()Ljava/lang/Throwable;" } : Jvm.MethodName) ({ cls := "java/lang/Throwable", name := "fillInStackTrace", desc := "()Ljava/lang/Throwable;" } : Jvm.MethodName)) ∈ lw_all := lw_g (lw_at lw_m3 191 rfl) rfl
theorem q791 : (Jvm.Cond.lays "TracePeaks$Wrong" "java/lang/Throwable" "cause" "Ljava/lang/Throwable;") ∈ lw_all := lw_g (lw_at lw_m3 192 rfl) rfl
theorem q793 : (Jvm.Cond.lays "TracePeaks$Wrong" "java/lang/Throwable" "stackTrace" "[Ljava/lang/StackTraceElement;") ∈ lw_all := lw_g (lw_at lw_m3 194 rfl) rfl
theorem q795 : (Jvm.Cond.lays "TracePeaks$Wrong" "java/lang/Throwable" "suppressedExceptions" "Ljava/util/List;") ∈ lw_all := lw_g (lw_at lw_m3 196 rfl) rfl
theorem q797 : (Jvm.Cond.lays "TracePeaks$Wrong" "java/lang/Throwable" "detailMessage" "Ljava/lang/String;") ∈ lw_all := lw_g (lw_at lw_m3 198 rfl) rfl
theorem q799 : (Jvm.Cond.lays "TracePeaks$Wrong" "java/lang/Throwable" "backtrace" "Ljava/lang/Object;") ∈ lw_all := lw_g (lw_at lw_m3 200 rfl) rfl
theorem q821 : (Jvm.Cond.instanceMethod ({ cls := "TracePeaks$Wrong", name := "<init>", desc := "(I)V" } : Jvm.MethodName)) ∈ lw_all := lw_g (lw_at lw_m3 222 rfl) rfl
theorem q822 : (Jvm.Cond.code ({ cls := "TracePeaks$Wrong", name := "<init>", desc := "(I)V" } : Jvm.MethodName) prog_15_method_1_code (2 : Nat) (Option.none : Option Jvm.ClassFile.FieldType)) ∈ lw_all := lw_g (lw_at lw_m3 223 rfl) rfl
theorem q823 : (Jvm.Cond.methodLink "TracePeaks$Wrong" (1 : Nat) ({ cls := "java/lang/Exception", name := "<init>", desc := "(Ljava/lang/String;Ljava/lang/Throwable;ZZ)V" } : Jvm.MethodName)) ∈ lw_all := lw_g (lw_at lw_m3 224 rfl) rfl
theorem q829 : (Jvm.Cond.fieldLink "TracePeaks$Wrong" (7 : Nat) "TracePeaks$Wrong" "at" "I") ∈ lw_all := lw_g (lw_at lw_m3 230 rfl) rfl
theorem q836 : (Jvm.Cond.laysFinal "TracePeaks$Wrong" "TracePeaks$Wrong" "at" "I") ∈ lw_all := lw_g (lw_at lw_m3 237 rfl) rfl
theorem q837 : (Jvm.Cond.soleField "TracePeaks$Wrong" "at") ∈ lw_all := lw_g (lw_at lw_m3 238 rfl) rfl
theorem q842 : (Jvm.Cond.lays "TracePeaks$Wrong" "java/lang/Throwable" "depth" "I") ∈ lw_all := lw_g (lw_at lw_m4 3 rfl) rfl
theorem q845 : (Jvm.Cond.superclass "TracePeaks$Wrong" "java/lang/Exception") ∈ lw_all := lw_g (lw_at lw_m4 6 rfl) rfl
theorem q1452 : (Jvm.Cond.selects "TracePeaks$Wrong" ({ cls := "java/lang/Object", name := "toString", desc := "()Ljava/lang/String;" } : Jvm.MethodName) ({ cls := "java/lang/Throwable", name := "toString", desc := "()Ljava/lang/String;" } : Jvm.MethodName)) ∈ lw_all := lw_g (lw_at lw_m6 133 rfl) rfl
theorem q1468 : (Jvm.Cond.selects "TracePeaks$Wrong" ({ cls := "java/lang/Object", name := "getClass", desc := "()Ljava/lang/Class;" } : Jvm.MethodName) ({ cls := "java/lang/Object", name := "getClass", desc := "()Ljava/lang/Class;" } : Jvm.MethodName)) ∈ lw_all := lw_g (lw_at lw_m6 149 rfl) rfl
theorem q1478 : (Jvm.Cond.selects "TracePeaks$Wrong" ({ cls := "java/lang/Throwable", name := "getLocalizedMessage", desc := "()Ljava/lang/String;" } : Jvm.MethodName) ({ cls := "java/lang/Throwable", name := "getLocalizedMessage", desc := "()Ljava/lang/String;" } : Jvm.MethodName)) ∈ lw_all := lw_g (lw_at lw_m6 159 rfl) rfl
theorem q1484 : (Jvm.Cond.selects "TracePeaks$Wrong" ({ cls := "java/lang/Throwable", name := "getMessage", desc := "()Ljava/lang/String;" } : Jvm.MethodName) ({ cls := "java/lang/Throwable", name := "getMessage", desc := "()Ljava/lang/String;" } : Jvm.MethodName)) ∈ lw_all := lw_g (lw_at lw_m6 165 rfl) rfl
theorem q2373 : (Jvm.Cond.castable "TracePeaks$Wrong" "java/lang/Object") ∈ lw_tbl := lw_at lw_m10 94 rfl
theorem in_X12 : ∀ w ∈ wsX120, w ∈ lw_all := lw_in wsX120 [791, 793, 795, 797, 799, 842, 836] (by decide +kernel) (by decide +kernel)
def RX13 : String := "TracePeaks$Script"
def TX13 : u_T := fun k => match k with
  | 0 => ("TracePeaks$Script", "what", "[I", true)
  | 1 => ("TracePeaks$Script", "numbers", "[I", true)
  | _ => ("TracePeaks$Script", "many", "I", false)
def tyX13 : Nat → FieldType := fun k => match k with
  | 0 => .array .int
  | 1 => .array .int
  | _ => .int
abbrev wsX130 : List Cond := u_ws RX13 TX13 3
theorem nmX13 : ∀ a, a < 3 → ∀ b, b < 3 → a ≠ b → (TX13 a).2.1 ≠ (TX13 b).2.1 := by decide +kernel
theorem tyX13_ok : ∀ k, k < 3 → parseFieldDescriptor (TX13 k).2.2.1 = some (tyX13 k) := by decide +kernel
abbrev cX13_init : ByteArray := prog_12_method_1_code
def yX13_init : MethodName := ⟨RX13, "<init>", "()V"⟩
abbrev cX13_number : ByteArray := prog_12_method_2_code
def yX13_number : MethodName := ⟨RX13, "number", "(II)I"⟩
theorem q144 : (Jvm.Cond.initialized "TracePeaks$Script") ∈ lw_all := lw_g (lw_at lw_m1 25 rfl) rfl
theorem q901 : (Jvm.Cond.instantiable "TracePeaks$Script" (3 : Nat)) ∈ lw_all := lw_g (lw_at lw_m4 62 rfl) rfl
theorem q903 : (Jvm.Cond.instanceMethod ({ cls := "TracePeaks$Script", name := "<init>", desc := "()V" } : Jvm.MethodName)) ∈ lw_all := lw_g (lw_at lw_m4 64 rfl) rfl
theorem q904 : (Jvm.Cond.code ({ cls := "TracePeaks$Script", name := "<init>", desc := "()V" } : Jvm.MethodName) prog_12_method_1_code (1 : Nat) (Option.none : Option Jvm.ClassFile.FieldType)) ∈ lw_all := lw_g (lw_at lw_m4 65 rfl) rfl
theorem q905 : (Jvm.Cond.methodLink "TracePeaks$Script" (3 : Nat) ({ cls := "java/lang/Object", name := "<init>", desc := "()V" } : Jvm.MethodName)) ∈ lw_all := lw_g (lw_at lw_m4 66 rfl) rfl
theorem q906 : (Jvm.Cond.fieldLink "TracePeaks$Script" (9 : Nat) "TracePeaks$Script" "what" "[I") ∈ lw_all := lw_g (lw_at lw_m4 67 rfl) rfl
theorem q909 : (Jvm.Cond.fieldLink "TracePeaks$Script" (15 : Nat) "TracePeaks$Script" "numbers" "[I") ∈ lw_all := lw_g (lw_at lw_m4 70 rfl) rfl
theorem q913 : (Jvm.Cond.laysFinal "TracePeaks$Script" "TracePeaks$Script" "what" "[I") ∈ lw_all := lw_g (lw_at lw_m4 74 rfl) rfl
theorem q914 : (Jvm.Cond.soleField "TracePeaks$Script" "what") ∈ lw_all := lw_g (lw_at lw_m4 75 rfl) rfl
theorem q915 : (Jvm.Cond.laysFinal "TracePeaks$Script" "TracePeaks$Script" "numbers" "[I") ∈ lw_all := lw_g (lw_at lw_m4 76 rfl) rfl
theorem q916 : (Jvm.Cond.soleField "TracePeaks$Script" "numbers") ∈ lw_all := lw_g (lw_at lw_m4 77 rfl) rfl
theorem q917 : (Jvm.Cond.lays "TracePeaks$Script" "TracePeaks$Script" "many" "I") ∈ lw_all := lw_g (lw_at lw_m4 78 rfl) rfl
theorem q918 : (Jvm.Cond.soleField "TracePeaks$Script" "many") ∈ lw_all := lw_g (lw_at lw_m4 79 rfl) rfl
theorem q919 : (Jvm.Cond.superclass "TracePeaks$Script" "java/lang/Object") ∈ lw_all := lw_g (lw_at lw_m4 80 rfl) rfl
theorem q1449 : (Jvm.Cond.selects "TracePeaks$Script" ({ cls := "java/lang/Object", name := "toString", desc := "()Ljava/lang/String;" } : Jvm.MethodName) ({ cls := "java/lang/Object", name := "toString", desc := "()Ljava/lang/String;" } : Jvm.MethodName)) ∈ lw_all := lw_g (lw_at lw_m6 130 rfl) rfl
theorem q1465 : (Jvm.Cond.selects "TracePeaks$Script" ({ cls := "java/lang/Object", name := "getClass", desc := "()Ljava/lang/Class;" } : Jvm.MethodName) ({ cls := "java/lang/Object", name := "getClass", desc := "()Ljava/lang/Class;" } : Jvm.MethodName)) ∈ lw_all := lw_g (lw_at lw_m6 146 rfl) rfl
theorem q1563 : (Jvm.Cond.instanceMethod ({ cls := "TracePeaks$Script", name := "number", desc := "(II)I" } : Jvm.MethodName)) ∈ lw_all := lw_g (lw_at lw_m7 4 rfl) rfl
theorem q1564 : (Jvm.Cond.selects "TracePeaks$Script" ({ cls := "TracePeaks$Script", name := "number", desc := "(II)I" } : Jvm.MethodName) ({ cls := "TracePeaks$Script", name := "number", desc := "(II)I" } : Jvm.MethodName)) ∈ lw_all := lw_g (lw_at lw_m7 5 rfl) rfl
theorem q1565 : (Jvm.Cond.code ({ cls := "TracePeaks$Script", name := "number", desc := "(II)I" } : Jvm.MethodName) prog_12_method_2_code (3 : Nat) (Option.some Jvm.ClassFile.FieldType.int)) ∈ lw_all := lw_g (lw_at lw_m7 6 rfl) rfl
theorem q2374 : (Jvm.Cond.castable "TracePeaks$Script" "java/lang/Object") ∈ lw_tbl := lw_at lw_m10 95 rfl
theorem in_X13 : ∀ w ∈ wsX130, w ∈ lw_all := lw_in wsX130 [913, 915, 917] (by decide +kernel) (by decide +kernel)
def RJ11 : String := "java/lang/RuntimeException"
abbrev cJ11_init : ByteArray := prog_28_method_1_code
def yJ11_init : MethodName := ⟨RJ11, "<init>", "()V"⟩
theorem q145 : (Jvm.Cond.initialized "java/lang/RuntimeException") ∈ lw_all := lw_g (lw_at lw_m1 26 rfl) rfl
theorem q1623 : (Jvm.Cond.declares ({ cls := "java/lang/RuntimeException", name := "<init>", desc := "()V" } : Jvm.MethodName)) ∈ lw_tbl := lw_at lw_m7 64 rfl
theorem q1624 : (Jvm.Cond.declares ({ cls := "java/lang/RuntimeException", name := "<init>", desc := "(Ljava/lang/String;)V" } : Jvm.MethodName)) ∈ lw_tbl := lw_at lw_m7 65 rfl
theorem q1635 : (Jvm.Cond.instanceMethod ({ cls := "java/lang/RuntimeException", name := "<init>", desc := "()V" } : Jvm.MethodName)) ∈ lw_all := lw_g (lw_at lw_m7 76 rfl) rfl
theorem q1636 : (Jvm.Cond.code ({ cls := "java/lang/RuntimeException", name := "<init>", desc := "()V" } : Jvm.MethodName) prog_28_method_1_code (1 : Nat) (Option.none : Option Jvm.ClassFile.FieldType)) ∈ lw_all := lw_g (lw_at lw_m7 77 rfl) rfl
theorem q1637 : (Jvm.Cond.methodLink "java/lang/RuntimeException" (1 : Nat) ({ cls := "java/lang/Exception", name := "<init>", desc := "()V" } : Jvm.MethodName)) ∈ lw_all := lw_g (lw_at lw_m7 78 rfl) rfl
def RJ12 : String := "java/util/NoSuchElementException"
def TJ12 : u_T := fun k => match k with
  | 0 => ("java/lang/Throwable", "cause", "Ljava/lang/Throwable;", false)
  | 1 => ("java/lang/Throwable", "stackTrace", "[Ljava/lang/StackTraceElement;", false)
  | 2 => ("java/lang/Throwable", "suppressedExceptions", "Ljava/util/List;", false)
  | 3 => ("java/lang/Throwable", "detailMessage", "Ljava/lang/String;", false)
  | 4 => ("java/lang/Throwable", "backtrace", "Ljava/lang/Object;", false)
  | _ => ("java/lang/Throwable", "depth", "I", false)
def tyJ12 : Nat → FieldType := fun k => match k with
  | 0 => .object "java/lang/Throwable"
  | 1 => .array (.object "java/lang/StackTraceElement")
  | 2 => .object "java/util/List"
  | 3 => .object "java/lang/String"
  | 4 => .object "java/lang/Object"
  | _ => .int
abbrev wsJ120 : List Cond := u_ws RJ12 TJ12 6
theorem nmJ12 : ∀ a, a < 6 → ∀ b, b < 6 → a ≠ b → (TJ12 a).2.1 ≠ (TJ12 b).2.1 := by decide +kernel
theorem tyJ12_ok : ∀ k, k < 6 → parseFieldDescriptor (TJ12 k).2.2.1 = some (tyJ12 k) := by decide +kernel
abbrev cJ12_init : ByteArray := prog_39_method_1_code
def yJ12_init : MethodName := ⟨RJ12, "<init>", "()V"⟩
theorem q146 : (Jvm.Cond.initialized "java/util/NoSuchElementException") ∈ lw_all := lw_g (lw_at lw_m1 27 rfl) rfl
theorem q813 : (Jvm.Cond.selects "java/util/NoSuchElementException" ({ cls := "java/lang/Throwable", name := "fillInStackTrace", desc := "()Ljava/lang/Throwable;" } : Jvm.MethodName) ({ cls := "java/lang/Throwable", name := "fillInStackTrace", desc := "()Ljava/lang/Throwable;" } : Jvm.MethodName)) ∈ lw_all := lw_g (lw_at lw_m3 214 rfl) rfl
theorem q1473 : (Jvm.Cond.selects "java/util/NoSuchElementException" ({ cls := "java/lang/Object", name := "getClass", desc := "()Ljava/lang/Class;" } : Jvm.MethodName) ({ cls := "java/lang/Object", name := "getClass", desc := "()Ljava/lang/Class;" } : Jvm.MethodName)) ∈ lw_all := lw_g (lw_at lw_m6 154 rfl) rfl
theorem q1479 : (Jvm.Cond.selects "java/util/NoSuchElementException" ({ cls := "java/lang/Throwable", name := "getLocalizedMessage", desc := "()Ljava/lang/String;" } : Jvm.MethodName) ({ cls := "java/lang/Throwable", name := "getLocalizedMessage", desc := "()Ljava/lang/String;" } : Jvm.MethodName)) ∈ lw_all := lw_g (lw_at lw_m6 160 rfl) rfl
theorem q1485 : (Jvm.Cond.selects "java/util/NoSuchElementException" ({ cls := "java/lang/Throwable", name := "getMessage", desc := "()Ljava/lang/String;" } : Jvm.MethodName) ({ cls := "java/lang/Throwable", name := "getMessage", desc := "()Ljava/lang/String;" } : Jvm.MethodName)) ∈ lw_all := lw_g (lw_at lw_m6 166 rfl) rfl
theorem q1621 : (Jvm.Cond.instantiable "java/util/NoSuchElementException" (6 : Nat)) ∈ lw_all := lw_g (lw_at lw_m7 62 rfl) rfl
theorem q1622 : (Jvm.Cond.castable "java/util/NoSuchElementException" "java/util/NoSuchElementException") ∈ lw_tbl := lw_at lw_m7 63 rfl
theorem q1625 : (Jvm.Cond.selects "java/util/NoSuchElementException" ({ cls := "java/lang/Throwable", name := "fillInStackTrace", desc := "(I)Ljava/lang/Throwable;" } : Jvm.MethodName) ({ cls := "java/lang/Throwable", name := "fillInStackTrace", desc := "(I)Ljava/lang/Throwable;" } : Jvm.MethodName)) ∈ lw_all := lw_g (lw_at lw_m7 66 rfl) rfl
theorem q1626 : (Jvm.Cond.lays "java/util/NoSuchElementException" "java/lang/Throwable" "cause" "Ljava/lang/Throwable;") ∈ lw_all := lw_g (lw_at lw_m7 67 rfl) rfl
theorem q1627 : (Jvm.Cond.lays "java/util/NoSuchElementException" "java/lang/Throwable" "stackTrace" "[Ljava/lang/StackTraceElement;") ∈ lw_all := lw_g (lw_at lw_m7 68 rfl) rfl
theorem q1628 : (Jvm.Cond.lays "java/util/NoSuchElementException" "java/lang/Throwable" "suppressedExceptions" "Ljava/util/List;") ∈ lw_all := lw_g (lw_at lw_m7 69 rfl) rfl
theorem q1629 : (Jvm.Cond.lays "java/util/NoSuchElementException" "java/lang/Throwable" "detailMessage" "Ljava/lang/String;") ∈ lw_all := lw_g (lw_at lw_m7 70 rfl) rfl
theorem q1630 : (Jvm.Cond.lays "java/util/NoSuchElementException" "java/lang/Throwable" "backtrace" "Ljava/lang/Object;") ∈ lw_all := lw_g (lw_at lw_m7 71 rfl) rfl
theorem q1632 : (Jvm.Cond.instanceMethod ({ cls := "java/util/NoSuchElementException", name := "<init>", desc := "()V" } : Jvm.MethodName)) ∈ lw_all := lw_g (lw_at lw_m7 73 rfl) rfl
theorem q1633 : (Jvm.Cond.code ({ cls := "java/util/NoSuchElementException", name := "<init>", desc := "()V" } : Jvm.MethodName) prog_39_method_1_code (1 : Nat) (Option.none : Option Jvm.ClassFile.FieldType)) ∈ lw_all := lw_g (lw_at lw_m7 74 rfl) rfl
theorem q1634 : (Jvm.Cond.methodLink "java/util/NoSuchElementException" (1 : Nat) ({ cls := "java/lang/RuntimeException", name := "<init>", desc := "()V" } : Jvm.MethodName)) ∈ lw_all := lw_g (lw_at lw_m7 75 rfl) rfl
theorem q1641 : (Jvm.Cond.lays "java/util/NoSuchElementException" "java/lang/Throwable" "depth" "I") ∈ lw_all := lw_g (lw_at lw_m7 82 rfl) rfl
theorem q1642 : (Jvm.Cond.superclass "java/util/NoSuchElementException" "java/lang/RuntimeException") ∈ lw_all := lw_g (lw_at lw_m7 83 rfl) rfl
theorem q2375 : (Jvm.Cond.castable "java/util/NoSuchElementException" "java/lang/Object") ∈ lw_tbl := lw_at lw_m10 96 rfl
theorem in_J12 : ∀ w ∈ wsJ120, w ∈ lw_all := lw_in wsJ120 [1626, 1627, 1628, 1629, 1630, 1641] (by decide +kernel) (by decide +kernel)
def RJ13 : String := "java/lang/Integer"
abbrev cJ13_stringSize : ByteArray := prog_25_method_13_code
def yJ13_stringSize : MethodName := ⟨RJ13, "stringSize", "(I)I"⟩
abbrev cJ13_getChars : ByteArray := prog_25_method_12_code
def yJ13_getChars : MethodName := ⟨RJ13, "getChars", "(II[B)I"⟩
theorem q148 : (Jvm.Cond.initialized "java/lang/Integer") ∈ lw_all := lw_g (lw_at lw_m1 29 rfl) rfl
theorem q1506 : (Jvm.Cond.static ({ cls := "java/lang/Integer", name := "stringSize", desc := "(I)I" } : Jvm.MethodName)) ∈ lw_all := lw_g (lw_at lw_m6 187 rfl) rfl
theorem q1507 : (Jvm.Cond.code ({ cls := "java/lang/Integer", name := "stringSize", desc := "(I)I" } : Jvm.MethodName) prog_25_method_13_code (4 : Nat) (Option.some Jvm.ClassFile.FieldType.int)) ∈ lw_all := lw_g (lw_at lw_m6 188 rfl) rfl
theorem q1509 : (Jvm.Cond.static ({ cls := "java/lang/Integer", name := "getChars", desc := "(II[B)I" } : Jvm.MethodName)) ∈ lw_all := lw_g (lw_at lw_m6 190 rfl) rfl
theorem q1510 : (Jvm.Cond.code ({ cls := "java/lang/Integer", name := "getChars", desc := "(II[B)I" } : Jvm.MethodName) prog_25_method_12_code (7 : Nat) (Option.some Jvm.ClassFile.FieldType.int)) ∈ lw_all := lw_g (lw_at lw_m6 191 rfl) rfl
theorem q1511 : (Jvm.Cond.fieldLink "java/lang/Integer" (83 : Nat) "java/lang/Integer" "DigitOnes" "[B") ∈ lw_all := lw_g (lw_at lw_m6 192 rfl) rfl
theorem q1512 : (Jvm.Cond.laysStatic "java/lang/Integer" "DigitOnes" "[B") ∈ lw_tbl := lw_at lw_m6 193 rfl
theorem q1513 : (Jvm.Cond.fieldLink "java/lang/Integer" (87 : Nat) "java/lang/Integer" "DigitTens" "[B") ∈ lw_all := lw_g (lw_at lw_m6 194 rfl) rfl
theorem q1514 : (Jvm.Cond.laysStatic "java/lang/Integer" "DigitTens" "[B") ∈ lw_tbl := lw_at lw_m6 195 rfl
def RJ14 : String := "java/lang/Object"
abbrev cJ14_init : ByteArray := object_method_1_code
def yJ14_init : MethodName := ⟨RJ14, "<init>", "()V"⟩
theorem q170 : (Jvm.Cond.instanceMethod ({ cls := "java/lang/Object", name := "<init>", desc := "()V" } : Jvm.MethodName)) ∈ lw_all := lw_g (lw_at lw_m1 51 rfl) rfl
theorem q171 : (Jvm.Cond.code ({ cls := "java/lang/Object", name := "<init>", desc := "()V" } : Jvm.MethodName) object_method_1_code (1 : Nat) (Option.none : Option Jvm.ClassFile.FieldType)) ∈ lw_all := lw_g (lw_at lw_m1 52 rfl) rfl
theorem q580 : (Jvm.Cond.native ({ cls := "java/lang/Object", name := "clone", desc := "()Ljava/lang/Object;" } : Jvm.MethodName)) ∈ lw_all := lw_g (lw_at lw_m2 221 rfl) rfl
theorem q581 : (Jvm.Cond.instanceMethod ({ cls := "java/lang/Object", name := "clone", desc := "()Ljava/lang/Object;" } : Jvm.MethodName)) ∈ lw_all := lw_g (lw_at lw_m2 222 rfl) rfl
theorem q1438 : (Jvm.Cond.declares ({ cls := "java/lang/Object", name := "toString", desc := "()Ljava/lang/String;" } : Jvm.MethodName)) ∈ lw_tbl := lw_at lw_m6 119 rfl
theorem q1440 : (Jvm.Cond.instanceMethod ({ cls := "java/lang/Object", name := "toString", desc := "()Ljava/lang/String;" } : Jvm.MethodName)) ∈ lw_all := lw_g (lw_at lw_m6 121 rfl) rfl
theorem q1441 : (Jvm.Cond.sameMethod "java/lang/Object" "java/lang/Object" "toString" "()Ljava/lang/String;") ∈ lw_all := lw_g (lw_at lw_m6 122 rfl) rfl
theorem q1456 : (Jvm.Cond.instanceMethod ({ cls := "java/lang/Object", name := "getClass", desc := "()Ljava/lang/Class;" } : Jvm.MethodName)) ∈ lw_all := lw_g (lw_at lw_m6 137 rfl) rfl
theorem q1457 : (Jvm.Cond.sameMethod "java/lang/Object" "java/lang/Object" "getClass" "()Ljava/lang/Class;") ∈ lw_all := lw_g (lw_at lw_m6 138 rfl) rfl
theorem q1474 : (Jvm.Cond.native ({ cls := "java/lang/Object", name := "getClass", desc := "()Ljava/lang/Class;" } : Jvm.MethodName)) ∈ lw_all := lw_g (lw_at lw_m6 155 rfl) rfl
theorem q2359 : (Jvm.Cond.initialized "java/lang/Object") ∈ lw_all := lw_g (lw_at lw_m10 80 rfl) rfl
theorem q2379 : (Jvm.Cond.instantiable "java/lang/Object" (0 : Nat)) ∈ lw_all := lw_g (lw_at lw_m10 100 rfl) rfl
def RJ15 : String := "java/lang/System$2"
abbrev cJ15_getUTF16Char : ByteArray := prog_34_method_45_code
def yJ15_getUTF16Char : MethodName := ⟨RJ15, "getUTF16Char", "([BI)C"⟩
theorem q744 : (Jvm.Cond.castable "java/lang/System$2" "jdk/internal/access/JavaLangAccess") ∈ lw_tbl := lw_at lw_m3 145 rfl
theorem q745 : (Jvm.Cond.selects "java/lang/System$2" ({ cls := "jdk/internal/access/JavaLangAccess", name := "getUTF16Char", desc := "([BI)C" } : Jvm.MethodName) ({ cls := "java/lang/System$2", name := "getUTF16Char", desc := "([BI)C" } : Jvm.MethodName)) ∈ lw_all := lw_g (lw_at lw_m3 146 rfl) rfl
theorem q746 : (Jvm.Cond.unhidden "java/lang/System$2" "getUTF16Char" "([BI)C") ∈ lw_tbl := lw_at lw_m3 147 rfl
theorem q747 : (Jvm.Cond.instanceMethod ({ cls := "java/lang/System$2", name := "getUTF16Char", desc := "([BI)C" } : Jvm.MethodName)) ∈ lw_all := lw_g (lw_at lw_m3 148 rfl) rfl
theorem q748 : (Jvm.Cond.publicMethod ({ cls := "java/lang/System$2", name := "getUTF16Char", desc := "([BI)C" } : Jvm.MethodName)) ∈ lw_tbl := lw_at lw_m3 149 rfl
theorem q749 : (Jvm.Cond.code ({ cls := "java/lang/System$2", name := "getUTF16Char", desc := "([BI)C" } : Jvm.MethodName) prog_34_method_45_code (3 : Nat) (Option.some Jvm.ClassFile.FieldType.char)) ∈ lw_all := lw_g (lw_at lw_m3 150 rfl) rfl
theorem q750 : (Jvm.Cond.methodLink "java/lang/System$2" (185 : Nat) ({ cls := "java/lang/StringUTF16", name := "getChar", desc := "([BI)C" } : Jvm.MethodName)) ∈ lw_all := lw_g (lw_at lw_m3 151 rfl) rfl
theorem q1472 : (Jvm.Cond.selects "java/lang/System$2" ({ cls := "java/lang/Object", name := "getClass", desc := "()Ljava/lang/Class;" } : Jvm.MethodName) ({ cls := "java/lang/Object", name := "getClass", desc := "()Ljava/lang/Class;" } : Jvm.MethodName)) ∈ lw_all := lw_g (lw_at lw_m6 153 rfl) rfl
theorem q1495 : (Jvm.Cond.selects "java/lang/System$2" ({ cls := "java/lang/Object", name := "toString", desc := "()Ljava/lang/String;" } : Jvm.MethodName) ({ cls := "java/lang/Object", name := "toString", desc := "()Ljava/lang/String;" } : Jvm.MethodName)) ∈ lw_all := lw_g (lw_at lw_m6 176 rfl) rfl
theorem q2372 : (Jvm.Cond.castable "java/lang/System$2" "java/lang/Object") ∈ lw_tbl := lw_at lw_m10 93 rfl
abbrev cL_law : ByteArray := code
theorem q173 : (Jvm.Cond.arrayOver (Jvm.ClassFile.FieldType.object "TracePeaks$Beside")) ∈ lw_tbl := lw_at lw_m1 54 rfl
theorem q198 : (Jvm.Cond.arrayOver (Jvm.ClassFile.FieldType.object "TracePeaks$Each")) ∈ lw_tbl := lw_at lw_m1 79 rfl
theorem q222 : (Jvm.Cond.arrayOver (Jvm.ClassFile.FieldType.object "TracePeaks$Script")) ∈ lw_tbl := lw_at lw_m1 103 rfl
theorem q230 : (Jvm.Cond.arrayOver (Jvm.ClassFile.FieldType.object "TracePeaks$Peak")) ∈ lw_tbl := lw_at lw_m1 111 rfl
theorem q272 : (Jvm.Cond.arrayClass Jvm.ClassFile.FieldType.byte) ∈ lw_all := lw_g (lw_at lw_m1 153 rfl) rfl
theorem q273 : (Jvm.Cond.arrayClass Jvm.ClassFile.FieldType.int) ∈ lw_all := lw_g (lw_at lw_m1 154 rfl) rfl
theorem q362 : (Jvm.Cond.arrayOver (Jvm.ClassFile.FieldType.object "TracePeaks$State")) ∈ lw_tbl := lw_at lw_m2 3 rfl
theorem q470 : (Jvm.Cond.arrayOver (Jvm.ClassFile.FieldType.object "java/lang/String")) ∈ lw_tbl := lw_at lw_m2 111 rfl
theorem q1810 : (Jvm.Cond.arrayClass Jvm.ClassFile.FieldType.long) ∈ lw_all := lw_g (lw_at lw_m8 11 rfl) rfl
theorem q2377 : (Jvm.Cond.arrayClass Jvm.ClassFile.FieldType.char) ∈ lw_all := lw_g (lw_at lw_m10 98 rfl) rfl
theorem q2378 : (Jvm.Cond.arrayClass Jvm.ClassFile.FieldType.short) ∈ lw_all := lw_g (lw_at lw_m10 99 rfl) rfl
theorem q138 : (Jvm.Cond.initialized "java/lang/System") ∈ lw_all := lw_g (lw_at lw_m1 19 rfl) rfl
theorem q587 : (Jvm.Cond.static ({ cls := "java/lang/System", name := "arraycopy", desc := "(Ljava/lang/Object;ILjava/lang/Object;II)V" } : Jvm.MethodName)) ∈ lw_all := lw_g (lw_at lw_m2 228 rfl) rfl
theorem q588 : (Jvm.Cond.native ({ cls := "java/lang/System", name := "arraycopy", desc := "(Ljava/lang/Object;ILjava/lang/Object;II)V" } : Jvm.MethodName)) ∈ lw_all := lw_g (lw_at lw_m2 229 rfl) rfl
theorem q147 : (Jvm.Cond.initialized "java/lang/Number") ∈ lw_all := lw_g (lw_at lw_m1 28 rfl) rfl
theorem q579 : (Jvm.Cond.sameMethod "[B" "java/lang/Object" "clone" "()Ljava/lang/Object;") ∈ lw_all := lw_g (lw_at lw_m2 220 rfl) rfl
theorem q582 : (Jvm.Cond.selects "[B" ({ cls := "[B", name := "clone", desc := "()Ljava/lang/Object;" } : Jvm.MethodName) ({ cls := "java/lang/Object", name := "clone", desc := "()Ljava/lang/Object;" } : Jvm.MethodName)) ∈ lw_all := lw_g (lw_at lw_m2 223 rfl) rfl
theorem q583 : (Jvm.Cond.castable "[B" "java/lang/Cloneable") ∈ lw_tbl := lw_at lw_m2 224 rfl
theorem q644 : (Jvm.Cond.interfaceMethod "java/lang/CharSequence" "java/lang/CharSequence" "toString" "()Ljava/lang/String;") ∈ lw_tbl := lw_at lw_m3 45 rfl
theorem q645 : (Jvm.Cond.declares ({ cls := "java/lang/CharSequence", name := "toString", desc := "()Ljava/lang/String;" } : Jvm.MethodName)) ∈ lw_tbl := lw_at lw_m3 46 rfl
theorem q870 : (Jvm.Cond.interfaceMethod "java/lang/CharSequence" "java/lang/CharSequence" "length" "()I") ∈ lw_tbl := lw_at lw_m4 31 rfl
theorem q871 : (Jvm.Cond.declares ({ cls := "java/lang/CharSequence", name := "length", desc := "()I" } : Jvm.MethodName)) ∈ lw_tbl := lw_at lw_m4 32 rfl
theorem q1529 : (Jvm.Cond.interfaceMethod "java/lang/CharSequence" "java/lang/CharSequence" "charAt" "(I)C") ∈ lw_tbl := lw_at lw_m6 210 rfl
theorem q1530 : (Jvm.Cond.declares ({ cls := "java/lang/CharSequence", name := "charAt", desc := "(I)C" } : Jvm.MethodName)) ∈ lw_tbl := lw_at lw_m6 211 rfl
theorem q742 : (Jvm.Cond.interfaceMethod "jdk/internal/access/JavaLangAccess" "jdk/internal/access/JavaLangAccess" "getUTF16Char" "([BI)C") ∈ lw_tbl := lw_at lw_m3 143 rfl
theorem q743 : (Jvm.Cond.declares ({ cls := "jdk/internal/access/JavaLangAccess", name := "getUTF16Char", desc := "([BI)C" } : Jvm.MethodName)) ∈ lw_tbl := lw_at lw_m3 144 rfl
theorem q996 : (Jvm.Cond.interfaceMethod "TracePeaks$Filter" "TracePeaks$Filter" "of" "(III)I") ∈ lw_tbl := lw_at lw_m4 157 rfl
theorem q997 : (Jvm.Cond.declares ({ cls := "TracePeaks$Filter", name := "of", desc := "(III)I" } : Jvm.MethodName)) ∈ lw_tbl := lw_at lw_m4 158 rfl
theorem q1115 : (Jvm.Cond.interfaceMethod "TracePeaks$Change" "TracePeaks$Change" "of" "(III)I") ∈ lw_tbl := lw_at lw_m5 36 rfl
theorem q1116 : (Jvm.Cond.declares ({ cls := "TracePeaks$Change", name := "of", desc := "(III)I" } : Jvm.MethodName)) ∈ lw_tbl := lw_at lw_m5 37 rfl
theorem q1359 : (Jvm.Cond.interfaceMethod "TracePeaks$Rater" "TracePeaks$Rater" "of" "(I)I") ∈ lw_tbl := lw_at lw_m6 40 rfl
theorem q1360 : (Jvm.Cond.declares ({ cls := "TracePeaks$Rater", name := "of", desc := "(I)I" } : Jvm.MethodName)) ∈ lw_tbl := lw_at lw_m6 41 rfl
