set_option maxRecDepth 100000
theorem dX9_scales_42 : decode cX9_scales 42 = .ok (.ireturn, 1) := dk_172 (dk_at dksX9_scales_1 18 rfl rfl)
def dkwX9_greatest_1 : List UInt8 := [132, 2, 1, 167, 255, 234, 27, 172]
abbrev dktX9_greatest_1 : List UInt8 := dkwX9_greatest_1 ++ []
def dkwX9_greatest_0 : List UInt8 := [3, 60, 3, 61, 28, 42, 182, 1, 1, 162, 0, 20, 27, 42, 180, 0, 32, 28, 46, 184, 1, 33, 60]
abbrev dktX9_greatest_0 : List UInt8 := dkwX9_greatest_0 ++ dktX9_greatest_1
theorem dksX9_greatest_0 : cX9_greatest.data.toList.drop 0 = dktX9_greatest_0 := by decide +kernel
theorem dksX9_greatest_1 : cX9_greatest.data.toList.drop 23 = dktX9_greatest_1 := dk_seg dksX9_greatest_0 23 rfl rfl
theorem dX9_greatest_0 : decode cX9_greatest 0 = .ok (.iconst 0, 1) := dk_3 (dk_at dksX9_greatest_0 0 rfl rfl)
theorem dX9_greatest_1 : decode cX9_greatest 1 = .ok (.istore_n 1, 1) := dk_60 (dk_at dksX9_greatest_0 1 rfl rfl)
theorem dX9_greatest_2 : decode cX9_greatest 2 = .ok (.iconst 0, 1) := dk_3 (dk_at dksX9_greatest_0 2 rfl rfl)
theorem dX9_greatest_3 : decode cX9_greatest 3 = .ok (.istore_n 2, 1) := dk_61 (dk_at dksX9_greatest_0 3 rfl rfl)
theorem dX9_greatest_4 : decode cX9_greatest 4 = .ok (.iload_n 2, 1) := dk_28 (dk_at dksX9_greatest_0 4 rfl rfl)
theorem dX9_greatest_5 : decode cX9_greatest 5 = .ok (.aload_n 0, 1) := dk_42 (dk_at dksX9_greatest_0 5 rfl rfl)
theorem dX9_greatest_6 : decode cX9_greatest 6 = .ok (.invokevirtual 257, 3) := dk_182 1 1 (dk_at dksX9_greatest_0 6 rfl rfl)
theorem dX9_greatest_9 : decode cX9_greatest 9 = .ok (.if_icmp .ge 20, 3) := dk_162 0 20 (dk_at dksX9_greatest_0 9 rfl rfl)
theorem dX9_greatest_12 : decode cX9_greatest 12 = .ok (.iload_n 1, 1) := dk_27 (dk_at dksX9_greatest_0 12 rfl rfl)
theorem dX9_greatest_13 : decode cX9_greatest 13 = .ok (.aload_n 0, 1) := dk_42 (dk_at dksX9_greatest_0 13 rfl rfl)
theorem dX9_greatest_14 : decode cX9_greatest 14 = .ok (.getfield 32, 3) := dk_180 0 32 (dk_at dksX9_greatest_0 14 rfl rfl)
theorem dX9_greatest_17 : decode cX9_greatest 17 = .ok (.iload_n 2, 1) := dk_28 (dk_at dksX9_greatest_0 17 rfl rfl)
theorem dX9_greatest_18 : decode cX9_greatest 18 = .ok (.iaload, 1) := dk_46 (dk_at dksX9_greatest_0 18 rfl rfl)
theorem dX9_greatest_19 : decode cX9_greatest 19 = .ok (.invokestatic 289, 3) := dk_184 1 33 (dk_at dksX9_greatest_0 19 rfl rfl)
theorem dX9_greatest_22 : decode cX9_greatest 22 = .ok (.istore_n 1, 1) := dk_60 (dk_at dksX9_greatest_0 22 rfl rfl)
theorem dX9_greatest_23 : decode cX9_greatest 23 = .ok (.iinc 2 1, 3) := dk_132 2 1 (dk_at dksX9_greatest_1 0 rfl rfl)
theorem dX9_greatest_26 : decode cX9_greatest 26 = .ok (.goto (-22), 3) := dk_167 255 234 (dk_at dksX9_greatest_1 3 rfl rfl)
theorem dX9_greatest_29 : decode cX9_greatest 29 = .ok (.iload_n 1, 1) := dk_27 (dk_at dksX9_greatest_1 6 rfl rfl)
theorem dX9_greatest_30 : decode cX9_greatest 30 = .ok (.ireturn, 1) := dk_172 (dk_at dksX9_greatest_1 7 rfl rfl)
def dkwX9_sets_0 : List UInt8 := [42, 180, 0, 32, 27, 46, 62, 42, 180, 0, 32, 27, 28, 79, 29, 172]
abbrev dktX9_sets_0 : List UInt8 := dkwX9_sets_0 ++ []
theorem dksX9_sets_0 : cX9_sets.data.toList.drop 0 = dktX9_sets_0 := by decide +kernel
theorem dX9_sets_0 : decode cX9_sets 0 = .ok (.aload_n 0, 1) := dk_42 (dk_at dksX9_sets_0 0 rfl rfl)
theorem dX9_sets_1 : decode cX9_sets 1 = .ok (.getfield 32, 3) := dk_180 0 32 (dk_at dksX9_sets_0 1 rfl rfl)
theorem dX9_sets_4 : decode cX9_sets 4 = .ok (.iload_n 1, 1) := dk_27 (dk_at dksX9_sets_0 4 rfl rfl)
theorem dX9_sets_5 : decode cX9_sets 5 = .ok (.iaload, 1) := dk_46 (dk_at dksX9_sets_0 5 rfl rfl)
theorem dX9_sets_6 : decode cX9_sets 6 = .ok (.istore_n 3, 1) := dk_62 (dk_at dksX9_sets_0 6 rfl rfl)
theorem dX9_sets_7 : decode cX9_sets 7 = .ok (.aload_n 0, 1) := dk_42 (dk_at dksX9_sets_0 7 rfl rfl)
theorem dX9_sets_8 : decode cX9_sets 8 = .ok (.getfield 32, 3) := dk_180 0 32 (dk_at dksX9_sets_0 8 rfl rfl)
theorem dX9_sets_11 : decode cX9_sets 11 = .ok (.iload_n 1, 1) := dk_27 (dk_at dksX9_sets_0 11 rfl rfl)
theorem dX9_sets_12 : decode cX9_sets 12 = .ok (.iload_n 2, 1) := dk_28 (dk_at dksX9_sets_0 12 rfl rfl)
theorem dX9_sets_13 : decode cX9_sets 13 = .ok (.iastore, 1) := dk_79 (dk_at dksX9_sets_0 13 rfl rfl)
theorem dX9_sets_14 : decode cX9_sets 14 = .ok (.iload_n 3, 1) := dk_29 (dk_at dksX9_sets_0 14 rfl rfl)
theorem dX9_sets_15 : decode cX9_sets 15 = .ok (.ireturn, 1) := dk_172 (dk_at dksX9_sets_0 15 rfl rfl)
def dkwX9_cuts_2 : List UInt8 := [62, 42, 180, 0, 32, 16, 48, 28, 79, 29, 172]
abbrev dktX9_cuts_2 : List UInt8 := dkwX9_cuts_2 ++ []
def dkwX9_cuts_1 : List UInt8 := [180, 0, 74, 27, 29, 96, 46, 167, 0, 4, 3, 79, 132, 3, 1, 167, 255, 224, 42, 182, 1, 1, 28, 100]
abbrev dktX9_cuts_1 : List UInt8 := dkwX9_cuts_1 ++ dktX9_cuts_2
def dkwX9_cuts_0 : List UInt8 := [42, 182, 1, 94, 3, 62, 29, 16, 48, 162, 0, 32, 42, 180, 0, 32, 29, 29, 28, 162, 0, 14, 42]
abbrev dktX9_cuts_0 : List UInt8 := dkwX9_cuts_0 ++ dktX9_cuts_1
theorem dksX9_cuts_0 : cX9_cuts.data.toList.drop 0 = dktX9_cuts_0 := by decide +kernel
theorem dksX9_cuts_1 : cX9_cuts.data.toList.drop 23 = dktX9_cuts_1 := dk_seg dksX9_cuts_0 23 rfl rfl
theorem dksX9_cuts_2 : cX9_cuts.data.toList.drop 47 = dktX9_cuts_2 := dk_seg dksX9_cuts_1 24 rfl rfl
theorem dX9_cuts_0 : decode cX9_cuts 0 = .ok (.aload_n 0, 1) := dk_42 (dk_at dksX9_cuts_0 0 rfl rfl)
theorem dX9_cuts_1 : decode cX9_cuts 1 = .ok (.invokevirtual 350, 3) := dk_182 1 94 (dk_at dksX9_cuts_0 1 rfl rfl)
theorem dX9_cuts_4 : decode cX9_cuts 4 = .ok (.iconst 0, 1) := dk_3 (dk_at dksX9_cuts_0 4 rfl rfl)
theorem dX9_cuts_5 : decode cX9_cuts 5 = .ok (.istore_n 3, 1) := dk_62 (dk_at dksX9_cuts_0 5 rfl rfl)
theorem dX9_cuts_6 : decode cX9_cuts 6 = .ok (.iload_n 3, 1) := dk_29 (dk_at dksX9_cuts_0 6 rfl rfl)
theorem dX9_cuts_7 : decode cX9_cuts 7 = .ok (.bipush 48, 2) := dk_16 48 (dk_at dksX9_cuts_0 7 rfl rfl)
theorem dX9_cuts_9 : decode cX9_cuts 9 = .ok (.if_icmp .ge 32, 3) := dk_162 0 32 (dk_at dksX9_cuts_0 9 rfl rfl)
theorem dX9_cuts_12 : decode cX9_cuts 12 = .ok (.aload_n 0, 1) := dk_42 (dk_at dksX9_cuts_0 12 rfl rfl)
theorem dX9_cuts_13 : decode cX9_cuts 13 = .ok (.getfield 32, 3) := dk_180 0 32 (dk_at dksX9_cuts_0 13 rfl rfl)
theorem dX9_cuts_16 : decode cX9_cuts 16 = .ok (.iload_n 3, 1) := dk_29 (dk_at dksX9_cuts_0 16 rfl rfl)
theorem dX9_cuts_17 : decode cX9_cuts 17 = .ok (.iload_n 3, 1) := dk_29 (dk_at dksX9_cuts_0 17 rfl rfl)
theorem dX9_cuts_18 : decode cX9_cuts 18 = .ok (.iload_n 2, 1) := dk_28 (dk_at dksX9_cuts_0 18 rfl rfl)
theorem dX9_cuts_19 : decode cX9_cuts 19 = .ok (.if_icmp .ge 14, 3) := dk_162 0 14 (dk_at dksX9_cuts_0 19 rfl rfl)
theorem dX9_cuts_22 : decode cX9_cuts 22 = .ok (.aload_n 0, 1) := dk_42 (dk_at dksX9_cuts_0 22 rfl rfl)
theorem dX9_cuts_23 : decode cX9_cuts 23 = .ok (.getfield 74, 3) := dk_180 0 74 (dk_at dksX9_cuts_1 0 rfl rfl)
theorem dX9_cuts_26 : decode cX9_cuts 26 = .ok (.iload_n 1, 1) := dk_27 (dk_at dksX9_cuts_1 3 rfl rfl)
theorem dX9_cuts_27 : decode cX9_cuts 27 = .ok (.iload_n 3, 1) := dk_29 (dk_at dksX9_cuts_1 4 rfl rfl)
theorem dX9_cuts_28 : decode cX9_cuts 28 = .ok (.iadd, 1) := dk_96 (dk_at dksX9_cuts_1 5 rfl rfl)
theorem dX9_cuts_29 : decode cX9_cuts 29 = .ok (.iaload, 1) := dk_46 (dk_at dksX9_cuts_1 6 rfl rfl)
theorem dX9_cuts_30 : decode cX9_cuts 30 = .ok (.goto 4, 3) := dk_167 0 4 (dk_at dksX9_cuts_1 7 rfl rfl)
theorem dX9_cuts_33 : decode cX9_cuts 33 = .ok (.iconst 0, 1) := dk_3 (dk_at dksX9_cuts_1 10 rfl rfl)
theorem dX9_cuts_34 : decode cX9_cuts 34 = .ok (.iastore, 1) := dk_79 (dk_at dksX9_cuts_1 11 rfl rfl)
theorem dX9_cuts_35 : decode cX9_cuts 35 = .ok (.iinc 3 1, 3) := dk_132 3 1 (dk_at dksX9_cuts_1 12 rfl rfl)
theorem dX9_cuts_38 : decode cX9_cuts 38 = .ok (.goto (-32), 3) := dk_167 255 224 (dk_at dksX9_cuts_1 15 rfl rfl)
theorem dX9_cuts_41 : decode cX9_cuts 41 = .ok (.aload_n 0, 1) := dk_42 (dk_at dksX9_cuts_1 18 rfl rfl)
theorem dX9_cuts_42 : decode cX9_cuts 42 = .ok (.invokevirtual 257, 3) := dk_182 1 1 (dk_at dksX9_cuts_1 19 rfl rfl)
theorem dX9_cuts_45 : decode cX9_cuts 45 = .ok (.iload_n 2, 1) := dk_28 (dk_at dksX9_cuts_1 22 rfl rfl)
theorem dX9_cuts_46 : decode cX9_cuts 46 = .ok (.isub, 1) := dk_100 (dk_at dksX9_cuts_1 23 rfl rfl)
theorem dX9_cuts_47 : decode cX9_cuts 47 = .ok (.istore_n 3, 1) := dk_62 (dk_at dksX9_cuts_2 0 rfl rfl)
theorem dX9_cuts_48 : decode cX9_cuts 48 = .ok (.aload_n 0, 1) := dk_42 (dk_at dksX9_cuts_2 1 rfl rfl)
theorem dX9_cuts_49 : decode cX9_cuts 49 = .ok (.getfield 32, 3) := dk_180 0 32 (dk_at dksX9_cuts_2 2 rfl rfl)
theorem dX9_cuts_52 : decode cX9_cuts 52 = .ok (.bipush 48, 2) := dk_16 48 (dk_at dksX9_cuts_2 5 rfl rfl)
theorem dX9_cuts_54 : decode cX9_cuts 54 = .ok (.iload_n 2, 1) := dk_28 (dk_at dksX9_cuts_2 7 rfl rfl)
theorem dX9_cuts_55 : decode cX9_cuts 55 = .ok (.iastore, 1) := dk_79 (dk_at dksX9_cuts_2 8 rfl rfl)
theorem dX9_cuts_56 : decode cX9_cuts 56 = .ok (.iload_n 3, 1) := dk_29 (dk_at dksX9_cuts_2 9 rfl rfl)
theorem dX9_cuts_57 : decode cX9_cuts 57 = .ok (.ireturn, 1) := dk_172 (dk_at dksX9_cuts_2 10 rfl rfl)
def dkwX9_note_4 : List UInt8 := [5, 96, 42, 182, 1, 117, 79, 42, 180, 0, 32, 16, 50, 92, 46, 4, 96, 79, 177]
abbrev dktX9_note_4 : List UInt8 := dkwX9_note_4 ++ []
def dkwX9_note_3 : List UInt8 := [104, 96, 62, 42, 180, 0, 32, 29, 27, 79, 42, 180, 0, 32, 29, 4, 96, 28, 79, 42, 180, 0, 32, 29]
abbrev dktX9_note_3 : List UInt8 := dkwX9_note_3 ++ dktX9_note_4
def dkwX9_note_2 : List UInt8 := [167, 255, 226, 42, 180, 0, 32, 16, 50, 92, 46, 4, 100, 79, 16, 51, 6, 42, 180, 0, 32, 16, 50, 46]
abbrev dktX9_note_2 : List UInt8 := dkwX9_note_2 ++ dktX9_note_3
def dkwX9_note_1 : List UInt8 := [180, 0, 32, 16, 51, 29, 96, 6, 100, 42, 180, 0, 32, 16, 51, 29, 96, 46, 79, 132, 3, 1]
abbrev dktX9_note_1 : List UInt8 := dkwX9_note_1 ++ dktX9_note_2
def dkwX9_note_0 : List UInt8 := [42, 180, 0, 32, 16, 50, 46, 16, 60, 160, 0, 49, 6, 62, 29, 17, 0, 180, 162, 0, 29, 42]
abbrev dktX9_note_0 : List UInt8 := dkwX9_note_0 ++ dktX9_note_1
theorem dksX9_note_0 : cX9_note.data.toList.drop 0 = dktX9_note_0 := by decide +kernel
theorem dksX9_note_1 : cX9_note.data.toList.drop 22 = dktX9_note_1 := dk_seg dksX9_note_0 22 rfl rfl
theorem dksX9_note_2 : cX9_note.data.toList.drop 44 = dktX9_note_2 := dk_seg dksX9_note_1 22 rfl rfl
theorem dksX9_note_3 : cX9_note.data.toList.drop 68 = dktX9_note_3 := dk_seg dksX9_note_2 24 rfl rfl
theorem dksX9_note_4 : cX9_note.data.toList.drop 92 = dktX9_note_4 := dk_seg dksX9_note_3 24 rfl rfl
theorem dX9_note_0 : decode cX9_note 0 = .ok (.aload_n 0, 1) := dk_42 (dk_at dksX9_note_0 0 rfl rfl)
theorem dX9_note_1 : decode cX9_note 1 = .ok (.getfield 32, 3) := dk_180 0 32 (dk_at dksX9_note_0 1 rfl rfl)
theorem dX9_note_4 : decode cX9_note 4 = .ok (.bipush 50, 2) := dk_16 50 (dk_at dksX9_note_0 4 rfl rfl)
theorem dX9_note_6 : decode cX9_note 6 = .ok (.iaload, 1) := dk_46 (dk_at dksX9_note_0 6 rfl rfl)
theorem dX9_note_7 : decode cX9_note 7 = .ok (.bipush 60, 2) := dk_16 60 (dk_at dksX9_note_0 7 rfl rfl)
theorem dX9_note_9 : decode cX9_note 9 = .ok (.if_icmp .ne 49, 3) := dk_160 0 49 (dk_at dksX9_note_0 9 rfl rfl)
theorem dX9_note_12 : decode cX9_note 12 = .ok (.iconst 3, 1) := dk_6 (dk_at dksX9_note_0 12 rfl rfl)
theorem dX9_note_13 : decode cX9_note 13 = .ok (.istore_n 3, 1) := dk_62 (dk_at dksX9_note_0 13 rfl rfl)
theorem dX9_note_14 : decode cX9_note 14 = .ok (.iload_n 3, 1) := dk_29 (dk_at dksX9_note_0 14 rfl rfl)
theorem dX9_note_15 : decode cX9_note 15 = .ok (.sipush 180, 3) := dk_17 0 180 (dk_at dksX9_note_0 15 rfl rfl)
theorem dX9_note_18 : decode cX9_note 18 = .ok (.if_icmp .ge 29, 3) := dk_162 0 29 (dk_at dksX9_note_0 18 rfl rfl)
theorem dX9_note_21 : decode cX9_note 21 = .ok (.aload_n 0, 1) := dk_42 (dk_at dksX9_note_0 21 rfl rfl)
theorem dX9_note_22 : decode cX9_note 22 = .ok (.getfield 32, 3) := dk_180 0 32 (dk_at dksX9_note_1 0 rfl rfl)
theorem dX9_note_25 : decode cX9_note 25 = .ok (.bipush 51, 2) := dk_16 51 (dk_at dksX9_note_1 3 rfl rfl)
theorem dX9_note_27 : decode cX9_note 27 = .ok (.iload_n 3, 1) := dk_29 (dk_at dksX9_note_1 5 rfl rfl)
theorem dX9_note_28 : decode cX9_note 28 = .ok (.iadd, 1) := dk_96 (dk_at dksX9_note_1 6 rfl rfl)
theorem dX9_note_29 : decode cX9_note 29 = .ok (.iconst 3, 1) := dk_6 (dk_at dksX9_note_1 7 rfl rfl)
theorem dX9_note_30 : decode cX9_note 30 = .ok (.isub, 1) := dk_100 (dk_at dksX9_note_1 8 rfl rfl)
theorem dX9_note_31 : decode cX9_note 31 = .ok (.aload_n 0, 1) := dk_42 (dk_at dksX9_note_1 9 rfl rfl)
theorem dX9_note_32 : decode cX9_note 32 = .ok (.getfield 32, 3) := dk_180 0 32 (dk_at dksX9_note_1 10 rfl rfl)
theorem dX9_note_35 : decode cX9_note 35 = .ok (.bipush 51, 2) := dk_16 51 (dk_at dksX9_note_1 13 rfl rfl)
theorem dX9_note_37 : decode cX9_note 37 = .ok (.iload_n 3, 1) := dk_29 (dk_at dksX9_note_1 15 rfl rfl)
theorem dX9_note_38 : decode cX9_note 38 = .ok (.iadd, 1) := dk_96 (dk_at dksX9_note_1 16 rfl rfl)
theorem dX9_note_39 : decode cX9_note 39 = .ok (.iaload, 1) := dk_46 (dk_at dksX9_note_1 17 rfl rfl)
theorem dX9_note_40 : decode cX9_note 40 = .ok (.iastore, 1) := dk_79 (dk_at dksX9_note_1 18 rfl rfl)
theorem dX9_note_41 : decode cX9_note 41 = .ok (.iinc 3 1, 3) := dk_132 3 1 (dk_at dksX9_note_1 19 rfl rfl)
theorem dX9_note_44 : decode cX9_note 44 = .ok (.goto (-30), 3) := dk_167 255 226 (dk_at dksX9_note_2 0 rfl rfl)
theorem dX9_note_47 : decode cX9_note 47 = .ok (.aload_n 0, 1) := dk_42 (dk_at dksX9_note_2 3 rfl rfl)
theorem dX9_note_48 : decode cX9_note 48 = .ok (.getfield 32, 3) := dk_180 0 32 (dk_at dksX9_note_2 4 rfl rfl)
theorem dX9_note_51 : decode cX9_note 51 = .ok (.bipush 50, 2) := dk_16 50 (dk_at dksX9_note_2 7 rfl rfl)
theorem dX9_note_53 : decode cX9_note 53 = .ok (.dup2, 1) := dk_92 (dk_at dksX9_note_2 9 rfl rfl)
theorem dX9_note_54 : decode cX9_note 54 = .ok (.iaload, 1) := dk_46 (dk_at dksX9_note_2 10 rfl rfl)
theorem dX9_note_55 : decode cX9_note 55 = .ok (.iconst 1, 1) := dk_4 (dk_at dksX9_note_2 11 rfl rfl)
theorem dX9_note_56 : decode cX9_note 56 = .ok (.isub, 1) := dk_100 (dk_at dksX9_note_2 12 rfl rfl)
theorem dX9_note_57 : decode cX9_note 57 = .ok (.iastore, 1) := dk_79 (dk_at dksX9_note_2 13 rfl rfl)
theorem dX9_note_58 : decode cX9_note 58 = .ok (.bipush 51, 2) := dk_16 51 (dk_at dksX9_note_2 14 rfl rfl)
theorem dX9_note_60 : decode cX9_note 60 = .ok (.iconst 3, 1) := dk_6 (dk_at dksX9_note_2 16 rfl rfl)
theorem dX9_note_61 : decode cX9_note 61 = .ok (.aload_n 0, 1) := dk_42 (dk_at dksX9_note_2 17 rfl rfl)
theorem dX9_note_62 : decode cX9_note 62 = .ok (.getfield 32, 3) := dk_180 0 32 (dk_at dksX9_note_2 18 rfl rfl)
theorem dX9_note_65 : decode cX9_note 65 = .ok (.bipush 50, 2) := dk_16 50 (dk_at dksX9_note_2 21 rfl rfl)
theorem dX9_note_67 : decode cX9_note 67 = .ok (.iaload, 1) := dk_46 (dk_at dksX9_note_2 23 rfl rfl)
theorem dX9_note_68 : decode cX9_note 68 = .ok (.imul, 1) := dk_104 (dk_at dksX9_note_3 0 rfl rfl)
theorem dX9_note_69 : decode cX9_note 69 = .ok (.iadd, 1) := dk_96 (dk_at dksX9_note_3 1 rfl rfl)
theorem dX9_note_70 : decode cX9_note 70 = .ok (.istore_n 3, 1) := dk_62 (dk_at dksX9_note_3 2 rfl rfl)
theorem dX9_note_71 : decode cX9_note 71 = .ok (.aload_n 0, 1) := dk_42 (dk_at dksX9_note_3 3 rfl rfl)
theorem dX9_note_72 : decode cX9_note 72 = .ok (.getfield 32, 3) := dk_180 0 32 (dk_at dksX9_note_3 4 rfl rfl)
theorem dX9_note_75 : decode cX9_note 75 = .ok (.iload_n 3, 1) := dk_29 (dk_at dksX9_note_3 7 rfl rfl)
theorem dX9_note_76 : decode cX9_note 76 = .ok (.iload_n 1, 1) := dk_27 (dk_at dksX9_note_3 8 rfl rfl)
theorem dX9_note_77 : decode cX9_note 77 = .ok (.iastore, 1) := dk_79 (dk_at dksX9_note_3 9 rfl rfl)
theorem dX9_note_78 : decode cX9_note 78 = .ok (.aload_n 0, 1) := dk_42 (dk_at dksX9_note_3 10 rfl rfl)
theorem dX9_note_79 : decode cX9_note 79 = .ok (.getfield 32, 3) := dk_180 0 32 (dk_at dksX9_note_3 11 rfl rfl)
theorem dX9_note_82 : decode cX9_note 82 = .ok (.iload_n 3, 1) := dk_29 (dk_at dksX9_note_3 14 rfl rfl)
theorem dX9_note_83 : decode cX9_note 83 = .ok (.iconst 1, 1) := dk_4 (dk_at dksX9_note_3 15 rfl rfl)
theorem dX9_note_84 : decode cX9_note 84 = .ok (.iadd, 1) := dk_96 (dk_at dksX9_note_3 16 rfl rfl)
theorem dX9_note_85 : decode cX9_note 85 = .ok (.iload_n 2, 1) := dk_28 (dk_at dksX9_note_3 17 rfl rfl)
theorem dX9_note_86 : decode cX9_note 86 = .ok (.iastore, 1) := dk_79 (dk_at dksX9_note_3 18 rfl rfl)
theorem dX9_note_87 : decode cX9_note 87 = .ok (.aload_n 0, 1) := dk_42 (dk_at dksX9_note_3 19 rfl rfl)
theorem dX9_note_88 : decode cX9_note 88 = .ok (.getfield 32, 3) := dk_180 0 32 (dk_at dksX9_note_3 20 rfl rfl)
theorem dX9_note_91 : decode cX9_note 91 = .ok (.iload_n 3, 1) := dk_29 (dk_at dksX9_note_3 23 rfl rfl)
theorem dX9_note_92 : decode cX9_note 92 = .ok (.iconst 2, 1) := dk_5 (dk_at dksX9_note_4 0 rfl rfl)
theorem dX9_note_93 : decode cX9_note 93 = .ok (.iadd, 1) := dk_96 (dk_at dksX9_note_4 1 rfl rfl)
theorem dX9_note_94 : decode cX9_note 94 = .ok (.aload_n 0, 1) := dk_42 (dk_at dksX9_note_4 2 rfl rfl)
theorem dX9_note_95 : decode cX9_note 95 = .ok (.invokevirtual 373, 3) := dk_182 1 117 (dk_at dksX9_note_4 3 rfl rfl)
theorem dX9_note_98 : decode cX9_note 98 = .ok (.iastore, 1) := dk_79 (dk_at dksX9_note_4 6 rfl rfl)
theorem dX9_note_99 : decode cX9_note 99 = .ok (.aload_n 0, 1) := dk_42 (dk_at dksX9_note_4 7 rfl rfl)
theorem dX9_note_100 : decode cX9_note 100 = .ok (.getfield 32, 3) := dk_180 0 32 (dk_at dksX9_note_4 8 rfl rfl)
theorem dX9_note_103 : decode cX9_note 103 = .ok (.bipush 50, 2) := dk_16 50 (dk_at dksX9_note_4 11 rfl rfl)
theorem dX9_note_105 : decode cX9_note 105 = .ok (.dup2, 1) := dk_92 (dk_at dksX9_note_4 13 rfl rfl)
theorem dX9_note_106 : decode cX9_note 106 = .ok (.iaload, 1) := dk_46 (dk_at dksX9_note_4 14 rfl rfl)
theorem dX9_note_107 : decode cX9_note 107 = .ok (.iconst 1, 1) := dk_4 (dk_at dksX9_note_4 15 rfl rfl)
theorem dX9_note_108 : decode cX9_note 108 = .ok (.iadd, 1) := dk_96 (dk_at dksX9_note_4 16 rfl rfl)
theorem dX9_note_109 : decode cX9_note 109 = .ok (.iastore, 1) := dk_79 (dk_at dksX9_note_4 17 rfl rfl)
theorem dX9_note_110 : decode cX9_note 110 = .ok (.return_, 1) := dk_177 (dk_at dksX9_note_4 18 rfl rfl)
def dkwX9_median_0 : List UInt8 := [42, 4, 3, 3, 182, 1, 157, 172]
abbrev dktX9_median_0 : List UInt8 := dkwX9_median_0 ++ []
theorem dksX9_median_0 : cX9_median.data.toList.drop 0 = dktX9_median_0 := by decide +kernel
theorem dX9_median_0 : decode cX9_median 0 = .ok (.aload_n 0, 1) := dk_42 (dk_at dksX9_median_0 0 rfl rfl)
theorem dX9_median_1 : decode cX9_median 1 = .ok (.iconst 1, 1) := dk_4 (dk_at dksX9_median_0 1 rfl rfl)
theorem dX9_median_2 : decode cX9_median 2 = .ok (.iconst 0, 1) := dk_3 (dk_at dksX9_median_0 2 rfl rfl)
theorem dX9_median_3 : decode cX9_median 3 = .ok (.iconst 0, 1) := dk_3 (dk_at dksX9_median_0 3 rfl rfl)
theorem dX9_median_4 : decode cX9_median 4 = .ok (.invokevirtual 413, 3) := dk_182 1 157 (dk_at dksX9_median_0 4 rfl rfl)
theorem dX9_median_7 : decode cX9_median 7 = .ok (.ireturn, 1) := dk_172 (dk_at dksX9_median_0 7 rfl rfl)
def dkwX9_flat_0 : List UInt8 := [42, 5, 3, 3, 182, 1, 157, 172]
abbrev dktX9_flat_0 : List UInt8 := dkwX9_flat_0 ++ []
theorem dksX9_flat_0 : cX9_flat.data.toList.drop 0 = dktX9_flat_0 := by decide +kernel
theorem dX9_flat_0 : decode cX9_flat 0 = .ok (.aload_n 0, 1) := dk_42 (dk_at dksX9_flat_0 0 rfl rfl)
theorem dX9_flat_1 : decode cX9_flat 1 = .ok (.iconst 2, 1) := dk_5 (dk_at dksX9_flat_0 1 rfl rfl)
theorem dX9_flat_2 : decode cX9_flat 2 = .ok (.iconst 0, 1) := dk_3 (dk_at dksX9_flat_0 2 rfl rfl)
theorem dX9_flat_3 : decode cX9_flat 3 = .ok (.iconst 0, 1) := dk_3 (dk_at dksX9_flat_0 3 rfl rfl)
theorem dX9_flat_4 : decode cX9_flat 4 = .ok (.invokevirtual 413, 3) := dk_182 1 157 (dk_at dksX9_flat_0 4 rfl rfl)
theorem dX9_flat_7 : decode cX9_flat 7 = .ok (.ireturn, 1) := dk_172 (dk_at dksX9_flat_0 7 rfl rfl)
def dkwX9_turn_0 : List UInt8 := [42, 6, 3, 3, 182, 1, 157, 172]
abbrev dktX9_turn_0 : List UInt8 := dkwX9_turn_0 ++ []
theorem dksX9_turn_0 : cX9_turn.data.toList.drop 0 = dktX9_turn_0 := by decide +kernel
theorem dX9_turn_0 : decode cX9_turn 0 = .ok (.aload_n 0, 1) := dk_42 (dk_at dksX9_turn_0 0 rfl rfl)
theorem dX9_turn_1 : decode cX9_turn 1 = .ok (.iconst 3, 1) := dk_6 (dk_at dksX9_turn_0 1 rfl rfl)
theorem dX9_turn_2 : decode cX9_turn 2 = .ok (.iconst 0, 1) := dk_3 (dk_at dksX9_turn_0 2 rfl rfl)
theorem dX9_turn_3 : decode cX9_turn 3 = .ok (.iconst 0, 1) := dk_3 (dk_at dksX9_turn_0 3 rfl rfl)
theorem dX9_turn_4 : decode cX9_turn 4 = .ok (.invokevirtual 413, 3) := dk_182 1 157 (dk_at dksX9_turn_0 4 rfl rfl)
theorem dX9_turn_7 : decode cX9_turn 7 = .ok (.ireturn, 1) := dk_172 (dk_at dksX9_turn_0 7 rfl rfl)
def dkwX9_clip_0 : List UInt8 := [42, 7, 27, 3, 182, 1, 157, 172]
abbrev dktX9_clip_0 : List UInt8 := dkwX9_clip_0 ++ []
theorem dksX9_clip_0 : cX9_clip.data.toList.drop 0 = dktX9_clip_0 := by decide +kernel
theorem dX9_clip_0 : decode cX9_clip 0 = .ok (.aload_n 0, 1) := dk_42 (dk_at dksX9_clip_0 0 rfl rfl)
theorem dX9_clip_1 : decode cX9_clip 1 = .ok (.iconst 4, 1) := dk_7 (dk_at dksX9_clip_0 1 rfl rfl)
theorem dX9_clip_2 : decode cX9_clip 2 = .ok (.iload_n 1, 1) := dk_27 (dk_at dksX9_clip_0 2 rfl rfl)
theorem dX9_clip_3 : decode cX9_clip 3 = .ok (.iconst 0, 1) := dk_3 (dk_at dksX9_clip_0 3 rfl rfl)
theorem dX9_clip_4 : decode cX9_clip 4 = .ok (.invokevirtual 413, 3) := dk_182 1 157 (dk_at dksX9_clip_0 4 rfl rfl)
theorem dX9_clip_7 : decode cX9_clip 7 = .ok (.ireturn, 1) := dk_172 (dk_at dksX9_clip_0 7 rfl rfl)
def dkwX9_lift_0 : List UInt8 := [42, 8, 27, 3, 182, 1, 157, 172]
abbrev dktX9_lift_0 : List UInt8 := dkwX9_lift_0 ++ []
theorem dksX9_lift_0 : cX9_lift.data.toList.drop 0 = dktX9_lift_0 := by decide +kernel
theorem dX9_lift_0 : decode cX9_lift 0 = .ok (.aload_n 0, 1) := dk_42 (dk_at dksX9_lift_0 0 rfl rfl)
theorem dX9_lift_1 : decode cX9_lift 1 = .ok (.iconst 5, 1) := dk_8 (dk_at dksX9_lift_0 1 rfl rfl)
theorem dX9_lift_2 : decode cX9_lift 2 = .ok (.iload_n 1, 1) := dk_27 (dk_at dksX9_lift_0 2 rfl rfl)
theorem dX9_lift_3 : decode cX9_lift 3 = .ok (.iconst 0, 1) := dk_3 (dk_at dksX9_lift_0 3 rfl rfl)
theorem dX9_lift_4 : decode cX9_lift 4 = .ok (.invokevirtual 413, 3) := dk_182 1 157 (dk_at dksX9_lift_0 4 rfl rfl)
theorem dX9_lift_7 : decode cX9_lift 7 = .ok (.ireturn, 1) := dk_172 (dk_at dksX9_lift_0 7 rfl rfl)
def dkwX9_scale_0 : List UInt8 := [42, 16, 6, 27, 28, 182, 1, 157, 172]
abbrev dktX9_scale_0 : List UInt8 := dkwX9_scale_0 ++ []
theorem dksX9_scale_0 : cX9_scale.data.toList.drop 0 = dktX9_scale_0 := by decide +kernel
theorem dX9_scale_0 : decode cX9_scale 0 = .ok (.aload_n 0, 1) := dk_42 (dk_at dksX9_scale_0 0 rfl rfl)
theorem dX9_scale_1 : decode cX9_scale 1 = .ok (.bipush 6, 2) := dk_16 6 (dk_at dksX9_scale_0 1 rfl rfl)
theorem dX9_scale_3 : decode cX9_scale 3 = .ok (.iload_n 1, 1) := dk_27 (dk_at dksX9_scale_0 3 rfl rfl)
theorem dX9_scale_4 : decode cX9_scale 4 = .ok (.iload_n 2, 1) := dk_28 (dk_at dksX9_scale_0 4 rfl rfl)
theorem dX9_scale_5 : decode cX9_scale 5 = .ok (.invokevirtual 413, 3) := dk_182 1 157 (dk_at dksX9_scale_0 5 rfl rfl)
theorem dX9_scale_8 : decode cX9_scale 8 = .ok (.ireturn, 1) := dk_172 (dk_at dksX9_scale_0 8 rfl rfl)
def dkwX9_set_0 : List UInt8 := [42, 16, 7, 27, 28, 182, 1, 157, 172]
abbrev dktX9_set_0 : List UInt8 := dkwX9_set_0 ++ []
theorem dksX9_set_0 : cX9_set.data.toList.drop 0 = dktX9_set_0 := by decide +kernel
theorem dX9_set_0 : decode cX9_set 0 = .ok (.aload_n 0, 1) := dk_42 (dk_at dksX9_set_0 0 rfl rfl)
theorem dX9_set_1 : decode cX9_set 1 = .ok (.bipush 7, 2) := dk_16 7 (dk_at dksX9_set_0 1 rfl rfl)
theorem dX9_set_3 : decode cX9_set 3 = .ok (.iload_n 1, 1) := dk_27 (dk_at dksX9_set_0 3 rfl rfl)
theorem dX9_set_4 : decode cX9_set 4 = .ok (.iload_n 2, 1) := dk_28 (dk_at dksX9_set_0 4 rfl rfl)
theorem dX9_set_5 : decode cX9_set 5 = .ok (.invokevirtual 413, 3) := dk_182 1 157 (dk_at dksX9_set_0 5 rfl rfl)
theorem dX9_set_8 : decode cX9_set 8 = .ok (.ireturn, 1) := dk_172 (dk_at dksX9_set_0 8 rfl rfl)
def dkwX9_noise_0 : List UInt8 := [42, 16, 8, 27, 3, 182, 1, 157, 172]
abbrev dktX9_noise_0 : List UInt8 := dkwX9_noise_0 ++ []
theorem dksX9_noise_0 : cX9_noise.data.toList.drop 0 = dktX9_noise_0 := by decide +kernel
theorem dX9_noise_0 : decode cX9_noise 0 = .ok (.aload_n 0, 1) := dk_42 (dk_at dksX9_noise_0 0 rfl rfl)
theorem dX9_noise_1 : decode cX9_noise 1 = .ok (.bipush 8, 2) := dk_16 8 (dk_at dksX9_noise_0 1 rfl rfl)
theorem dX9_noise_3 : decode cX9_noise 3 = .ok (.iload_n 1, 1) := dk_27 (dk_at dksX9_noise_0 3 rfl rfl)
theorem dX9_noise_4 : decode cX9_noise 4 = .ok (.iconst 0, 1) := dk_3 (dk_at dksX9_noise_0 4 rfl rfl)
theorem dX9_noise_5 : decode cX9_noise 5 = .ok (.invokevirtual 413, 3) := dk_182 1 157 (dk_at dksX9_noise_0 5 rfl rfl)
theorem dX9_noise_8 : decode cX9_noise 8 = .ok (.ireturn, 1) := dk_172 (dk_at dksX9_noise_0 8 rfl rfl)
def dkwX9_cut_0 : List UInt8 := [42, 16, 9, 27, 28, 182, 1, 157, 172]
abbrev dktX9_cut_0 : List UInt8 := dkwX9_cut_0 ++ []
theorem dksX9_cut_0 : cX9_cut.data.toList.drop 0 = dktX9_cut_0 := by decide +kernel
theorem dX9_cut_0 : decode cX9_cut 0 = .ok (.aload_n 0, 1) := dk_42 (dk_at dksX9_cut_0 0 rfl rfl)
theorem dX9_cut_1 : decode cX9_cut 1 = .ok (.bipush 9, 2) := dk_16 9 (dk_at dksX9_cut_0 1 rfl rfl)
theorem dX9_cut_3 : decode cX9_cut 3 = .ok (.iload_n 1, 1) := dk_27 (dk_at dksX9_cut_0 3 rfl rfl)
theorem dX9_cut_4 : decode cX9_cut 4 = .ok (.iload_n 2, 1) := dk_28 (dk_at dksX9_cut_0 4 rfl rfl)
theorem dX9_cut_5 : decode cX9_cut 5 = .ok (.invokevirtual 413, 3) := dk_182 1 157 (dk_at dksX9_cut_0 5 rfl rfl)
theorem dX9_cut_8 : decode cX9_cut 8 = .ok (.ireturn, 1) := dk_172 (dk_at dksX9_cut_0 8 rfl rfl)
def dkwX9_ways_1 : List UInt8 := [3, 54, 4, 21, 4, 27, 162, 0, 13, 42, 182, 1, 170, 132, 4, 1, 167, 255, 243, 42, 182, 1, 117, 172]
abbrev dktX9_ways_1 : List UInt8 := dkwX9_ways_1 ++ []
def dkwX9_ways_0 : List UInt8 := [42, 180, 0, 254, 153, 0, 13, 27, 4, 16, 40, 184, 0, 103, 154, 0, 5, 2, 172, 42, 32, 181, 1, 160]
abbrev dktX9_ways_0 : List UInt8 := dkwX9_ways_0 ++ dktX9_ways_1
theorem dksX9_ways_0 : cX9_ways.data.toList.drop 0 = dktX9_ways_0 := by decide +kernel
theorem dksX9_ways_1 : cX9_ways.data.toList.drop 24 = dktX9_ways_1 := dk_seg dksX9_ways_0 24 rfl rfl
theorem dX9_ways_0 : decode cX9_ways 0 = .ok (.aload_n 0, 1) := dk_42 (dk_at dksX9_ways_0 0 rfl rfl)
theorem dX9_ways_1 : decode cX9_ways 1 = .ok (.getfield 254, 3) := dk_180 0 254 (dk_at dksX9_ways_0 1 rfl rfl)
theorem dX9_ways_4 : decode cX9_ways 4 = .ok (.ifCond .eq 13, 3) := dk_153 0 13 (dk_at dksX9_ways_0 4 rfl rfl)
theorem dX9_ways_7 : decode cX9_ways 7 = .ok (.iload_n 1, 1) := dk_27 (dk_at dksX9_ways_0 7 rfl rfl)
theorem dX9_ways_8 : decode cX9_ways 8 = .ok (.iconst 1, 1) := dk_4 (dk_at dksX9_ways_0 8 rfl rfl)
theorem dX9_ways_9 : decode cX9_ways 9 = .ok (.bipush 40, 2) := dk_16 40 (dk_at dksX9_ways_0 9 rfl rfl)
theorem dX9_ways_11 : decode cX9_ways 11 = .ok (.invokestatic 103, 3) := dk_184 0 103 (dk_at dksX9_ways_0 11 rfl rfl)
theorem dX9_ways_14 : decode cX9_ways 14 = .ok (.ifCond .ne 5, 3) := dk_154 0 5 (dk_at dksX9_ways_0 14 rfl rfl)
theorem dX9_ways_17 : decode cX9_ways 17 = .ok (.iconst (-1), 1) := dk_2 (dk_at dksX9_ways_0 17 rfl rfl)
theorem dX9_ways_18 : decode cX9_ways 18 = .ok (.ireturn, 1) := dk_172 (dk_at dksX9_ways_0 18 rfl rfl)
theorem dX9_ways_19 : decode cX9_ways 19 = .ok (.aload_n 0, 1) := dk_42 (dk_at dksX9_ways_0 19 rfl rfl)
theorem dX9_ways_20 : decode cX9_ways 20 = .ok (.lload_n 2, 1) := dk_32 (dk_at dksX9_ways_0 20 rfl rfl)
theorem dX9_ways_21 : decode cX9_ways 21 = .ok (.putfield 416, 3) := dk_181 1 160 (dk_at dksX9_ways_0 21 rfl rfl)
theorem dX9_ways_24 : decode cX9_ways 24 = .ok (.iconst 0, 1) := dk_3 (dk_at dksX9_ways_1 0 rfl rfl)
theorem dX9_ways_25 : decode cX9_ways 25 = .ok (.istore 4, 2) := dk_54 4 (dk_at dksX9_ways_1 1 rfl rfl)
theorem dX9_ways_27 : decode cX9_ways 27 = .ok (.iload 4, 2) := dk_21 4 (dk_at dksX9_ways_1 3 rfl rfl)
theorem dX9_ways_29 : decode cX9_ways 29 = .ok (.iload_n 1, 1) := dk_27 (dk_at dksX9_ways_1 5 rfl rfl)
theorem dX9_ways_30 : decode cX9_ways 30 = .ok (.if_icmp .ge 13, 3) := dk_162 0 13 (dk_at dksX9_ways_1 6 rfl rfl)
theorem dX9_ways_33 : decode cX9_ways 33 = .ok (.aload_n 0, 1) := dk_42 (dk_at dksX9_ways_1 9 rfl rfl)
theorem dX9_ways_34 : decode cX9_ways 34 = .ok (.invokevirtual 426, 3) := dk_182 1 170 (dk_at dksX9_ways_1 10 rfl rfl)
theorem dX9_ways_37 : decode cX9_ways 37 = .ok (.iinc 4 1, 3) := dk_132 4 1 (dk_at dksX9_ways_1 13 rfl rfl)
theorem dX9_ways_40 : decode cX9_ways 40 = .ok (.goto (-13), 3) := dk_167 255 243 (dk_at dksX9_ways_1 16 rfl rfl)
theorem dX9_ways_43 : decode cX9_ways 43 = .ok (.aload_n 0, 1) := dk_42 (dk_at dksX9_ways_1 19 rfl rfl)
theorem dX9_ways_44 : decode cX9_ways 44 = .ok (.invokevirtual 373, 3) := dk_182 1 117 (dk_at dksX9_ways_1 20 rfl rfl)
theorem dX9_ways_47 : decode cX9_ways 47 = .ok (.ireturn, 1) := dk_172 (dk_at dksX9_ways_1 23 rfl rfl)
def dkwX9_drawWay_4 : List UInt8 := [16, 9, 182, 1, 167, 4, 96, 182, 1, 154, 87, 177]
abbrev dktX9_drawWay_4 : List UInt8 := dkwX9_drawWay_4 ++ []
def dkwX9_drawWay_3 : List UInt8 := [182, 1, 167, 3, 182, 1, 154, 87, 167, 0, 26, 42, 16, 100, 182, 1, 167, 61, 42, 16, 6, 28, 42]
abbrev dktX9_drawWay_3 : List UInt8 := dkwX9_drawWay_3 ++ dktX9_drawWay_4
def dkwX9_drawWay_2 : List UInt8 := [182, 1, 167, 182, 1, 154, 87, 167, 0, 50, 27, 16, 6, 160, 0, 21, 42, 16, 8, 42, 17, 0, 200]
abbrev dktX9_drawWay_2 : List UInt8 := dkwX9_drawWay_2 ++ dktX9_drawWay_3
def dkwX9_drawWay_1 : List UInt8 := [16, 6, 162, 0, 30, 42, 42, 182, 1, 1, 182, 1, 167, 61, 42, 16, 7, 28, 42, 17, 3, 232]
abbrev dktX9_drawWay_1 : List UInt8 := dkwX9_drawWay_1 ++ dktX9_drawWay_2
def dkwX9_drawWay_0 : List UInt8 := [42, 16, 8, 182, 1, 167, 60, 27, 6, 162, 0, 14, 42, 27, 3, 3, 182, 1, 154, 87, 167, 0, 83, 27]
abbrev dktX9_drawWay_0 : List UInt8 := dkwX9_drawWay_0 ++ dktX9_drawWay_1
theorem dksX9_drawWay_0 : cX9_drawWay.data.toList.drop 0 = dktX9_drawWay_0 := by decide +kernel
theorem dksX9_drawWay_1 : cX9_drawWay.data.toList.drop 24 = dktX9_drawWay_1 := dk_seg dksX9_drawWay_0 24 rfl rfl
theorem dksX9_drawWay_2 : cX9_drawWay.data.toList.drop 46 = dktX9_drawWay_2 := dk_seg dksX9_drawWay_1 22 rfl rfl
theorem dksX9_drawWay_3 : cX9_drawWay.data.toList.drop 69 = dktX9_drawWay_3 := dk_seg dksX9_drawWay_2 23 rfl rfl
theorem dksX9_drawWay_4 : cX9_drawWay.data.toList.drop 92 = dktX9_drawWay_4 := dk_seg dksX9_drawWay_3 23 rfl rfl
theorem dX9_drawWay_0 : decode cX9_drawWay 0 = .ok (.aload_n 0, 1) := dk_42 (dk_at dksX9_drawWay_0 0 rfl rfl)
theorem dX9_drawWay_1 : decode cX9_drawWay 1 = .ok (.bipush 8, 2) := dk_16 8 (dk_at dksX9_drawWay_0 1 rfl rfl)
theorem dX9_drawWay_3 : decode cX9_drawWay 3 = .ok (.invokevirtual 423, 3) := dk_182 1 167 (dk_at dksX9_drawWay_0 3 rfl rfl)
theorem dX9_drawWay_6 : decode cX9_drawWay 6 = .ok (.istore_n 1, 1) := dk_60 (dk_at dksX9_drawWay_0 6 rfl rfl)
theorem dX9_drawWay_7 : decode cX9_drawWay 7 = .ok (.iload_n 1, 1) := dk_27 (dk_at dksX9_drawWay_0 7 rfl rfl)
theorem dX9_drawWay_8 : decode cX9_drawWay 8 = .ok (.iconst 3, 1) := dk_6 (dk_at dksX9_drawWay_0 8 rfl rfl)
theorem dX9_drawWay_9 : decode cX9_drawWay 9 = .ok (.if_icmp .ge 14, 3) := dk_162 0 14 (dk_at dksX9_drawWay_0 9 rfl rfl)
theorem dX9_drawWay_12 : decode cX9_drawWay 12 = .ok (.aload_n 0, 1) := dk_42 (dk_at dksX9_drawWay_0 12 rfl rfl)
theorem dX9_drawWay_13 : decode cX9_drawWay 13 = .ok (.iload_n 1, 1) := dk_27 (dk_at dksX9_drawWay_0 13 rfl rfl)
theorem dX9_drawWay_14 : decode cX9_drawWay 14 = .ok (.iconst 0, 1) := dk_3 (dk_at dksX9_drawWay_0 14 rfl rfl)
theorem dX9_drawWay_15 : decode cX9_drawWay 15 = .ok (.iconst 0, 1) := dk_3 (dk_at dksX9_drawWay_0 15 rfl rfl)
theorem dX9_drawWay_16 : decode cX9_drawWay 16 = .ok (.invokevirtual 410, 3) := dk_182 1 154 (dk_at dksX9_drawWay_0 16 rfl rfl)
theorem dX9_drawWay_19 : decode cX9_drawWay 19 = .ok (.pop, 1) := dk_87 (dk_at dksX9_drawWay_0 19 rfl rfl)
theorem dX9_drawWay_20 : decode cX9_drawWay 20 = .ok (.goto 83, 3) := dk_167 0 83 (dk_at dksX9_drawWay_0 20 rfl rfl)
theorem dX9_drawWay_23 : decode cX9_drawWay 23 = .ok (.iload_n 1, 1) := dk_27 (dk_at dksX9_drawWay_0 23 rfl rfl)
theorem dX9_drawWay_24 : decode cX9_drawWay 24 = .ok (.bipush 6, 2) := dk_16 6 (dk_at dksX9_drawWay_1 0 rfl rfl)
theorem dX9_drawWay_26 : decode cX9_drawWay 26 = .ok (.if_icmp .ge 30, 3) := dk_162 0 30 (dk_at dksX9_drawWay_1 2 rfl rfl)
theorem dX9_drawWay_29 : decode cX9_drawWay 29 = .ok (.aload_n 0, 1) := dk_42 (dk_at dksX9_drawWay_1 5 rfl rfl)
theorem dX9_drawWay_30 : decode cX9_drawWay 30 = .ok (.aload_n 0, 1) := dk_42 (dk_at dksX9_drawWay_1 6 rfl rfl)
theorem dX9_drawWay_31 : decode cX9_drawWay 31 = .ok (.invokevirtual 257, 3) := dk_182 1 1 (dk_at dksX9_drawWay_1 7 rfl rfl)
theorem dX9_drawWay_34 : decode cX9_drawWay 34 = .ok (.invokevirtual 423, 3) := dk_182 1 167 (dk_at dksX9_drawWay_1 10 rfl rfl)
theorem dX9_drawWay_37 : decode cX9_drawWay 37 = .ok (.istore_n 2, 1) := dk_61 (dk_at dksX9_drawWay_1 13 rfl rfl)
theorem dX9_drawWay_38 : decode cX9_drawWay 38 = .ok (.aload_n 0, 1) := dk_42 (dk_at dksX9_drawWay_1 14 rfl rfl)
theorem dX9_drawWay_39 : decode cX9_drawWay 39 = .ok (.bipush 7, 2) := dk_16 7 (dk_at dksX9_drawWay_1 15 rfl rfl)
theorem dX9_drawWay_41 : decode cX9_drawWay 41 = .ok (.iload_n 2, 1) := dk_28 (dk_at dksX9_drawWay_1 17 rfl rfl)
theorem dX9_drawWay_42 : decode cX9_drawWay 42 = .ok (.aload_n 0, 1) := dk_42 (dk_at dksX9_drawWay_1 18 rfl rfl)
theorem dX9_drawWay_43 : decode cX9_drawWay 43 = .ok (.sipush 1000, 3) := dk_17 3 232 (dk_at dksX9_drawWay_1 19 rfl rfl)
theorem dX9_drawWay_46 : decode cX9_drawWay 46 = .ok (.invokevirtual 423, 3) := dk_182 1 167 (dk_at dksX9_drawWay_2 0 rfl rfl)
theorem dX9_drawWay_49 : decode cX9_drawWay 49 = .ok (.invokevirtual 410, 3) := dk_182 1 154 (dk_at dksX9_drawWay_2 3 rfl rfl)
theorem dX9_drawWay_52 : decode cX9_drawWay 52 = .ok (.pop, 1) := dk_87 (dk_at dksX9_drawWay_2 6 rfl rfl)
theorem dX9_drawWay_53 : decode cX9_drawWay 53 = .ok (.goto 50, 3) := dk_167 0 50 (dk_at dksX9_drawWay_2 7 rfl rfl)
theorem dX9_drawWay_56 : decode cX9_drawWay 56 = .ok (.iload_n 1, 1) := dk_27 (dk_at dksX9_drawWay_2 10 rfl rfl)
theorem dX9_drawWay_57 : decode cX9_drawWay 57 = .ok (.bipush 6, 2) := dk_16 6 (dk_at dksX9_drawWay_2 11 rfl rfl)
theorem dX9_drawWay_59 : decode cX9_drawWay 59 = .ok (.if_icmp .ne 21, 3) := dk_160 0 21 (dk_at dksX9_drawWay_2 13 rfl rfl)
theorem dX9_drawWay_62 : decode cX9_drawWay 62 = .ok (.aload_n 0, 1) := dk_42 (dk_at dksX9_drawWay_2 16 rfl rfl)
theorem dX9_drawWay_63 : decode cX9_drawWay 63 = .ok (.bipush 8, 2) := dk_16 8 (dk_at dksX9_drawWay_2 17 rfl rfl)
theorem dX9_drawWay_65 : decode cX9_drawWay 65 = .ok (.aload_n 0, 1) := dk_42 (dk_at dksX9_drawWay_2 19 rfl rfl)
theorem dX9_drawWay_66 : decode cX9_drawWay 66 = .ok (.sipush 200, 3) := dk_17 0 200 (dk_at dksX9_drawWay_2 20 rfl rfl)
theorem dX9_drawWay_69 : decode cX9_drawWay 69 = .ok (.invokevirtual 423, 3) := dk_182 1 167 (dk_at dksX9_drawWay_3 0 rfl rfl)
theorem dX9_drawWay_72 : decode cX9_drawWay 72 = .ok (.iconst 0, 1) := dk_3 (dk_at dksX9_drawWay_3 3 rfl rfl)
theorem dX9_drawWay_73 : decode cX9_drawWay 73 = .ok (.invokevirtual 410, 3) := dk_182 1 154 (dk_at dksX9_drawWay_3 4 rfl rfl)
theorem dX9_drawWay_76 : decode cX9_drawWay 76 = .ok (.pop, 1) := dk_87 (dk_at dksX9_drawWay_3 7 rfl rfl)
theorem dX9_drawWay_77 : decode cX9_drawWay 77 = .ok (.goto 26, 3) := dk_167 0 26 (dk_at dksX9_drawWay_3 8 rfl rfl)
theorem dX9_drawWay_80 : decode cX9_drawWay 80 = .ok (.aload_n 0, 1) := dk_42 (dk_at dksX9_drawWay_3 11 rfl rfl)
theorem dX9_drawWay_81 : decode cX9_drawWay 81 = .ok (.bipush 100, 2) := dk_16 100 (dk_at dksX9_drawWay_3 12 rfl rfl)
theorem dX9_drawWay_83 : decode cX9_drawWay 83 = .ok (.invokevirtual 423, 3) := dk_182 1 167 (dk_at dksX9_drawWay_3 14 rfl rfl)
theorem dX9_drawWay_86 : decode cX9_drawWay 86 = .ok (.istore_n 2, 1) := dk_61 (dk_at dksX9_drawWay_3 17 rfl rfl)
theorem dX9_drawWay_87 : decode cX9_drawWay 87 = .ok (.aload_n 0, 1) := dk_42 (dk_at dksX9_drawWay_3 18 rfl rfl)
theorem dX9_drawWay_88 : decode cX9_drawWay 88 = .ok (.bipush 6, 2) := dk_16 6 (dk_at dksX9_drawWay_3 19 rfl rfl)
theorem dX9_drawWay_90 : decode cX9_drawWay 90 = .ok (.iload_n 2, 1) := dk_28 (dk_at dksX9_drawWay_3 21 rfl rfl)
theorem dX9_drawWay_91 : decode cX9_drawWay 91 = .ok (.aload_n 0, 1) := dk_42 (dk_at dksX9_drawWay_3 22 rfl rfl)
theorem dX9_drawWay_92 : decode cX9_drawWay 92 = .ok (.bipush 9, 2) := dk_16 9 (dk_at dksX9_drawWay_4 0 rfl rfl)
theorem dX9_drawWay_94 : decode cX9_drawWay 94 = .ok (.invokevirtual 423, 3) := dk_182 1 167 (dk_at dksX9_drawWay_4 2 rfl rfl)
theorem dX9_drawWay_97 : decode cX9_drawWay 97 = .ok (.iconst 1, 1) := dk_4 (dk_at dksX9_drawWay_4 5 rfl rfl)
theorem dX9_drawWay_98 : decode cX9_drawWay 98 = .ok (.iadd, 1) := dk_96 (dk_at dksX9_drawWay_4 6 rfl rfl)
theorem dX9_drawWay_99 : decode cX9_drawWay 99 = .ok (.invokevirtual 410, 3) := dk_182 1 154 (dk_at dksX9_drawWay_4 7 rfl rfl)
theorem dX9_drawWay_102 : decode cX9_drawWay 102 = .ok (.pop, 1) := dk_87 (dk_at dksX9_drawWay_4 10 rfl rfl)
theorem dX9_drawWay_103 : decode cX9_drawWay 103 = .ok (.return_, 1) := dk_177 (dk_at dksX9_drawWay_4 11 rfl rfl)
def dkwX9_draw_1 : List UInt8 := [133, 113, 136, 172]
abbrev dktX9_draw_1 : List UInt8 := dkwX9_draw_1 ++ []
def dkwX9_draw_0 : List UInt8 := [42, 42, 180, 1, 160, 20, 1, 163, 105, 20, 1, 165, 97, 181, 1, 160, 42, 180, 1, 160, 16, 33, 125, 27]
abbrev dktX9_draw_0 : List UInt8 := dkwX9_draw_0 ++ dktX9_draw_1
theorem dksX9_draw_0 : cX9_draw.data.toList.drop 0 = dktX9_draw_0 := by decide +kernel
theorem dksX9_draw_1 : cX9_draw.data.toList.drop 24 = dktX9_draw_1 := dk_seg dksX9_draw_0 24 rfl rfl
theorem dX9_draw_0 : decode cX9_draw 0 = .ok (.aload_n 0, 1) := dk_42 (dk_at dksX9_draw_0 0 rfl rfl)
theorem dX9_draw_1 : decode cX9_draw 1 = .ok (.aload_n 0, 1) := dk_42 (dk_at dksX9_draw_0 1 rfl rfl)
theorem dX9_draw_2 : decode cX9_draw 2 = .ok (.getfield 416, 3) := dk_180 1 160 (dk_at dksX9_draw_0 2 rfl rfl)
theorem dX9_draw_5 : decode cX9_draw 5 = .ok (.ldc2_w 419, 3) := dk_20 1 163 (dk_at dksX9_draw_0 5 rfl rfl)
theorem dX9_draw_8 : decode cX9_draw 8 = .ok (.lmul, 1) := dk_105 (dk_at dksX9_draw_0 8 rfl rfl)
theorem dX9_draw_9 : decode cX9_draw 9 = .ok (.ldc2_w 421, 3) := dk_20 1 165 (dk_at dksX9_draw_0 9 rfl rfl)
theorem dX9_draw_12 : decode cX9_draw 12 = .ok (.ladd, 1) := dk_97 (dk_at dksX9_draw_0 12 rfl rfl)
theorem dX9_draw_13 : decode cX9_draw 13 = .ok (.putfield 416, 3) := dk_181 1 160 (dk_at dksX9_draw_0 13 rfl rfl)
theorem dX9_draw_16 : decode cX9_draw 16 = .ok (.aload_n 0, 1) := dk_42 (dk_at dksX9_draw_0 16 rfl rfl)
theorem dX9_draw_17 : decode cX9_draw 17 = .ok (.getfield 416, 3) := dk_180 1 160 (dk_at dksX9_draw_0 17 rfl rfl)
theorem dX9_draw_20 : decode cX9_draw 20 = .ok (.bipush 33, 2) := dk_16 33 (dk_at dksX9_draw_0 20 rfl rfl)
theorem dX9_draw_22 : decode cX9_draw 22 = .ok (.lushr, 1) := dk_125 (dk_at dksX9_draw_0 22 rfl rfl)
theorem dX9_draw_23 : decode cX9_draw 23 = .ok (.iload_n 1, 1) := dk_27 (dk_at dksX9_draw_0 23 rfl rfl)
theorem dX9_draw_24 : decode cX9_draw 24 = .ok (.i2l, 1) := dk_133 (dk_at dksX9_draw_1 0 rfl rfl)
theorem dX9_draw_25 : decode cX9_draw 25 = .ok (.lrem, 1) := dk_113 (dk_at dksX9_draw_1 1 rfl rfl)
theorem dX9_draw_26 : decode cX9_draw 26 = .ok (.l2i, 1) := dk_136 (dk_at dksX9_draw_1 2 rfl rfl)
theorem dX9_draw_27 : decode cX9_draw 27 = .ok (.ireturn, 1) := dk_172 (dk_at dksX9_draw_1 3 rfl rfl)
def dkwX9_status_0 : List UInt8 := [27, 3, 4, 184, 0, 103, 153, 0, 12, 42, 180, 0, 35, 27, 46, 167, 0, 4, 2, 172]
abbrev dktX9_status_0 : List UInt8 := dkwX9_status_0 ++ []
theorem dksX9_status_0 : cX9_status.data.toList.drop 0 = dktX9_status_0 := by decide +kernel
theorem dX9_status_0 : decode cX9_status 0 = .ok (.iload_n 1, 1) := dk_27 (dk_at dksX9_status_0 0 rfl rfl)
theorem dX9_status_1 : decode cX9_status 1 = .ok (.iconst 0, 1) := dk_3 (dk_at dksX9_status_0 1 rfl rfl)
theorem dX9_status_2 : decode cX9_status 2 = .ok (.iconst 1, 1) := dk_4 (dk_at dksX9_status_0 2 rfl rfl)
theorem dX9_status_3 : decode cX9_status 3 = .ok (.invokestatic 103, 3) := dk_184 0 103 (dk_at dksX9_status_0 3 rfl rfl)
theorem dX9_status_6 : decode cX9_status 6 = .ok (.ifCond .eq 12, 3) := dk_153 0 12 (dk_at dksX9_status_0 6 rfl rfl)
theorem dX9_status_9 : decode cX9_status 9 = .ok (.aload_n 0, 1) := dk_42 (dk_at dksX9_status_0 9 rfl rfl)
theorem dX9_status_10 : decode cX9_status 10 = .ok (.getfield 35, 3) := dk_180 0 35 (dk_at dksX9_status_0 10 rfl rfl)
theorem dX9_status_13 : decode cX9_status 13 = .ok (.iload_n 1, 1) := dk_27 (dk_at dksX9_status_0 13 rfl rfl)
theorem dX9_status_14 : decode cX9_status 14 = .ok (.iaload, 1) := dk_46 (dk_at dksX9_status_0 14 rfl rfl)
theorem dX9_status_15 : decode cX9_status 15 = .ok (.goto 4, 3) := dk_167 0 4 (dk_at dksX9_status_0 15 rfl rfl)
theorem dX9_status_18 : decode cX9_status 18 = .ok (.iconst (-1), 1) := dk_2 (dk_at dksX9_status_0 18 rfl rfl)
theorem dX9_status_19 : decode cX9_status 19 = .ok (.ireturn, 1) := dk_172 (dk_at dksX9_status_0 19 rfl rfl)
def dkwX9_undo_2 : List UInt8 := [96, 46, 79, 132, 1, 1, 167, 255, 225, 42, 180, 1, 10, 172]
abbrev dktX9_undo_2 : List UInt8 := dkwX9_undo_2 ++ []
def dkwX9_undo_1 : List UInt8 := [17, 0, 231, 162, 0, 30, 42, 180, 0, 32, 27, 42, 180, 0, 77, 17, 0, 231, 42, 180, 1, 10, 104, 27]
abbrev dktX9_undo_1 : List UInt8 := dkwX9_undo_1 ++ dktX9_undo_2
def dkwX9_undo_0 : List UInt8 := [42, 180, 1, 10, 154, 0, 5, 2, 172, 42, 89, 180, 1, 10, 4, 100, 181, 1, 10, 3, 60, 27]
abbrev dktX9_undo_0 : List UInt8 := dkwX9_undo_0 ++ dktX9_undo_1
theorem dksX9_undo_0 : cX9_undo.data.toList.drop 0 = dktX9_undo_0 := by decide +kernel
theorem dksX9_undo_1 : cX9_undo.data.toList.drop 22 = dktX9_undo_1 := dk_seg dksX9_undo_0 22 rfl rfl
theorem dksX9_undo_2 : cX9_undo.data.toList.drop 46 = dktX9_undo_2 := dk_seg dksX9_undo_1 24 rfl rfl
theorem dX9_undo_0 : decode cX9_undo 0 = .ok (.aload_n 0, 1) := dk_42 (dk_at dksX9_undo_0 0 rfl rfl)
theorem dX9_undo_1 : decode cX9_undo 1 = .ok (.getfield 266, 3) := dk_180 1 10 (dk_at dksX9_undo_0 1 rfl rfl)
theorem dX9_undo_4 : decode cX9_undo 4 = .ok (.ifCond .ne 5, 3) := dk_154 0 5 (dk_at dksX9_undo_0 4 rfl rfl)
theorem dX9_undo_7 : decode cX9_undo 7 = .ok (.iconst (-1), 1) := dk_2 (dk_at dksX9_undo_0 7 rfl rfl)
theorem dX9_undo_8 : decode cX9_undo 8 = .ok (.ireturn, 1) := dk_172 (dk_at dksX9_undo_0 8 rfl rfl)
theorem dX9_undo_9 : decode cX9_undo 9 = .ok (.aload_n 0, 1) := dk_42 (dk_at dksX9_undo_0 9 rfl rfl)
theorem dX9_undo_10 : decode cX9_undo 10 = .ok (.dup, 1) := dk_89 (dk_at dksX9_undo_0 10 rfl rfl)
theorem dX9_undo_11 : decode cX9_undo 11 = .ok (.getfield 266, 3) := dk_180 1 10 (dk_at dksX9_undo_0 11 rfl rfl)
theorem dX9_undo_14 : decode cX9_undo 14 = .ok (.iconst 1, 1) := dk_4 (dk_at dksX9_undo_0 14 rfl rfl)
theorem dX9_undo_15 : decode cX9_undo 15 = .ok (.isub, 1) := dk_100 (dk_at dksX9_undo_0 15 rfl rfl)
theorem dX9_undo_16 : decode cX9_undo 16 = .ok (.putfield 266, 3) := dk_181 1 10 (dk_at dksX9_undo_0 16 rfl rfl)
theorem dX9_undo_19 : decode cX9_undo 19 = .ok (.iconst 0, 1) := dk_3 (dk_at dksX9_undo_0 19 rfl rfl)
theorem dX9_undo_20 : decode cX9_undo 20 = .ok (.istore_n 1, 1) := dk_60 (dk_at dksX9_undo_0 20 rfl rfl)
theorem dX9_undo_21 : decode cX9_undo 21 = .ok (.iload_n 1, 1) := dk_27 (dk_at dksX9_undo_0 21 rfl rfl)
theorem dX9_undo_22 : decode cX9_undo 22 = .ok (.sipush 231, 3) := dk_17 0 231 (dk_at dksX9_undo_1 0 rfl rfl)
theorem dX9_undo_25 : decode cX9_undo 25 = .ok (.if_icmp .ge 30, 3) := dk_162 0 30 (dk_at dksX9_undo_1 3 rfl rfl)
theorem dX9_undo_28 : decode cX9_undo 28 = .ok (.aload_n 0, 1) := dk_42 (dk_at dksX9_undo_1 6 rfl rfl)
theorem dX9_undo_29 : decode cX9_undo 29 = .ok (.getfield 32, 3) := dk_180 0 32 (dk_at dksX9_undo_1 7 rfl rfl)
theorem dX9_undo_32 : decode cX9_undo 32 = .ok (.iload_n 1, 1) := dk_27 (dk_at dksX9_undo_1 10 rfl rfl)
theorem dX9_undo_33 : decode cX9_undo 33 = .ok (.aload_n 0, 1) := dk_42 (dk_at dksX9_undo_1 11 rfl rfl)
theorem dX9_undo_34 : decode cX9_undo 34 = .ok (.getfield 77, 3) := dk_180 0 77 (dk_at dksX9_undo_1 12 rfl rfl)
theorem dX9_undo_37 : decode cX9_undo 37 = .ok (.sipush 231, 3) := dk_17 0 231 (dk_at dksX9_undo_1 15 rfl rfl)
theorem dX9_undo_40 : decode cX9_undo 40 = .ok (.aload_n 0, 1) := dk_42 (dk_at dksX9_undo_1 18 rfl rfl)
theorem dX9_undo_41 : decode cX9_undo 41 = .ok (.getfield 266, 3) := dk_180 1 10 (dk_at dksX9_undo_1 19 rfl rfl)
theorem dX9_undo_44 : decode cX9_undo 44 = .ok (.imul, 1) := dk_104 (dk_at dksX9_undo_1 22 rfl rfl)
theorem dX9_undo_45 : decode cX9_undo 45 = .ok (.iload_n 1, 1) := dk_27 (dk_at dksX9_undo_1 23 rfl rfl)
theorem dX9_undo_46 : decode cX9_undo 46 = .ok (.iadd, 1) := dk_96 (dk_at dksX9_undo_2 0 rfl rfl)
theorem dX9_undo_47 : decode cX9_undo 47 = .ok (.iaload, 1) := dk_46 (dk_at dksX9_undo_2 1 rfl rfl)
theorem dX9_undo_48 : decode cX9_undo 48 = .ok (.iastore, 1) := dk_79 (dk_at dksX9_undo_2 2 rfl rfl)
theorem dX9_undo_49 : decode cX9_undo 49 = .ok (.iinc 1 1, 3) := dk_132 1 1 (dk_at dksX9_undo_2 3 rfl rfl)
theorem dX9_undo_52 : decode cX9_undo 52 = .ok (.goto (-31), 3) := dk_167 255 225 (dk_at dksX9_undo_2 6 rfl rfl)
theorem dX9_undo_55 : decode cX9_undo 55 = .ok (.aload_n 0, 1) := dk_42 (dk_at dksX9_undo_2 9 rfl rfl)
theorem dX9_undo_56 : decode cX9_undo 56 = .ok (.getfield 266, 3) := dk_180 1 10 (dk_at dksX9_undo_2 10 rfl rfl)
theorem dX9_undo_59 : decode cX9_undo 59 = .ok (.ireturn, 1) := dk_172 (dk_at dksX9_undo_2 13 rfl rfl)
def dkwX9_log_2 : List UInt8 := [96, 46, 167, 0, 5, 18, 240, 172]
abbrev dktX9_log_2 : List UInt8 := dkwX9_log_2 ++ []
def dkwX9_log_1 : List UInt8 := [153, 0, 29, 42, 180, 0, 32, 16, 51, 6, 42, 180, 0, 32, 16, 50, 46, 4, 100, 27, 100, 104, 96, 28]
abbrev dktX9_log_1 : List UInt8 := dkwX9_log_1 ++ dktX9_log_2
def dkwX9_log_0 : List UInt8 := [27, 3, 42, 180, 0, 32, 16, 50, 46, 4, 100, 184, 0, 103, 153, 0, 38, 28, 3, 5, 184, 0, 103]
abbrev dktX9_log_0 : List UInt8 := dkwX9_log_0 ++ dktX9_log_1
theorem dksX9_log_0 : cX9_log.data.toList.drop 0 = dktX9_log_0 := by decide +kernel
theorem dksX9_log_1 : cX9_log.data.toList.drop 23 = dktX9_log_1 := dk_seg dksX9_log_0 23 rfl rfl
theorem dksX9_log_2 : cX9_log.data.toList.drop 47 = dktX9_log_2 := dk_seg dksX9_log_1 24 rfl rfl
theorem dX9_log_0 : decode cX9_log 0 = .ok (.iload_n 1, 1) := dk_27 (dk_at dksX9_log_0 0 rfl rfl)
theorem dX9_log_1 : decode cX9_log 1 = .ok (.iconst 0, 1) := dk_3 (dk_at dksX9_log_0 1 rfl rfl)
theorem dX9_log_2 : decode cX9_log 2 = .ok (.aload_n 0, 1) := dk_42 (dk_at dksX9_log_0 2 rfl rfl)
theorem dX9_log_3 : decode cX9_log 3 = .ok (.getfield 32, 3) := dk_180 0 32 (dk_at dksX9_log_0 3 rfl rfl)
theorem dX9_log_6 : decode cX9_log 6 = .ok (.bipush 50, 2) := dk_16 50 (dk_at dksX9_log_0 6 rfl rfl)
theorem dX9_log_8 : decode cX9_log 8 = .ok (.iaload, 1) := dk_46 (dk_at dksX9_log_0 8 rfl rfl)
theorem dX9_log_9 : decode cX9_log 9 = .ok (.iconst 1, 1) := dk_4 (dk_at dksX9_log_0 9 rfl rfl)
theorem dX9_log_10 : decode cX9_log 10 = .ok (.isub, 1) := dk_100 (dk_at dksX9_log_0 10 rfl rfl)
theorem dX9_log_11 : decode cX9_log 11 = .ok (.invokestatic 103, 3) := dk_184 0 103 (dk_at dksX9_log_0 11 rfl rfl)
theorem dX9_log_14 : decode cX9_log 14 = .ok (.ifCond .eq 38, 3) := dk_153 0 38 (dk_at dksX9_log_0 14 rfl rfl)
theorem dX9_log_17 : decode cX9_log 17 = .ok (.iload_n 2, 1) := dk_28 (dk_at dksX9_log_0 17 rfl rfl)
theorem dX9_log_18 : decode cX9_log 18 = .ok (.iconst 0, 1) := dk_3 (dk_at dksX9_log_0 18 rfl rfl)
theorem dX9_log_19 : decode cX9_log 19 = .ok (.iconst 2, 1) := dk_5 (dk_at dksX9_log_0 19 rfl rfl)
theorem dX9_log_20 : decode cX9_log 20 = .ok (.invokestatic 103, 3) := dk_184 0 103 (dk_at dksX9_log_0 20 rfl rfl)
theorem dX9_log_23 : decode cX9_log 23 = .ok (.ifCond .eq 29, 3) := dk_153 0 29 (dk_at dksX9_log_1 0 rfl rfl)
theorem dX9_log_26 : decode cX9_log 26 = .ok (.aload_n 0, 1) := dk_42 (dk_at dksX9_log_1 3 rfl rfl)
theorem dX9_log_27 : decode cX9_log 27 = .ok (.getfield 32, 3) := dk_180 0 32 (dk_at dksX9_log_1 4 rfl rfl)
theorem dX9_log_30 : decode cX9_log 30 = .ok (.bipush 51, 2) := dk_16 51 (dk_at dksX9_log_1 7 rfl rfl)
theorem dX9_log_32 : decode cX9_log 32 = .ok (.iconst 3, 1) := dk_6 (dk_at dksX9_log_1 9 rfl rfl)
theorem dX9_log_33 : decode cX9_log 33 = .ok (.aload_n 0, 1) := dk_42 (dk_at dksX9_log_1 10 rfl rfl)
theorem dX9_log_34 : decode cX9_log 34 = .ok (.getfield 32, 3) := dk_180 0 32 (dk_at dksX9_log_1 11 rfl rfl)
theorem dX9_log_37 : decode cX9_log 37 = .ok (.bipush 50, 2) := dk_16 50 (dk_at dksX9_log_1 14 rfl rfl)
theorem dX9_log_39 : decode cX9_log 39 = .ok (.iaload, 1) := dk_46 (dk_at dksX9_log_1 16 rfl rfl)
theorem dX9_log_40 : decode cX9_log 40 = .ok (.iconst 1, 1) := dk_4 (dk_at dksX9_log_1 17 rfl rfl)
theorem dX9_log_41 : decode cX9_log 41 = .ok (.isub, 1) := dk_100 (dk_at dksX9_log_1 18 rfl rfl)
theorem dX9_log_42 : decode cX9_log 42 = .ok (.iload_n 1, 1) := dk_27 (dk_at dksX9_log_1 19 rfl rfl)
theorem dX9_log_43 : decode cX9_log 43 = .ok (.isub, 1) := dk_100 (dk_at dksX9_log_1 20 rfl rfl)
theorem dX9_log_44 : decode cX9_log 44 = .ok (.imul, 1) := dk_104 (dk_at dksX9_log_1 21 rfl rfl)
theorem dX9_log_45 : decode cX9_log 45 = .ok (.iadd, 1) := dk_96 (dk_at dksX9_log_1 22 rfl rfl)
theorem dX9_log_46 : decode cX9_log 46 = .ok (.iload_n 2, 1) := dk_28 (dk_at dksX9_log_1 23 rfl rfl)
theorem dX9_log_47 : decode cX9_log 47 = .ok (.iadd, 1) := dk_96 (dk_at dksX9_log_2 0 rfl rfl)
theorem dX9_log_48 : decode cX9_log 48 = .ok (.iaload, 1) := dk_46 (dk_at dksX9_log_2 1 rfl rfl)
theorem dX9_log_49 : decode cX9_log 49 = .ok (.goto 5, 3) := dk_167 0 5 (dk_at dksX9_log_2 2 rfl rfl)
theorem dX9_log_52 : decode cX9_log 52 = .ok (.ldc 240, 2) := dk_18 240 (dk_at dksX9_log_2 5 rfl rfl)
theorem dX9_log_54 : decode cX9_log 54 = .ok (.ireturn, 1) := dk_172 (dk_at dksX9_log_2 7 rfl rfl)
def dkwX9_rule_3 : List UInt8 := [180, 1, 25, 172, 42, 180, 1, 58, 172, 42, 182, 1, 49, 172, 42, 182, 1, 173, 172]
abbrev dktX9_rule_3 : List UInt8 := dkwX9_rule_3 ++ []
def dkwX9_rule_2 : List UInt8 := [42, 182, 1, 1, 172, 42, 180, 0, 32, 16, 49, 46, 172, 42, 180, 1, 4, 172, 42, 180, 1, 7, 172, 42]
abbrev dktX9_rule_2 : List UInt8 := dkwX9_rule_2 ++ dktX9_rule_3
def dkwX9_rule_1 : List UInt8 := [170, 0, 0, 0, 0, 0, 0, 82, 0, 0, 0, 0, 0, 0, 0, 6, 0, 0, 0, 44, 0, 0, 0, 49, 0, 0, 0, 57, 0, 0, 0, 62, 0, 0, 0, 67, 0, 0, 0, 72, 0, 0, 0, 77]
abbrev dktX9_rule_1 : List UInt8 := dkwX9_rule_1 ++ dktX9_rule_2
def dkwX9_rule_0 : List UInt8 := [42, 180, 0, 254, 153, 0, 13, 27, 3, 16, 7, 184, 0, 103, 154, 0, 5, 2, 172, 42, 182, 1, 101, 27]
abbrev dktX9_rule_0 : List UInt8 := dkwX9_rule_0 ++ dktX9_rule_1
theorem dksX9_rule_0 : cX9_rule.data.toList.drop 0 = dktX9_rule_0 := by decide +kernel
theorem dksX9_rule_1 : cX9_rule.data.toList.drop 24 = dktX9_rule_1 := dk_seg dksX9_rule_0 24 rfl rfl
theorem dksX9_rule_2 : cX9_rule.data.toList.drop 68 = dktX9_rule_2 := dk_seg dksX9_rule_1 44 rfl rfl
theorem dksX9_rule_3 : cX9_rule.data.toList.drop 92 = dktX9_rule_3 := dk_seg dksX9_rule_2 24 rfl rfl
theorem dX9_rule_0 : decode cX9_rule 0 = .ok (.aload_n 0, 1) := dk_42 (dk_at dksX9_rule_0 0 rfl rfl)
theorem dX9_rule_1 : decode cX9_rule 1 = .ok (.getfield 254, 3) := dk_180 0 254 (dk_at dksX9_rule_0 1 rfl rfl)
theorem dX9_rule_4 : decode cX9_rule 4 = .ok (.ifCond .eq 13, 3) := dk_153 0 13 (dk_at dksX9_rule_0 4 rfl rfl)
theorem dX9_rule_7 : decode cX9_rule 7 = .ok (.iload_n 1, 1) := dk_27 (dk_at dksX9_rule_0 7 rfl rfl)
theorem dX9_rule_8 : decode cX9_rule 8 = .ok (.iconst 0, 1) := dk_3 (dk_at dksX9_rule_0 8 rfl rfl)
theorem dX9_rule_9 : decode cX9_rule 9 = .ok (.bipush 7, 2) := dk_16 7 (dk_at dksX9_rule_0 9 rfl rfl)
theorem dX9_rule_11 : decode cX9_rule 11 = .ok (.invokestatic 103, 3) := dk_184 0 103 (dk_at dksX9_rule_0 11 rfl rfl)
theorem dX9_rule_14 : decode cX9_rule 14 = .ok (.ifCond .ne 5, 3) := dk_154 0 5 (dk_at dksX9_rule_0 14 rfl rfl)
theorem dX9_rule_17 : decode cX9_rule 17 = .ok (.iconst (-1), 1) := dk_2 (dk_at dksX9_rule_0 17 rfl rfl)
theorem dX9_rule_18 : decode cX9_rule 18 = .ok (.ireturn, 1) := dk_172 (dk_at dksX9_rule_0 18 rfl rfl)
theorem dX9_rule_19 : decode cX9_rule 19 = .ok (.aload_n 0, 1) := dk_42 (dk_at dksX9_rule_0 19 rfl rfl)
theorem dX9_rule_20 : decode cX9_rule 20 = .ok (.invokevirtual 357, 3) := dk_182 1 101 (dk_at dksX9_rule_0 20 rfl rfl)
theorem dX9_rule_23 : decode cX9_rule 23 = .ok (.iload_n 1, 1) := dk_27 (dk_at dksX9_rule_0 23 rfl rfl)
theorem dX9_rule_24 : decode cX9_rule 24 = .ok (.tableswitch 82 0 6 #[44, 49, 57, 62, 67, 72, 77], 44) := by decide +kernel
theorem dX9_rule_68 : decode cX9_rule 68 = .ok (.aload_n 0, 1) := dk_42 (dk_at dksX9_rule_2 0 rfl rfl)
theorem dX9_rule_69 : decode cX9_rule 69 = .ok (.invokevirtual 257, 3) := dk_182 1 1 (dk_at dksX9_rule_2 1 rfl rfl)
theorem dX9_rule_72 : decode cX9_rule 72 = .ok (.ireturn, 1) := dk_172 (dk_at dksX9_rule_2 4 rfl rfl)
theorem dX9_rule_73 : decode cX9_rule 73 = .ok (.aload_n 0, 1) := dk_42 (dk_at dksX9_rule_2 5 rfl rfl)
theorem dX9_rule_74 : decode cX9_rule 74 = .ok (.getfield 32, 3) := dk_180 0 32 (dk_at dksX9_rule_2 6 rfl rfl)
theorem dX9_rule_77 : decode cX9_rule 77 = .ok (.bipush 49, 2) := dk_16 49 (dk_at dksX9_rule_2 9 rfl rfl)
theorem dX9_rule_79 : decode cX9_rule 79 = .ok (.iaload, 1) := dk_46 (dk_at dksX9_rule_2 11 rfl rfl)
theorem dX9_rule_80 : decode cX9_rule 80 = .ok (.ireturn, 1) := dk_172 (dk_at dksX9_rule_2 12 rfl rfl)
theorem dX9_rule_81 : decode cX9_rule 81 = .ok (.aload_n 0, 1) := dk_42 (dk_at dksX9_rule_2 13 rfl rfl)
theorem dX9_rule_82 : decode cX9_rule 82 = .ok (.getfield 260, 3) := dk_180 1 4 (dk_at dksX9_rule_2 14 rfl rfl)
theorem dX9_rule_85 : decode cX9_rule 85 = .ok (.ireturn, 1) := dk_172 (dk_at dksX9_rule_2 17 rfl rfl)
theorem dX9_rule_86 : decode cX9_rule 86 = .ok (.aload_n 0, 1) := dk_42 (dk_at dksX9_rule_2 18 rfl rfl)
theorem dX9_rule_87 : decode cX9_rule 87 = .ok (.getfield 263, 3) := dk_180 1 7 (dk_at dksX9_rule_2 19 rfl rfl)
theorem dX9_rule_90 : decode cX9_rule 90 = .ok (.ireturn, 1) := dk_172 (dk_at dksX9_rule_2 22 rfl rfl)
theorem dX9_rule_91 : decode cX9_rule 91 = .ok (.aload_n 0, 1) := dk_42 (dk_at dksX9_rule_2 23 rfl rfl)
theorem dX9_rule_92 : decode cX9_rule 92 = .ok (.getfield 281, 3) := dk_180 1 25 (dk_at dksX9_rule_3 0 rfl rfl)
theorem dX9_rule_95 : decode cX9_rule 95 = .ok (.ireturn, 1) := dk_172 (dk_at dksX9_rule_3 3 rfl rfl)
theorem dX9_rule_96 : decode cX9_rule 96 = .ok (.aload_n 0, 1) := dk_42 (dk_at dksX9_rule_3 4 rfl rfl)
theorem dX9_rule_97 : decode cX9_rule 97 = .ok (.getfield 314, 3) := dk_180 1 58 (dk_at dksX9_rule_3 5 rfl rfl)
theorem dX9_rule_100 : decode cX9_rule 100 = .ok (.ireturn, 1) := dk_172 (dk_at dksX9_rule_3 8 rfl rfl)
theorem dX9_rule_101 : decode cX9_rule 101 = .ok (.aload_n 0, 1) := dk_42 (dk_at dksX9_rule_3 9 rfl rfl)
theorem dX9_rule_102 : decode cX9_rule 102 = .ok (.invokevirtual 305, 3) := dk_182 1 49 (dk_at dksX9_rule_3 10 rfl rfl)
theorem dX9_rule_105 : decode cX9_rule 105 = .ok (.ireturn, 1) := dk_172 (dk_at dksX9_rule_3 13 rfl rfl)
theorem dX9_rule_106 : decode cX9_rule 106 = .ok (.aload_n 0, 1) := dk_42 (dk_at dksX9_rule_3 14 rfl rfl)
theorem dX9_rule_107 : decode cX9_rule 107 = .ok (.invokevirtual 429, 3) := dk_182 1 173 (dk_at dksX9_rule_3 15 rfl rfl)
theorem dX9_rule_110 : decode cX9_rule 110 = .ok (.ireturn, 1) := dk_172 (dk_at dksX9_rule_3 18 rfl rfl)
def dkwX9_sumOf_1 : List UInt8 := [167, 255, 236, 27, 172]
abbrev dktX9_sumOf_1 : List UInt8 := dkwX9_sumOf_1 ++ []
def dkwX9_sumOf_0 : List UInt8 := [3, 60, 3, 61, 28, 42, 182, 1, 1, 162, 0, 18, 27, 42, 180, 0, 32, 28, 46, 96, 60, 132, 2, 1]
abbrev dktX9_sumOf_0 : List UInt8 := dkwX9_sumOf_0 ++ dktX9_sumOf_1
theorem dksX9_sumOf_0 : cX9_sumOf.data.toList.drop 0 = dktX9_sumOf_0 := by decide +kernel
theorem dksX9_sumOf_1 : cX9_sumOf.data.toList.drop 24 = dktX9_sumOf_1 := dk_seg dksX9_sumOf_0 24 rfl rfl
theorem dX9_sumOf_0 : decode cX9_sumOf 0 = .ok (.iconst 0, 1) := dk_3 (dk_at dksX9_sumOf_0 0 rfl rfl)
theorem dX9_sumOf_1 : decode cX9_sumOf 1 = .ok (.istore_n 1, 1) := dk_60 (dk_at dksX9_sumOf_0 1 rfl rfl)
theorem dX9_sumOf_2 : decode cX9_sumOf 2 = .ok (.iconst 0, 1) := dk_3 (dk_at dksX9_sumOf_0 2 rfl rfl)
theorem dX9_sumOf_3 : decode cX9_sumOf 3 = .ok (.istore_n 2, 1) := dk_61 (dk_at dksX9_sumOf_0 3 rfl rfl)
theorem dX9_sumOf_4 : decode cX9_sumOf 4 = .ok (.iload_n 2, 1) := dk_28 (dk_at dksX9_sumOf_0 4 rfl rfl)
theorem dX9_sumOf_5 : decode cX9_sumOf 5 = .ok (.aload_n 0, 1) := dk_42 (dk_at dksX9_sumOf_0 5 rfl rfl)
theorem dX9_sumOf_6 : decode cX9_sumOf 6 = .ok (.invokevirtual 257, 3) := dk_182 1 1 (dk_at dksX9_sumOf_0 6 rfl rfl)
theorem dX9_sumOf_9 : decode cX9_sumOf 9 = .ok (.if_icmp .ge 18, 3) := dk_162 0 18 (dk_at dksX9_sumOf_0 9 rfl rfl)
theorem dX9_sumOf_12 : decode cX9_sumOf 12 = .ok (.iload_n 1, 1) := dk_27 (dk_at dksX9_sumOf_0 12 rfl rfl)
theorem dX9_sumOf_13 : decode cX9_sumOf 13 = .ok (.aload_n 0, 1) := dk_42 (dk_at dksX9_sumOf_0 13 rfl rfl)
theorem dX9_sumOf_14 : decode cX9_sumOf 14 = .ok (.getfield 32, 3) := dk_180 0 32 (dk_at dksX9_sumOf_0 14 rfl rfl)
theorem dX9_sumOf_17 : decode cX9_sumOf 17 = .ok (.iload_n 2, 1) := dk_28 (dk_at dksX9_sumOf_0 17 rfl rfl)
theorem dX9_sumOf_18 : decode cX9_sumOf 18 = .ok (.iaload, 1) := dk_46 (dk_at dksX9_sumOf_0 18 rfl rfl)
theorem dX9_sumOf_19 : decode cX9_sumOf 19 = .ok (.iadd, 1) := dk_96 (dk_at dksX9_sumOf_0 19 rfl rfl)
theorem dX9_sumOf_20 : decode cX9_sumOf 20 = .ok (.istore_n 1, 1) := dk_60 (dk_at dksX9_sumOf_0 20 rfl rfl)
theorem dX9_sumOf_21 : decode cX9_sumOf 21 = .ok (.iinc 2 1, 3) := dk_132 2 1 (dk_at dksX9_sumOf_0 21 rfl rfl)
theorem dX9_sumOf_24 : decode cX9_sumOf 24 = .ok (.goto (-20), 3) := dk_167 255 236 (dk_at dksX9_sumOf_1 0 rfl rfl)
theorem dX9_sumOf_27 : decode cX9_sumOf 27 = .ok (.iload_n 1, 1) := dk_27 (dk_at dksX9_sumOf_1 3 rfl rfl)
theorem dX9_sumOf_28 : decode cX9_sumOf 28 = .ok (.ireturn, 1) := dk_172 (dk_at dksX9_sumOf_1 4 rfl rfl)
def dkwX9_sample_0 : List UInt8 := [42, 27, 182, 1, 110, 153, 0, 12, 42, 180, 0, 32, 27, 46, 167, 0, 4, 2, 172]
abbrev dktX9_sample_0 : List UInt8 := dkwX9_sample_0 ++ []
theorem dksX9_sample_0 : cX9_sample.data.toList.drop 0 = dktX9_sample_0 := by decide +kernel
theorem dX9_sample_0 : decode cX9_sample 0 = .ok (.aload_n 0, 1) := dk_42 (dk_at dksX9_sample_0 0 rfl rfl)
theorem dX9_sample_1 : decode cX9_sample 1 = .ok (.iload_n 1, 1) := dk_27 (dk_at dksX9_sample_0 1 rfl rfl)
theorem dX9_sample_2 : decode cX9_sample 2 = .ok (.invokevirtual 366, 3) := dk_182 1 110 (dk_at dksX9_sample_0 2 rfl rfl)
theorem dX9_sample_5 : decode cX9_sample 5 = .ok (.ifCond .eq 12, 3) := dk_153 0 12 (dk_at dksX9_sample_0 5 rfl rfl)
theorem dX9_sample_8 : decode cX9_sample 8 = .ok (.aload_n 0, 1) := dk_42 (dk_at dksX9_sample_0 8 rfl rfl)
theorem dX9_sample_9 : decode cX9_sample 9 = .ok (.getfield 32, 3) := dk_180 0 32 (dk_at dksX9_sample_0 9 rfl rfl)
theorem dX9_sample_12 : decode cX9_sample 12 = .ok (.iload_n 1, 1) := dk_27 (dk_at dksX9_sample_0 12 rfl rfl)
theorem dX9_sample_13 : decode cX9_sample 13 = .ok (.iaload, 1) := dk_46 (dk_at dksX9_sample_0 13 rfl rfl)
theorem dX9_sample_14 : decode cX9_sample 14 = .ok (.goto 4, 3) := dk_167 0 4 (dk_at dksX9_sample_0 14 rfl rfl)
theorem dX9_sample_17 : decode cX9_sample 17 = .ok (.iconst (-1), 1) := dk_2 (dk_at dksX9_sample_0 17 rfl rfl)
theorem dX9_sample_18 : decode cX9_sample 18 = .ok (.ireturn, 1) := dk_172 (dk_at dksX9_sample_0 18 rfl rfl)
def dkwX9_peak_6 : List UInt8 := [172, 42, 27, 182, 1, 182, 172, 42, 180, 0, 68, 27, 46, 172]
abbrev dktX9_peak_6 : List UInt8 := dkwX9_peak_6 ++ []
def dkwX9_peak_5 : List UInt8 := [180, 0, 65, 42, 180, 0, 56, 29, 46, 46, 172, 42, 27, 182, 1, 179, 153, 0, 7, 4, 167, 0, 4, 3]
abbrev dktX9_peak_5 : List UInt8 := dkwX9_peak_5 ++ dktX9_peak_6
def dkwX9_peak_4 : List UInt8 := [29, 46, 172, 42, 27, 182, 1, 88, 172, 42, 180, 0, 56, 29, 46, 2, 160, 0, 7, 2, 167, 0, 14, 42]
abbrev dktX9_peak_4 : List UInt8 := dkwX9_peak_4 ++ dktX9_peak_5
def dkwX9_peak_3 : List UInt8 := [42, 180, 0, 47, 29, 46, 172, 42, 27, 182, 1, 85, 172, 42, 180, 0, 50, 29, 46, 172, 42, 180, 0, 53]
abbrev dktX9_peak_3 : List UInt8 := dkwX9_peak_3 ++ dktX9_peak_4
def dkwX9_peak_2 : List UInt8 := [170, 0, 0, 0, 0, 0, 126, 0, 0, 0, 0, 0, 0, 0, 7, 0, 0, 0, 47, 0, 0, 0, 54, 0, 0, 0, 60, 0, 0, 0, 67, 0, 0, 0, 74, 0, 0, 0, 80, 0, 0, 0, 106, 0, 0, 0, 120]
abbrev dktX9_peak_2 : List UInt8 := dkwX9_peak_2 ++ dktX9_peak_3
def dkwX9_peak_1 : List UInt8 := [181, 0, 92, 42, 180, 0, 92, 4, 160, 0, 5, 3, 172, 42, 180, 0, 62, 27, 46, 62, 28]
abbrev dktX9_peak_1 : List UInt8 := dkwX9_peak_1 ++ dktX9_peak_2
def dkwX9_peak_0 : List UInt8 := [42, 42, 27, 182, 1, 176, 153, 0, 17, 28, 3, 16, 8, 184, 0, 103, 153, 0, 7, 3, 167, 0, 4, 4]
abbrev dktX9_peak_0 : List UInt8 := dkwX9_peak_0 ++ dktX9_peak_1
theorem dksX9_peak_0 : cX9_peak.data.toList.drop 0 = dktX9_peak_0 := by decide +kernel
theorem dksX9_peak_1 : cX9_peak.data.toList.drop 24 = dktX9_peak_1 := dk_seg dksX9_peak_0 24 rfl rfl
theorem dksX9_peak_2 : cX9_peak.data.toList.drop 45 = dktX9_peak_2 := dk_seg dksX9_peak_1 21 rfl rfl
theorem dksX9_peak_3 : cX9_peak.data.toList.drop 92 = dktX9_peak_3 := dk_seg dksX9_peak_2 47 rfl rfl
theorem dksX9_peak_4 : cX9_peak.data.toList.drop 116 = dktX9_peak_4 := dk_seg dksX9_peak_3 24 rfl rfl
theorem dksX9_peak_5 : cX9_peak.data.toList.drop 140 = dktX9_peak_5 := dk_seg dksX9_peak_4 24 rfl rfl
theorem dksX9_peak_6 : cX9_peak.data.toList.drop 164 = dktX9_peak_6 := dk_seg dksX9_peak_5 24 rfl rfl
theorem dX9_peak_0 : decode cX9_peak 0 = .ok (.aload_n 0, 1) := dk_42 (dk_at dksX9_peak_0 0 rfl rfl)
theorem dX9_peak_1 : decode cX9_peak 1 = .ok (.aload_n 0, 1) := dk_42 (dk_at dksX9_peak_0 1 rfl rfl)
theorem dX9_peak_2 : decode cX9_peak 2 = .ok (.iload_n 1, 1) := dk_27 (dk_at dksX9_peak_0 2 rfl rfl)
theorem dX9_peak_3 : decode cX9_peak 3 = .ok (.invokevirtual 432, 3) := dk_182 1 176 (dk_at dksX9_peak_0 3 rfl rfl)
theorem dX9_peak_6 : decode cX9_peak 6 = .ok (.ifCond .eq 17, 3) := dk_153 0 17 (dk_at dksX9_peak_0 6 rfl rfl)
theorem dX9_peak_9 : decode cX9_peak 9 = .ok (.iload_n 2, 1) := dk_28 (dk_at dksX9_peak_0 9 rfl rfl)
theorem dX9_peak_10 : decode cX9_peak 10 = .ok (.iconst 0, 1) := dk_3 (dk_at dksX9_peak_0 10 rfl rfl)
theorem dX9_peak_11 : decode cX9_peak 11 = .ok (.bipush 8, 2) := dk_16 8 (dk_at dksX9_peak_0 11 rfl rfl)
theorem dX9_peak_13 : decode cX9_peak 13 = .ok (.invokestatic 103, 3) := dk_184 0 103 (dk_at dksX9_peak_0 13 rfl rfl)
theorem dX9_peak_16 : decode cX9_peak 16 = .ok (.ifCond .eq 7, 3) := dk_153 0 7 (dk_at dksX9_peak_0 16 rfl rfl)
theorem dX9_peak_19 : decode cX9_peak 19 = .ok (.iconst 0, 1) := dk_3 (dk_at dksX9_peak_0 19 rfl rfl)
theorem dX9_peak_20 : decode cX9_peak 20 = .ok (.goto 4, 3) := dk_167 0 4 (dk_at dksX9_peak_0 20 rfl rfl)
theorem dX9_peak_23 : decode cX9_peak 23 = .ok (.iconst 1, 1) := dk_4 (dk_at dksX9_peak_0 23 rfl rfl)
theorem dX9_peak_24 : decode cX9_peak 24 = .ok (.putfield 92, 3) := dk_181 0 92 (dk_at dksX9_peak_1 0 rfl rfl)
theorem dX9_peak_27 : decode cX9_peak 27 = .ok (.aload_n 0, 1) := dk_42 (dk_at dksX9_peak_1 3 rfl rfl)
theorem dX9_peak_28 : decode cX9_peak 28 = .ok (.getfield 92, 3) := dk_180 0 92 (dk_at dksX9_peak_1 4 rfl rfl)
theorem dX9_peak_31 : decode cX9_peak 31 = .ok (.iconst 1, 1) := dk_4 (dk_at dksX9_peak_1 7 rfl rfl)
theorem dX9_peak_32 : decode cX9_peak 32 = .ok (.if_icmp .ne 5, 3) := dk_160 0 5 (dk_at dksX9_peak_1 8 rfl rfl)
theorem dX9_peak_35 : decode cX9_peak 35 = .ok (.iconst 0, 1) := dk_3 (dk_at dksX9_peak_1 11 rfl rfl)
theorem dX9_peak_36 : decode cX9_peak 36 = .ok (.ireturn, 1) := dk_172 (dk_at dksX9_peak_1 12 rfl rfl)
theorem dX9_peak_37 : decode cX9_peak 37 = .ok (.aload_n 0, 1) := dk_42 (dk_at dksX9_peak_1 13 rfl rfl)
theorem dX9_peak_38 : decode cX9_peak 38 = .ok (.getfield 62, 3) := dk_180 0 62 (dk_at dksX9_peak_1 14 rfl rfl)
theorem dX9_peak_41 : decode cX9_peak 41 = .ok (.iload_n 1, 1) := dk_27 (dk_at dksX9_peak_1 17 rfl rfl)
theorem dX9_peak_42 : decode cX9_peak 42 = .ok (.iaload, 1) := dk_46 (dk_at dksX9_peak_1 18 rfl rfl)
theorem dX9_peak_43 : decode cX9_peak 43 = .ok (.istore_n 3, 1) := dk_62 (dk_at dksX9_peak_1 19 rfl rfl)
theorem dX9_peak_44 : decode cX9_peak 44 = .ok (.iload_n 2, 1) := dk_28 (dk_at dksX9_peak_1 20 rfl rfl)
theorem dX9_peak_45 : decode cX9_peak 45 = .ok (.tableswitch 126 0 7 #[47, 54, 60, 67, 74, 80, 106, 120], 47) := by decide +kernel
theorem dX9_peak_92 : decode cX9_peak 92 = .ok (.aload_n 0, 1) := dk_42 (dk_at dksX9_peak_3 0 rfl rfl)
theorem dX9_peak_93 : decode cX9_peak 93 = .ok (.getfield 47, 3) := dk_180 0 47 (dk_at dksX9_peak_3 1 rfl rfl)
theorem dX9_peak_96 : decode cX9_peak 96 = .ok (.iload_n 3, 1) := dk_29 (dk_at dksX9_peak_3 4 rfl rfl)
theorem dX9_peak_97 : decode cX9_peak 97 = .ok (.iaload, 1) := dk_46 (dk_at dksX9_peak_3 5 rfl rfl)
theorem dX9_peak_98 : decode cX9_peak 98 = .ok (.ireturn, 1) := dk_172 (dk_at dksX9_peak_3 6 rfl rfl)
theorem dX9_peak_99 : decode cX9_peak 99 = .ok (.aload_n 0, 1) := dk_42 (dk_at dksX9_peak_3 7 rfl rfl)
theorem dX9_peak_100 : decode cX9_peak 100 = .ok (.iload_n 1, 1) := dk_27 (dk_at dksX9_peak_3 8 rfl rfl)
theorem dX9_peak_101 : decode cX9_peak 101 = .ok (.invokevirtual 341, 3) := dk_182 1 85 (dk_at dksX9_peak_3 9 rfl rfl)
theorem dX9_peak_104 : decode cX9_peak 104 = .ok (.ireturn, 1) := dk_172 (dk_at dksX9_peak_3 12 rfl rfl)
theorem dX9_peak_105 : decode cX9_peak 105 = .ok (.aload_n 0, 1) := dk_42 (dk_at dksX9_peak_3 13 rfl rfl)
theorem dX9_peak_106 : decode cX9_peak 106 = .ok (.getfield 50, 3) := dk_180 0 50 (dk_at dksX9_peak_3 14 rfl rfl)
theorem dX9_peak_109 : decode cX9_peak 109 = .ok (.iload_n 3, 1) := dk_29 (dk_at dksX9_peak_3 17 rfl rfl)
theorem dX9_peak_110 : decode cX9_peak 110 = .ok (.iaload, 1) := dk_46 (dk_at dksX9_peak_3 18 rfl rfl)
theorem dX9_peak_111 : decode cX9_peak 111 = .ok (.ireturn, 1) := dk_172 (dk_at dksX9_peak_3 19 rfl rfl)
theorem dX9_peak_112 : decode cX9_peak 112 = .ok (.aload_n 0, 1) := dk_42 (dk_at dksX9_peak_3 20 rfl rfl)
theorem dX9_peak_113 : decode cX9_peak 113 = .ok (.getfield 53, 3) := dk_180 0 53 (dk_at dksX9_peak_3 21 rfl rfl)
theorem dX9_peak_116 : decode cX9_peak 116 = .ok (.iload_n 3, 1) := dk_29 (dk_at dksX9_peak_4 0 rfl rfl)
theorem dX9_peak_117 : decode cX9_peak 117 = .ok (.iaload, 1) := dk_46 (dk_at dksX9_peak_4 1 rfl rfl)
theorem dX9_peak_118 : decode cX9_peak 118 = .ok (.ireturn, 1) := dk_172 (dk_at dksX9_peak_4 2 rfl rfl)
theorem dX9_peak_119 : decode cX9_peak 119 = .ok (.aload_n 0, 1) := dk_42 (dk_at dksX9_peak_4 3 rfl rfl)
theorem dX9_peak_120 : decode cX9_peak 120 = .ok (.iload_n 1, 1) := dk_27 (dk_at dksX9_peak_4 4 rfl rfl)
theorem dX9_peak_121 : decode cX9_peak 121 = .ok (.invokevirtual 344, 3) := dk_182 1 88 (dk_at dksX9_peak_4 5 rfl rfl)
theorem dX9_peak_124 : decode cX9_peak 124 = .ok (.ireturn, 1) := dk_172 (dk_at dksX9_peak_4 8 rfl rfl)
theorem dX9_peak_125 : decode cX9_peak 125 = .ok (.aload_n 0, 1) := dk_42 (dk_at dksX9_peak_4 9 rfl rfl)
theorem dX9_peak_126 : decode cX9_peak 126 = .ok (.getfield 56, 3) := dk_180 0 56 (dk_at dksX9_peak_4 10 rfl rfl)
theorem dX9_peak_129 : decode cX9_peak 129 = .ok (.iload_n 3, 1) := dk_29 (dk_at dksX9_peak_4 13 rfl rfl)
theorem dX9_peak_130 : decode cX9_peak 130 = .ok (.iaload, 1) := dk_46 (dk_at dksX9_peak_4 14 rfl rfl)
theorem dX9_peak_131 : decode cX9_peak 131 = .ok (.iconst (-1), 1) := dk_2 (dk_at dksX9_peak_4 15 rfl rfl)
theorem dX9_peak_132 : decode cX9_peak 132 = .ok (.if_icmp .ne 7, 3) := dk_160 0 7 (dk_at dksX9_peak_4 16 rfl rfl)
theorem dX9_peak_135 : decode cX9_peak 135 = .ok (.iconst (-1), 1) := dk_2 (dk_at dksX9_peak_4 19 rfl rfl)
theorem dX9_peak_136 : decode cX9_peak 136 = .ok (.goto 14, 3) := dk_167 0 14 (dk_at dksX9_peak_4 20 rfl rfl)
theorem dX9_peak_139 : decode cX9_peak 139 = .ok (.aload_n 0, 1) := dk_42 (dk_at dksX9_peak_4 23 rfl rfl)
theorem dX9_peak_140 : decode cX9_peak 140 = .ok (.getfield 65, 3) := dk_180 0 65 (dk_at dksX9_peak_5 0 rfl rfl)
theorem dX9_peak_143 : decode cX9_peak 143 = .ok (.aload_n 0, 1) := dk_42 (dk_at dksX9_peak_5 3 rfl rfl)
theorem dX9_peak_144 : decode cX9_peak 144 = .ok (.getfield 56, 3) := dk_180 0 56 (dk_at dksX9_peak_5 4 rfl rfl)
theorem dX9_peak_147 : decode cX9_peak 147 = .ok (.iload_n 3, 1) := dk_29 (dk_at dksX9_peak_5 7 rfl rfl)
theorem dX9_peak_148 : decode cX9_peak 148 = .ok (.iaload, 1) := dk_46 (dk_at dksX9_peak_5 8 rfl rfl)
theorem dX9_peak_149 : decode cX9_peak 149 = .ok (.iaload, 1) := dk_46 (dk_at dksX9_peak_5 9 rfl rfl)
theorem dX9_peak_150 : decode cX9_peak 150 = .ok (.ireturn, 1) := dk_172 (dk_at dksX9_peak_5 10 rfl rfl)
theorem dX9_peak_151 : decode cX9_peak 151 = .ok (.aload_n 0, 1) := dk_42 (dk_at dksX9_peak_5 11 rfl rfl)
theorem dX9_peak_152 : decode cX9_peak 152 = .ok (.iload_n 1, 1) := dk_27 (dk_at dksX9_peak_5 12 rfl rfl)
theorem dX9_peak_153 : decode cX9_peak 153 = .ok (.invokevirtual 435, 3) := dk_182 1 179 (dk_at dksX9_peak_5 13 rfl rfl)
theorem dX9_peak_156 : decode cX9_peak 156 = .ok (.ifCond .eq 7, 3) := dk_153 0 7 (dk_at dksX9_peak_5 16 rfl rfl)
theorem dX9_peak_159 : decode cX9_peak 159 = .ok (.iconst 1, 1) := dk_4 (dk_at dksX9_peak_5 19 rfl rfl)
theorem dX9_peak_160 : decode cX9_peak 160 = .ok (.goto 4, 3) := dk_167 0 4 (dk_at dksX9_peak_5 20 rfl rfl)
theorem dX9_peak_163 : decode cX9_peak 163 = .ok (.iconst 0, 1) := dk_3 (dk_at dksX9_peak_5 23 rfl rfl)
theorem dX9_peak_164 : decode cX9_peak 164 = .ok (.ireturn, 1) := dk_172 (dk_at dksX9_peak_6 0 rfl rfl)
theorem dX9_peak_165 : decode cX9_peak 165 = .ok (.aload_n 0, 1) := dk_42 (dk_at dksX9_peak_6 1 rfl rfl)
theorem dX9_peak_166 : decode cX9_peak 166 = .ok (.iload_n 1, 1) := dk_27 (dk_at dksX9_peak_6 2 rfl rfl)
theorem dX9_peak_167 : decode cX9_peak 167 = .ok (.invokevirtual 438, 3) := dk_182 1 182 (dk_at dksX9_peak_6 3 rfl rfl)
theorem dX9_peak_170 : decode cX9_peak 170 = .ok (.ireturn, 1) := dk_172 (dk_at dksX9_peak_6 6 rfl rfl)
theorem dX9_peak_171 : decode cX9_peak 171 = .ok (.aload_n 0, 1) := dk_42 (dk_at dksX9_peak_6 7 rfl rfl)
theorem dX9_peak_172 : decode cX9_peak 172 = .ok (.getfield 68, 3) := dk_180 0 68 (dk_at dksX9_peak_6 8 rfl rfl)
theorem dX9_peak_175 : decode cX9_peak 175 = .ok (.iload_n 1, 1) := dk_27 (dk_at dksX9_peak_6 11 rfl rfl)
theorem dX9_peak_176 : decode cX9_peak 176 = .ok (.iaload, 1) := dk_46 (dk_at dksX9_peak_6 12 rfl rfl)
theorem dX9_peak_177 : decode cX9_peak 177 = .ok (.ireturn, 1) := dk_172 (dk_at dksX9_peak_6 13 rfl rfl)
def dkwX9_isPeak_1 : List UInt8 := [172]
abbrev dktX9_isPeak_1 : List UInt8 := dkwX9_isPeak_1 ++ []
def dkwX9_isPeak_0 : List UInt8 := [42, 180, 0, 254, 154, 0, 5, 3, 172, 42, 182, 1, 101, 27, 3, 42, 180, 1, 25, 4, 100, 184, 0, 103]
abbrev dktX9_isPeak_0 : List UInt8 := dkwX9_isPeak_0 ++ dktX9_isPeak_1
theorem dksX9_isPeak_0 : cX9_isPeak.data.toList.drop 0 = dktX9_isPeak_0 := by decide +kernel
theorem dksX9_isPeak_1 : cX9_isPeak.data.toList.drop 24 = dktX9_isPeak_1 := dk_seg dksX9_isPeak_0 24 rfl rfl
theorem dX9_isPeak_0 : decode cX9_isPeak 0 = .ok (.aload_n 0, 1) := dk_42 (dk_at dksX9_isPeak_0 0 rfl rfl)
theorem dX9_isPeak_1 : decode cX9_isPeak 1 = .ok (.getfield 254, 3) := dk_180 0 254 (dk_at dksX9_isPeak_0 1 rfl rfl)
theorem dX9_isPeak_4 : decode cX9_isPeak 4 = .ok (.ifCond .ne 5, 3) := dk_154 0 5 (dk_at dksX9_isPeak_0 4 rfl rfl)
theorem dX9_isPeak_7 : decode cX9_isPeak 7 = .ok (.iconst 0, 1) := dk_3 (dk_at dksX9_isPeak_0 7 rfl rfl)
theorem dX9_isPeak_8 : decode cX9_isPeak 8 = .ok (.ireturn, 1) := dk_172 (dk_at dksX9_isPeak_0 8 rfl rfl)
theorem dX9_isPeak_9 : decode cX9_isPeak 9 = .ok (.aload_n 0, 1) := dk_42 (dk_at dksX9_isPeak_0 9 rfl rfl)
theorem dX9_isPeak_10 : decode cX9_isPeak 10 = .ok (.invokevirtual 357, 3) := dk_182 1 101 (dk_at dksX9_isPeak_0 10 rfl rfl)
theorem dX9_isPeak_13 : decode cX9_isPeak 13 = .ok (.iload_n 1, 1) := dk_27 (dk_at dksX9_isPeak_0 13 rfl rfl)
theorem dX9_isPeak_14 : decode cX9_isPeak 14 = .ok (.iconst 0, 1) := dk_3 (dk_at dksX9_isPeak_0 14 rfl rfl)
theorem dX9_isPeak_15 : decode cX9_isPeak 15 = .ok (.aload_n 0, 1) := dk_42 (dk_at dksX9_isPeak_0 15 rfl rfl)
theorem dX9_isPeak_16 : decode cX9_isPeak 16 = .ok (.getfield 281, 3) := dk_180 1 25 (dk_at dksX9_isPeak_0 16 rfl rfl)
theorem dX9_isPeak_19 : decode cX9_isPeak 19 = .ok (.iconst 1, 1) := dk_4 (dk_at dksX9_isPeak_0 19 rfl rfl)
theorem dX9_isPeak_20 : decode cX9_isPeak 20 = .ok (.isub, 1) := dk_100 (dk_at dksX9_isPeak_0 20 rfl rfl)
theorem dX9_isPeak_21 : decode cX9_isPeak 21 = .ok (.invokestatic 103, 3) := dk_184 0 103 (dk_at dksX9_isPeak_0 21 rfl rfl)
theorem dX9_isPeak_24 : decode cX9_isPeak 24 = .ok (.ireturn, 1) := dk_172 (dk_at dksX9_isPeak_1 0 rfl rfl)
def dkwX9_height_0 : List UInt8 := [42, 180, 0, 32, 42, 27, 182, 1, 64, 46, 172]
abbrev dktX9_height_0 : List UInt8 := dkwX9_height_0 ++ []
theorem dksX9_height_0 : cX9_height.data.toList.drop 0 = dktX9_height_0 := by decide +kernel
theorem dX9_height_0 : decode cX9_height 0 = .ok (.aload_n 0, 1) := dk_42 (dk_at dksX9_height_0 0 rfl rfl)
theorem dX9_height_1 : decode cX9_height 1 = .ok (.getfield 32, 3) := dk_180 0 32 (dk_at dksX9_height_0 1 rfl rfl)
theorem dX9_height_4 : decode cX9_height 4 = .ok (.aload_n 0, 1) := dk_42 (dk_at dksX9_height_0 4 rfl rfl)
theorem dX9_height_5 : decode cX9_height 5 = .ok (.iload_n 1, 1) := dk_27 (dk_at dksX9_height_0 5 rfl rfl)
theorem dX9_height_6 : decode cX9_height 6 = .ok (.invokevirtual 320, 3) := dk_182 1 64 (dk_at dksX9_height_0 6 rfl rfl)
theorem dX9_height_9 : decode cX9_height 9 = .ok (.iaload, 1) := dk_46 (dk_at dksX9_height_0 9 rfl rfl)
theorem dX9_height_10 : decode cX9_height 10 = .ok (.ireturn, 1) := dk_172 (dk_at dksX9_height_0 10 rfl rfl)
def dkwX9_life_0 : List UInt8 := [42, 42, 180, 0, 62, 27, 46, 182, 1, 55, 172]
abbrev dktX9_life_0 : List UInt8 := dkwX9_life_0 ++ []
theorem dksX9_life_0 : cX9_life.data.toList.drop 0 = dktX9_life_0 := by decide +kernel
theorem dX9_life_0 : decode cX9_life 0 = .ok (.aload_n 0, 1) := dk_42 (dk_at dksX9_life_0 0 rfl rfl)
theorem dX9_life_1 : decode cX9_life 1 = .ok (.aload_n 0, 1) := dk_42 (dk_at dksX9_life_0 1 rfl rfl)
theorem dX9_life_2 : decode cX9_life 2 = .ok (.getfield 62, 3) := dk_180 0 62 (dk_at dksX9_life_0 2 rfl rfl)
theorem dX9_life_5 : decode cX9_life 5 = .ok (.iload_n 1, 1) := dk_27 (dk_at dksX9_life_0 5 rfl rfl)
theorem dX9_life_6 : decode cX9_life 6 = .ok (.iaload, 1) := dk_46 (dk_at dksX9_life_0 6 rfl rfl)
theorem dX9_life_7 : decode cX9_life 7 = .ok (.invokevirtual 311, 3) := dk_182 1 55 (dk_at dksX9_life_0 7 rfl rfl)
theorem dX9_life_10 : decode cX9_life 10 = .ok (.ireturn, 1) := dk_172 (dk_at dksX9_life_0 10 rfl rfl)
def dkwX9_isKept_0 : List UInt8 := [27, 3, 42, 180, 1, 58, 4, 100, 184, 0, 103, 172]
abbrev dktX9_isKept_0 : List UInt8 := dkwX9_isKept_0 ++ []
theorem dksX9_isKept_0 : cX9_isKept.data.toList.drop 0 = dktX9_isKept_0 := by decide +kernel
theorem dX9_isKept_0 : decode cX9_isKept 0 = .ok (.iload_n 1, 1) := dk_27 (dk_at dksX9_isKept_0 0 rfl rfl)
theorem dX9_isKept_1 : decode cX9_isKept 1 = .ok (.iconst 0, 1) := dk_3 (dk_at dksX9_isKept_0 1 rfl rfl)
theorem dX9_isKept_2 : decode cX9_isKept 2 = .ok (.aload_n 0, 1) := dk_42 (dk_at dksX9_isKept_0 2 rfl rfl)
theorem dX9_isKept_3 : decode cX9_isKept 3 = .ok (.getfield 314, 3) := dk_180 1 58 (dk_at dksX9_isKept_0 3 rfl rfl)
theorem dX9_isKept_6 : decode cX9_isKept 6 = .ok (.iconst 1, 1) := dk_4 (dk_at dksX9_isKept_0 6 rfl rfl)
theorem dX9_isKept_7 : decode cX9_isKept 7 = .ok (.isub, 1) := dk_100 (dk_at dksX9_isKept_0 7 rfl rfl)
theorem dX9_isKept_8 : decode cX9_isKept 8 = .ok (.invokestatic 103, 3) := dk_184 0 103 (dk_at dksX9_isKept_0 8 rfl rfl)
theorem dX9_isKept_11 : decode cX9_isKept 11 = .ok (.ireturn, 1) := dk_172 (dk_at dksX9_isKept_0 11 rfl rfl)
def dkwX9_generationOf_1 : List UInt8 := [180, 0, 56, 29, 46, 62, 167, 255, 236, 28, 172]
abbrev dktX9_generationOf_1 : List UInt8 := dkwX9_generationOf_1 ++ []
def dkwX9_generationOf_0 : List UInt8 := [3, 61, 42, 180, 0, 62, 27, 46, 62, 42, 180, 0, 56, 29, 46, 2, 159, 0, 16, 132, 2, 1, 42]
abbrev dktX9_generationOf_0 : List UInt8 := dkwX9_generationOf_0 ++ dktX9_generationOf_1
theorem dksX9_generationOf_0 : cX9_generationOf.data.toList.drop 0 = dktX9_generationOf_0 := by decide +kernel
theorem dksX9_generationOf_1 : cX9_generationOf.data.toList.drop 23 = dktX9_generationOf_1 := dk_seg dksX9_generationOf_0 23 rfl rfl
theorem dX9_generationOf_0 : decode cX9_generationOf 0 = .ok (.iconst 0, 1) := dk_3 (dk_at dksX9_generationOf_0 0 rfl rfl)
theorem dX9_generationOf_1 : decode cX9_generationOf 1 = .ok (.istore_n 2, 1) := dk_61 (dk_at dksX9_generationOf_0 1 rfl rfl)
theorem dX9_generationOf_2 : decode cX9_generationOf 2 = .ok (.aload_n 0, 1) := dk_42 (dk_at dksX9_generationOf_0 2 rfl rfl)
theorem dX9_generationOf_3 : decode cX9_generationOf 3 = .ok (.getfield 62, 3) := dk_180 0 62 (dk_at dksX9_generationOf_0 3 rfl rfl)
theorem dX9_generationOf_6 : decode cX9_generationOf 6 = .ok (.iload_n 1, 1) := dk_27 (dk_at dksX9_generationOf_0 6 rfl rfl)
theorem dX9_generationOf_7 : decode cX9_generationOf 7 = .ok (.iaload, 1) := dk_46 (dk_at dksX9_generationOf_0 7 rfl rfl)
theorem dX9_generationOf_8 : decode cX9_generationOf 8 = .ok (.istore_n 3, 1) := dk_62 (dk_at dksX9_generationOf_0 8 rfl rfl)
theorem dX9_generationOf_9 : decode cX9_generationOf 9 = .ok (.aload_n 0, 1) := dk_42 (dk_at dksX9_generationOf_0 9 rfl rfl)
theorem dX9_generationOf_10 : decode cX9_generationOf 10 = .ok (.getfield 56, 3) := dk_180 0 56 (dk_at dksX9_generationOf_0 10 rfl rfl)
theorem dX9_generationOf_13 : decode cX9_generationOf 13 = .ok (.iload_n 3, 1) := dk_29 (dk_at dksX9_generationOf_0 13 rfl rfl)
theorem dX9_generationOf_14 : decode cX9_generationOf 14 = .ok (.iaload, 1) := dk_46 (dk_at dksX9_generationOf_0 14 rfl rfl)
theorem dX9_generationOf_15 : decode cX9_generationOf 15 = .ok (.iconst (-1), 1) := dk_2 (dk_at dksX9_generationOf_0 15 rfl rfl)
theorem dX9_generationOf_16 : decode cX9_generationOf 16 = .ok (.if_icmp .eq 16, 3) := dk_159 0 16 (dk_at dksX9_generationOf_0 16 rfl rfl)
theorem dX9_generationOf_19 : decode cX9_generationOf 19 = .ok (.iinc 2 1, 3) := dk_132 2 1 (dk_at dksX9_generationOf_0 19 rfl rfl)
theorem dX9_generationOf_22 : decode cX9_generationOf 22 = .ok (.aload_n 0, 1) := dk_42 (dk_at dksX9_generationOf_0 22 rfl rfl)
theorem dX9_generationOf_23 : decode cX9_generationOf 23 = .ok (.getfield 56, 3) := dk_180 0 56 (dk_at dksX9_generationOf_1 0 rfl rfl)
theorem dX9_generationOf_26 : decode cX9_generationOf 26 = .ok (.iload_n 3, 1) := dk_29 (dk_at dksX9_generationOf_1 3 rfl rfl)
theorem dX9_generationOf_27 : decode cX9_generationOf 27 = .ok (.iaload, 1) := dk_46 (dk_at dksX9_generationOf_1 4 rfl rfl)
theorem dX9_generationOf_28 : decode cX9_generationOf 28 = .ok (.istore_n 3, 1) := dk_62 (dk_at dksX9_generationOf_1 5 rfl rfl)
theorem dX9_generationOf_29 : decode cX9_generationOf 29 = .ok (.goto (-20), 3) := dk_167 255 236 (dk_at dksX9_generationOf_1 6 rfl rfl)
theorem dX9_generationOf_32 : decode cX9_generationOf 32 = .ok (.iload_n 2, 1) := dk_28 (dk_at dksX9_generationOf_1 9 rfl rfl)
theorem dX9_generationOf_33 : decode cX9_generationOf 33 = .ok (.ireturn, 1) := dk_172 (dk_at dksX9_generationOf_1 10 rfl rfl)
def dkwX9_basin_3 : List UInt8 := [172]
abbrev dktX9_basin_3 : List UInt8 := dkwX9_basin_3 ++ []
def dkwX9_basin_2 : List UInt8 := [182, 1, 82, 167, 0, 21, 28, 5, 160, 0, 11, 42, 27, 182, 1, 185, 167, 0, 8, 42, 27, 182, 1, 188]
abbrev dktX9_basin_2 : List UInt8 := dkwX9_basin_2 ++ dktX9_basin_3
def dkwX9_basin_1 : List UInt8 := [154, 0, 5, 2, 172, 28, 154, 0, 11, 42, 27, 182, 1, 79, 167, 0, 34, 28, 4, 160, 0, 11, 42, 27]
abbrev dktX9_basin_1 : List UInt8 := dkwX9_basin_1 ++ dktX9_basin_2
def dkwX9_basin_0 : List UInt8 := [42, 27, 182, 1, 176, 153, 0, 20, 42, 27, 182, 1, 179, 153, 0, 12, 28, 3, 6, 184, 0, 103]
abbrev dktX9_basin_0 : List UInt8 := dkwX9_basin_0 ++ dktX9_basin_1
theorem dksX9_basin_0 : cX9_basin.data.toList.drop 0 = dktX9_basin_0 := by decide +kernel
theorem dksX9_basin_1 : cX9_basin.data.toList.drop 22 = dktX9_basin_1 := dk_seg dksX9_basin_0 22 rfl rfl
theorem dksX9_basin_2 : cX9_basin.data.toList.drop 46 = dktX9_basin_2 := dk_seg dksX9_basin_1 24 rfl rfl
theorem dksX9_basin_3 : cX9_basin.data.toList.drop 70 = dktX9_basin_3 := dk_seg dksX9_basin_2 24 rfl rfl
theorem dX9_basin_0 : decode cX9_basin 0 = .ok (.aload_n 0, 1) := dk_42 (dk_at dksX9_basin_0 0 rfl rfl)
theorem dX9_basin_1 : decode cX9_basin 1 = .ok (.iload_n 1, 1) := dk_27 (dk_at dksX9_basin_0 1 rfl rfl)
theorem dX9_basin_2 : decode cX9_basin 2 = .ok (.invokevirtual 432, 3) := dk_182 1 176 (dk_at dksX9_basin_0 2 rfl rfl)
theorem dX9_basin_5 : decode cX9_basin 5 = .ok (.ifCond .eq 20, 3) := dk_153 0 20 (dk_at dksX9_basin_0 5 rfl rfl)
theorem dX9_basin_8 : decode cX9_basin 8 = .ok (.aload_n 0, 1) := dk_42 (dk_at dksX9_basin_0 8 rfl rfl)
theorem dX9_basin_9 : decode cX9_basin 9 = .ok (.iload_n 1, 1) := dk_27 (dk_at dksX9_basin_0 9 rfl rfl)
theorem dX9_basin_10 : decode cX9_basin 10 = .ok (.invokevirtual 435, 3) := dk_182 1 179 (dk_at dksX9_basin_0 10 rfl rfl)
theorem dX9_basin_13 : decode cX9_basin 13 = .ok (.ifCond .eq 12, 3) := dk_153 0 12 (dk_at dksX9_basin_0 13 rfl rfl)
theorem dX9_basin_16 : decode cX9_basin 16 = .ok (.iload_n 2, 1) := dk_28 (dk_at dksX9_basin_0 16 rfl rfl)
theorem dX9_basin_17 : decode cX9_basin 17 = .ok (.iconst 0, 1) := dk_3 (dk_at dksX9_basin_0 17 rfl rfl)
theorem dX9_basin_18 : decode cX9_basin 18 = .ok (.iconst 3, 1) := dk_6 (dk_at dksX9_basin_0 18 rfl rfl)
theorem dX9_basin_19 : decode cX9_basin 19 = .ok (.invokestatic 103, 3) := dk_184 0 103 (dk_at dksX9_basin_0 19 rfl rfl)
theorem dX9_basin_22 : decode cX9_basin 22 = .ok (.ifCond .ne 5, 3) := dk_154 0 5 (dk_at dksX9_basin_1 0 rfl rfl)
theorem dX9_basin_25 : decode cX9_basin 25 = .ok (.iconst (-1), 1) := dk_2 (dk_at dksX9_basin_1 3 rfl rfl)
theorem dX9_basin_26 : decode cX9_basin 26 = .ok (.ireturn, 1) := dk_172 (dk_at dksX9_basin_1 4 rfl rfl)
theorem dX9_basin_27 : decode cX9_basin 27 = .ok (.iload_n 2, 1) := dk_28 (dk_at dksX9_basin_1 5 rfl rfl)
theorem dX9_basin_28 : decode cX9_basin 28 = .ok (.ifCond .ne 11, 3) := dk_154 0 11 (dk_at dksX9_basin_1 6 rfl rfl)
theorem dX9_basin_31 : decode cX9_basin 31 = .ok (.aload_n 0, 1) := dk_42 (dk_at dksX9_basin_1 9 rfl rfl)
theorem dX9_basin_32 : decode cX9_basin 32 = .ok (.iload_n 1, 1) := dk_27 (dk_at dksX9_basin_1 10 rfl rfl)
theorem dX9_basin_33 : decode cX9_basin 33 = .ok (.invokevirtual 335, 3) := dk_182 1 79 (dk_at dksX9_basin_1 11 rfl rfl)
theorem dX9_basin_36 : decode cX9_basin 36 = .ok (.goto 34, 3) := dk_167 0 34 (dk_at dksX9_basin_1 14 rfl rfl)
theorem dX9_basin_39 : decode cX9_basin 39 = .ok (.iload_n 2, 1) := dk_28 (dk_at dksX9_basin_1 17 rfl rfl)
theorem dX9_basin_40 : decode cX9_basin 40 = .ok (.iconst 1, 1) := dk_4 (dk_at dksX9_basin_1 18 rfl rfl)
theorem dX9_basin_41 : decode cX9_basin 41 = .ok (.if_icmp .ne 11, 3) := dk_160 0 11 (dk_at dksX9_basin_1 19 rfl rfl)
theorem dX9_basin_44 : decode cX9_basin 44 = .ok (.aload_n 0, 1) := dk_42 (dk_at dksX9_basin_1 22 rfl rfl)
theorem dX9_basin_45 : decode cX9_basin 45 = .ok (.iload_n 1, 1) := dk_27 (dk_at dksX9_basin_1 23 rfl rfl)
theorem dX9_basin_46 : decode cX9_basin 46 = .ok (.invokevirtual 338, 3) := dk_182 1 82 (dk_at dksX9_basin_2 0 rfl rfl)
theorem dX9_basin_49 : decode cX9_basin 49 = .ok (.goto 21, 3) := dk_167 0 21 (dk_at dksX9_basin_2 3 rfl rfl)
theorem dX9_basin_52 : decode cX9_basin 52 = .ok (.iload_n 2, 1) := dk_28 (dk_at dksX9_basin_2 6 rfl rfl)
theorem dX9_basin_53 : decode cX9_basin 53 = .ok (.iconst 2, 1) := dk_5 (dk_at dksX9_basin_2 7 rfl rfl)
theorem dX9_basin_54 : decode cX9_basin 54 = .ok (.if_icmp .ne 11, 3) := dk_160 0 11 (dk_at dksX9_basin_2 8 rfl rfl)
theorem dX9_basin_57 : decode cX9_basin 57 = .ok (.aload_n 0, 1) := dk_42 (dk_at dksX9_basin_2 11 rfl rfl)
theorem dX9_basin_58 : decode cX9_basin 58 = .ok (.iload_n 1, 1) := dk_27 (dk_at dksX9_basin_2 12 rfl rfl)
theorem dX9_basin_59 : decode cX9_basin 59 = .ok (.invokevirtual 441, 3) := dk_182 1 185 (dk_at dksX9_basin_2 13 rfl rfl)
theorem dX9_basin_62 : decode cX9_basin 62 = .ok (.goto 8, 3) := dk_167 0 8 (dk_at dksX9_basin_2 16 rfl rfl)
theorem dX9_basin_65 : decode cX9_basin 65 = .ok (.aload_n 0, 1) := dk_42 (dk_at dksX9_basin_2 19 rfl rfl)
theorem dX9_basin_66 : decode cX9_basin 66 = .ok (.iload_n 1, 1) := dk_27 (dk_at dksX9_basin_2 20 rfl rfl)
theorem dX9_basin_67 : decode cX9_basin 67 = .ok (.invokevirtual 444, 3) := dk_182 1 188 (dk_at dksX9_basin_2 21 rfl rfl)
theorem dX9_basin_70 : decode cX9_basin 70 = .ok (.ireturn, 1) := dk_172 (dk_at dksX9_basin_3 0 rfl rfl)
def dkwX9_firstOf_1 : List UInt8 := [182, 1, 64, 42, 27, 182, 1, 64, 182, 1, 76, 172]
abbrev dktX9_firstOf_1 : List UInt8 := dkwX9_firstOf_1 ++ []
def dkwX9_firstOf_0 : List UInt8 := [42, 42, 27, 182, 1, 64, 2, 182, 1, 73, 61, 28, 2, 160, 0, 7, 3, 167, 0, 17, 42, 42, 28]
abbrev dktX9_firstOf_0 : List UInt8 := dkwX9_firstOf_0 ++ dktX9_firstOf_1
theorem dksX9_firstOf_0 : cX9_firstOf.data.toList.drop 0 = dktX9_firstOf_0 := by decide +kernel
theorem dksX9_firstOf_1 : cX9_firstOf.data.toList.drop 23 = dktX9_firstOf_1 := dk_seg dksX9_firstOf_0 23 rfl rfl
theorem dX9_firstOf_0 : decode cX9_firstOf 0 = .ok (.aload_n 0, 1) := dk_42 (dk_at dksX9_firstOf_0 0 rfl rfl)
theorem dX9_firstOf_1 : decode cX9_firstOf 1 = .ok (.aload_n 0, 1) := dk_42 (dk_at dksX9_firstOf_0 1 rfl rfl)
theorem dX9_firstOf_2 : decode cX9_firstOf 2 = .ok (.iload_n 1, 1) := dk_27 (dk_at dksX9_firstOf_0 2 rfl rfl)
theorem dX9_firstOf_3 : decode cX9_firstOf 3 = .ok (.invokevirtual 320, 3) := dk_182 1 64 (dk_at dksX9_firstOf_0 3 rfl rfl)
theorem dX9_firstOf_6 : decode cX9_firstOf 6 = .ok (.iconst (-1), 1) := dk_2 (dk_at dksX9_firstOf_0 6 rfl rfl)
theorem dX9_firstOf_7 : decode cX9_firstOf 7 = .ok (.invokevirtual 329, 3) := dk_182 1 73 (dk_at dksX9_firstOf_0 7 rfl rfl)
theorem dX9_firstOf_10 : decode cX9_firstOf 10 = .ok (.istore_n 2, 1) := dk_61 (dk_at dksX9_firstOf_0 10 rfl rfl)
theorem dX9_firstOf_11 : decode cX9_firstOf 11 = .ok (.iload_n 2, 1) := dk_28 (dk_at dksX9_firstOf_0 11 rfl rfl)
theorem dX9_firstOf_12 : decode cX9_firstOf 12 = .ok (.iconst (-1), 1) := dk_2 (dk_at dksX9_firstOf_0 12 rfl rfl)
theorem dX9_firstOf_13 : decode cX9_firstOf 13 = .ok (.if_icmp .ne 7, 3) := dk_160 0 7 (dk_at dksX9_firstOf_0 13 rfl rfl)
theorem dX9_firstOf_16 : decode cX9_firstOf 16 = .ok (.iconst 0, 1) := dk_3 (dk_at dksX9_firstOf_0 16 rfl rfl)
theorem dX9_firstOf_17 : decode cX9_firstOf 17 = .ok (.goto 17, 3) := dk_167 0 17 (dk_at dksX9_firstOf_0 17 rfl rfl)
theorem dX9_firstOf_20 : decode cX9_firstOf 20 = .ok (.aload_n 0, 1) := dk_42 (dk_at dksX9_firstOf_0 20 rfl rfl)
theorem dX9_firstOf_21 : decode cX9_firstOf 21 = .ok (.aload_n 0, 1) := dk_42 (dk_at dksX9_firstOf_0 21 rfl rfl)
theorem dX9_firstOf_22 : decode cX9_firstOf 22 = .ok (.iload_n 2, 1) := dk_28 (dk_at dksX9_firstOf_0 22 rfl rfl)
theorem dX9_firstOf_23 : decode cX9_firstOf 23 = .ok (.invokevirtual 320, 3) := dk_182 1 64 (dk_at dksX9_firstOf_1 0 rfl rfl)
theorem dX9_firstOf_26 : decode cX9_firstOf 26 = .ok (.aload_n 0, 1) := dk_42 (dk_at dksX9_firstOf_1 3 rfl rfl)
theorem dX9_firstOf_27 : decode cX9_firstOf 27 = .ok (.iload_n 1, 1) := dk_27 (dk_at dksX9_firstOf_1 4 rfl rfl)
theorem dX9_firstOf_28 : decode cX9_firstOf 28 = .ok (.invokevirtual 320, 3) := dk_182 1 64 (dk_at dksX9_firstOf_1 5 rfl rfl)
theorem dX9_firstOf_31 : decode cX9_firstOf 31 = .ok (.invokevirtual 332, 3) := dk_182 1 76 (dk_at dksX9_firstOf_1 8 rfl rfl)
theorem dX9_firstOf_34 : decode cX9_firstOf 34 = .ok (.ireturn, 1) := dk_172 (dk_at dksX9_firstOf_1 11 rfl rfl)
def dkwX9_beside_4 : List UInt8 := [132, 4, 1, 167, 255, 166, 29, 172]
abbrev dktX9_beside_4 : List UInt8 := dkwX9_beside_4 ++ []
def dkwX9_beside_3 : List UInt8 := [184, 1, 70, 42, 29, 182, 1, 64, 27, 184, 1, 70, 162, 0, 8, 21, 4, 167, 0, 4, 29, 62]
abbrev dktX9_beside_3 : List UInt8 := dkwX9_beside_3 ++ dktX9_beside_4
def dkwX9_beside_2 : List UInt8 := [167, 0, 4, 3, 54, 5, 21, 5, 153, 0, 35, 29, 2, 159, 0, 25, 42, 21, 4, 182, 1, 64, 27]
abbrev dktX9_beside_2 : List UInt8 := dkwX9_beside_2 ++ dktX9_beside_3
def dkwX9_beside_1 : List UInt8 := [27, 164, 0, 7, 4, 167, 0, 22, 3, 167, 0, 18, 42, 21, 4, 182, 1, 64, 27, 162, 0, 7, 4]
abbrev dktX9_beside_1 : List UInt8 := dkwX9_beside_1 ++ dktX9_beside_2
def dkwX9_beside_0 : List UInt8 := [2, 62, 3, 54, 4, 21, 4, 42, 180, 1, 58, 162, 0, 87, 28, 158, 0, 21, 42, 21, 4, 182, 1, 64]
abbrev dktX9_beside_0 : List UInt8 := dkwX9_beside_0 ++ dktX9_beside_1
theorem dksX9_beside_0 : cX9_beside.data.toList.drop 0 = dktX9_beside_0 := by decide +kernel
theorem dksX9_beside_1 : cX9_beside.data.toList.drop 24 = dktX9_beside_1 := dk_seg dksX9_beside_0 24 rfl rfl
theorem dksX9_beside_2 : cX9_beside.data.toList.drop 47 = dktX9_beside_2 := dk_seg dksX9_beside_1 23 rfl rfl
theorem dksX9_beside_3 : cX9_beside.data.toList.drop 70 = dktX9_beside_3 := dk_seg dksX9_beside_2 23 rfl rfl
theorem dksX9_beside_4 : cX9_beside.data.toList.drop 92 = dktX9_beside_4 := dk_seg dksX9_beside_3 22 rfl rfl
theorem dX9_beside_0 : decode cX9_beside 0 = .ok (.iconst (-1), 1) := dk_2 (dk_at dksX9_beside_0 0 rfl rfl)
theorem dX9_beside_1 : decode cX9_beside 1 = .ok (.istore_n 3, 1) := dk_62 (dk_at dksX9_beside_0 1 rfl rfl)
theorem dX9_beside_2 : decode cX9_beside 2 = .ok (.iconst 0, 1) := dk_3 (dk_at dksX9_beside_0 2 rfl rfl)
theorem dX9_beside_3 : decode cX9_beside 3 = .ok (.istore 4, 2) := dk_54 4 (dk_at dksX9_beside_0 3 rfl rfl)
theorem dX9_beside_5 : decode cX9_beside 5 = .ok (.iload 4, 2) := dk_21 4 (dk_at dksX9_beside_0 5 rfl rfl)
theorem dX9_beside_7 : decode cX9_beside 7 = .ok (.aload_n 0, 1) := dk_42 (dk_at dksX9_beside_0 7 rfl rfl)
theorem dX9_beside_8 : decode cX9_beside 8 = .ok (.getfield 314, 3) := dk_180 1 58 (dk_at dksX9_beside_0 8 rfl rfl)
theorem dX9_beside_11 : decode cX9_beside 11 = .ok (.if_icmp .ge 87, 3) := dk_162 0 87 (dk_at dksX9_beside_0 11 rfl rfl)
theorem dX9_beside_14 : decode cX9_beside 14 = .ok (.iload_n 2, 1) := dk_28 (dk_at dksX9_beside_0 14 rfl rfl)
theorem dX9_beside_15 : decode cX9_beside 15 = .ok (.ifCond .le 21, 3) := dk_158 0 21 (dk_at dksX9_beside_0 15 rfl rfl)
theorem dX9_beside_18 : decode cX9_beside 18 = .ok (.aload_n 0, 1) := dk_42 (dk_at dksX9_beside_0 18 rfl rfl)
theorem dX9_beside_19 : decode cX9_beside 19 = .ok (.iload 4, 2) := dk_21 4 (dk_at dksX9_beside_0 19 rfl rfl)
theorem dX9_beside_21 : decode cX9_beside 21 = .ok (.invokevirtual 320, 3) := dk_182 1 64 (dk_at dksX9_beside_0 21 rfl rfl)
theorem dX9_beside_24 : decode cX9_beside 24 = .ok (.iload_n 1, 1) := dk_27 (dk_at dksX9_beside_1 0 rfl rfl)
theorem dX9_beside_25 : decode cX9_beside 25 = .ok (.if_icmp .le 7, 3) := dk_164 0 7 (dk_at dksX9_beside_1 1 rfl rfl)
theorem dX9_beside_28 : decode cX9_beside 28 = .ok (.iconst 1, 1) := dk_4 (dk_at dksX9_beside_1 4 rfl rfl)
theorem dX9_beside_29 : decode cX9_beside 29 = .ok (.goto 22, 3) := dk_167 0 22 (dk_at dksX9_beside_1 5 rfl rfl)
theorem dX9_beside_32 : decode cX9_beside 32 = .ok (.iconst 0, 1) := dk_3 (dk_at dksX9_beside_1 8 rfl rfl)
theorem dX9_beside_33 : decode cX9_beside 33 = .ok (.goto 18, 3) := dk_167 0 18 (dk_at dksX9_beside_1 9 rfl rfl)
theorem dX9_beside_36 : decode cX9_beside 36 = .ok (.aload_n 0, 1) := dk_42 (dk_at dksX9_beside_1 12 rfl rfl)
theorem dX9_beside_37 : decode cX9_beside 37 = .ok (.iload 4, 2) := dk_21 4 (dk_at dksX9_beside_1 13 rfl rfl)
theorem dX9_beside_39 : decode cX9_beside 39 = .ok (.invokevirtual 320, 3) := dk_182 1 64 (dk_at dksX9_beside_1 15 rfl rfl)
theorem dX9_beside_42 : decode cX9_beside 42 = .ok (.iload_n 1, 1) := dk_27 (dk_at dksX9_beside_1 18 rfl rfl)
theorem dX9_beside_43 : decode cX9_beside 43 = .ok (.if_icmp .ge 7, 3) := dk_162 0 7 (dk_at dksX9_beside_1 19 rfl rfl)
theorem dX9_beside_46 : decode cX9_beside 46 = .ok (.iconst 1, 1) := dk_4 (dk_at dksX9_beside_1 22 rfl rfl)
theorem dX9_beside_47 : decode cX9_beside 47 = .ok (.goto 4, 3) := dk_167 0 4 (dk_at dksX9_beside_2 0 rfl rfl)
theorem dX9_beside_50 : decode cX9_beside 50 = .ok (.iconst 0, 1) := dk_3 (dk_at dksX9_beside_2 3 rfl rfl)
theorem dX9_beside_51 : decode cX9_beside 51 = .ok (.istore 5, 2) := dk_54 5 (dk_at dksX9_beside_2 4 rfl rfl)
theorem dX9_beside_53 : decode cX9_beside 53 = .ok (.iload 5, 2) := dk_21 5 (dk_at dksX9_beside_2 6 rfl rfl)
theorem dX9_beside_55 : decode cX9_beside 55 = .ok (.ifCond .eq 35, 3) := dk_153 0 35 (dk_at dksX9_beside_2 8 rfl rfl)
theorem dX9_beside_58 : decode cX9_beside 58 = .ok (.iload_n 3, 1) := dk_29 (dk_at dksX9_beside_2 11 rfl rfl)
theorem dX9_beside_59 : decode cX9_beside 59 = .ok (.iconst (-1), 1) := dk_2 (dk_at dksX9_beside_2 12 rfl rfl)
theorem dX9_beside_60 : decode cX9_beside 60 = .ok (.if_icmp .eq 25, 3) := dk_159 0 25 (dk_at dksX9_beside_2 13 rfl rfl)
theorem dX9_beside_63 : decode cX9_beside 63 = .ok (.aload_n 0, 1) := dk_42 (dk_at dksX9_beside_2 16 rfl rfl)
theorem dX9_beside_64 : decode cX9_beside 64 = .ok (.iload 4, 2) := dk_21 4 (dk_at dksX9_beside_2 17 rfl rfl)
theorem dX9_beside_66 : decode cX9_beside 66 = .ok (.invokevirtual 320, 3) := dk_182 1 64 (dk_at dksX9_beside_2 19 rfl rfl)
theorem dX9_beside_69 : decode cX9_beside 69 = .ok (.iload_n 1, 1) := dk_27 (dk_at dksX9_beside_2 22 rfl rfl)
theorem dX9_beside_70 : decode cX9_beside 70 = .ok (.invokestatic 326, 3) := dk_184 1 70 (dk_at dksX9_beside_3 0 rfl rfl)
theorem dX9_beside_73 : decode cX9_beside 73 = .ok (.aload_n 0, 1) := dk_42 (dk_at dksX9_beside_3 3 rfl rfl)
theorem dX9_beside_74 : decode cX9_beside 74 = .ok (.iload_n 3, 1) := dk_29 (dk_at dksX9_beside_3 4 rfl rfl)
theorem dX9_beside_75 : decode cX9_beside 75 = .ok (.invokevirtual 320, 3) := dk_182 1 64 (dk_at dksX9_beside_3 5 rfl rfl)
theorem dX9_beside_78 : decode cX9_beside 78 = .ok (.iload_n 1, 1) := dk_27 (dk_at dksX9_beside_3 8 rfl rfl)
theorem dX9_beside_79 : decode cX9_beside 79 = .ok (.invokestatic 326, 3) := dk_184 1 70 (dk_at dksX9_beside_3 9 rfl rfl)
theorem dX9_beside_82 : decode cX9_beside 82 = .ok (.if_icmp .ge 8, 3) := dk_162 0 8 (dk_at dksX9_beside_3 12 rfl rfl)
theorem dX9_beside_85 : decode cX9_beside 85 = .ok (.iload 4, 2) := dk_21 4 (dk_at dksX9_beside_3 15 rfl rfl)
theorem dX9_beside_87 : decode cX9_beside 87 = .ok (.goto 4, 3) := dk_167 0 4 (dk_at dksX9_beside_3 17 rfl rfl)
theorem dX9_beside_90 : decode cX9_beside 90 = .ok (.iload_n 3, 1) := dk_29 (dk_at dksX9_beside_3 20 rfl rfl)
theorem dX9_beside_91 : decode cX9_beside 91 = .ok (.istore_n 3, 1) := dk_62 (dk_at dksX9_beside_3 21 rfl rfl)
theorem dX9_beside_92 : decode cX9_beside 92 = .ok (.iinc 4 1, 3) := dk_132 4 1 (dk_at dksX9_beside_4 0 rfl rfl)
theorem dX9_beside_95 : decode cX9_beside 95 = .ok (.goto (-90), 3) := dk_167 255 166 (dk_at dksX9_beside_4 3 rfl rfl)
theorem dX9_beside_98 : decode cX9_beside 98 = .ok (.iload_n 3, 1) := dk_29 (dk_at dksX9_beside_4 6 rfl rfl)
theorem dX9_beside_99 : decode cX9_beside 99 = .ok (.ireturn, 1) := dk_172 (dk_at dksX9_beside_4 7 rfl rfl)
def dkwX9_lowBetween_1 : List UInt8 := [180, 0, 32, 29, 46, 162, 0, 8, 21, 4, 167, 0, 4, 29, 62, 132, 4, 1, 167, 255, 224, 29, 172]
abbrev dktX9_lowBetween_1 : List UInt8 := dkwX9_lowBetween_1 ++ []
def dkwX9_lowBetween_0 : List UInt8 := [27, 4, 96, 62, 27, 5, 96, 54, 4, 21, 4, 28, 162, 0, 32, 42, 180, 0, 32, 21, 4, 46, 42]
abbrev dktX9_lowBetween_0 : List UInt8 := dkwX9_lowBetween_0 ++ dktX9_lowBetween_1
theorem dksX9_lowBetween_0 : cX9_lowBetween.data.toList.drop 0 = dktX9_lowBetween_0 := by decide +kernel
theorem dksX9_lowBetween_1 : cX9_lowBetween.data.toList.drop 23 = dktX9_lowBetween_1 := dk_seg dksX9_lowBetween_0 23 rfl rfl
theorem dX9_lowBetween_0 : decode cX9_lowBetween 0 = .ok (.iload_n 1, 1) := dk_27 (dk_at dksX9_lowBetween_0 0 rfl rfl)
theorem dX9_lowBetween_1 : decode cX9_lowBetween 1 = .ok (.iconst 1, 1) := dk_4 (dk_at dksX9_lowBetween_0 1 rfl rfl)
theorem dX9_lowBetween_2 : decode cX9_lowBetween 2 = .ok (.iadd, 1) := dk_96 (dk_at dksX9_lowBetween_0 2 rfl rfl)
theorem dX9_lowBetween_3 : decode cX9_lowBetween 3 = .ok (.istore_n 3, 1) := dk_62 (dk_at dksX9_lowBetween_0 3 rfl rfl)
theorem dX9_lowBetween_4 : decode cX9_lowBetween 4 = .ok (.iload_n 1, 1) := dk_27 (dk_at dksX9_lowBetween_0 4 rfl rfl)
theorem dX9_lowBetween_5 : decode cX9_lowBetween 5 = .ok (.iconst 2, 1) := dk_5 (dk_at dksX9_lowBetween_0 5 rfl rfl)
theorem dX9_lowBetween_6 : decode cX9_lowBetween 6 = .ok (.iadd, 1) := dk_96 (dk_at dksX9_lowBetween_0 6 rfl rfl)
theorem dX9_lowBetween_7 : decode cX9_lowBetween 7 = .ok (.istore 4, 2) := dk_54 4 (dk_at dksX9_lowBetween_0 7 rfl rfl)
theorem dX9_lowBetween_9 : decode cX9_lowBetween 9 = .ok (.iload 4, 2) := dk_21 4 (dk_at dksX9_lowBetween_0 9 rfl rfl)
theorem dX9_lowBetween_11 : decode cX9_lowBetween 11 = .ok (.iload_n 2, 1) := dk_28 (dk_at dksX9_lowBetween_0 11 rfl rfl)
theorem dX9_lowBetween_12 : decode cX9_lowBetween 12 = .ok (.if_icmp .ge 32, 3) := dk_162 0 32 (dk_at dksX9_lowBetween_0 12 rfl rfl)
theorem dX9_lowBetween_15 : decode cX9_lowBetween 15 = .ok (.aload_n 0, 1) := dk_42 (dk_at dksX9_lowBetween_0 15 rfl rfl)
theorem dX9_lowBetween_16 : decode cX9_lowBetween 16 = .ok (.getfield 32, 3) := dk_180 0 32 (dk_at dksX9_lowBetween_0 16 rfl rfl)
theorem dX9_lowBetween_19 : decode cX9_lowBetween 19 = .ok (.iload 4, 2) := dk_21 4 (dk_at dksX9_lowBetween_0 19 rfl rfl)
theorem dX9_lowBetween_21 : decode cX9_lowBetween 21 = .ok (.iaload, 1) := dk_46 (dk_at dksX9_lowBetween_0 21 rfl rfl)
theorem dX9_lowBetween_22 : decode cX9_lowBetween 22 = .ok (.aload_n 0, 1) := dk_42 (dk_at dksX9_lowBetween_0 22 rfl rfl)
theorem dX9_lowBetween_23 : decode cX9_lowBetween 23 = .ok (.getfield 32, 3) := dk_180 0 32 (dk_at dksX9_lowBetween_1 0 rfl rfl)
theorem dX9_lowBetween_26 : decode cX9_lowBetween 26 = .ok (.iload_n 3, 1) := dk_29 (dk_at dksX9_lowBetween_1 3 rfl rfl)
theorem dX9_lowBetween_27 : decode cX9_lowBetween 27 = .ok (.iaload, 1) := dk_46 (dk_at dksX9_lowBetween_1 4 rfl rfl)
theorem dX9_lowBetween_28 : decode cX9_lowBetween 28 = .ok (.if_icmp .ge 8, 3) := dk_162 0 8 (dk_at dksX9_lowBetween_1 5 rfl rfl)
theorem dX9_lowBetween_31 : decode cX9_lowBetween 31 = .ok (.iload 4, 2) := dk_21 4 (dk_at dksX9_lowBetween_1 8 rfl rfl)
theorem dX9_lowBetween_33 : decode cX9_lowBetween 33 = .ok (.goto 4, 3) := dk_167 0 4 (dk_at dksX9_lowBetween_1 10 rfl rfl)
theorem dX9_lowBetween_36 : decode cX9_lowBetween 36 = .ok (.iload_n 3, 1) := dk_29 (dk_at dksX9_lowBetween_1 13 rfl rfl)
theorem dX9_lowBetween_37 : decode cX9_lowBetween 37 = .ok (.istore_n 3, 1) := dk_62 (dk_at dksX9_lowBetween_1 14 rfl rfl)
theorem dX9_lowBetween_38 : decode cX9_lowBetween 38 = .ok (.iinc 4 1, 3) := dk_132 4 1 (dk_at dksX9_lowBetween_1 15 rfl rfl)
theorem dX9_lowBetween_41 : decode cX9_lowBetween 41 = .ok (.goto (-32), 3) := dk_167 255 224 (dk_at dksX9_lowBetween_1 18 rfl rfl)
theorem dX9_lowBetween_44 : decode cX9_lowBetween 44 = .ok (.iload_n 3, 1) := dk_29 (dk_at dksX9_lowBetween_1 21 rfl rfl)
theorem dX9_lowBetween_45 : decode cX9_lowBetween 45 = .ok (.ireturn, 1) := dk_172 (dk_at dksX9_lowBetween_1 22 rfl rfl)
def dkwX9_lastOf_1 : List UInt8 := [167, 0, 19, 42, 42, 27, 182, 1, 64, 42, 28, 182, 1, 64, 182, 1, 76, 4, 100, 172]
abbrev dktX9_lastOf_1 : List UInt8 := dkwX9_lastOf_1 ++ []
def dkwX9_lastOf_0 : List UInt8 := [42, 42, 27, 182, 1, 64, 4, 182, 1, 73, 61, 28, 2, 160, 0, 12, 42, 182, 1, 1, 4, 100]
abbrev dktX9_lastOf_0 : List UInt8 := dkwX9_lastOf_0 ++ dktX9_lastOf_1
theorem dksX9_lastOf_0 : cX9_lastOf.data.toList.drop 0 = dktX9_lastOf_0 := by decide +kernel
theorem dksX9_lastOf_1 : cX9_lastOf.data.toList.drop 22 = dktX9_lastOf_1 := dk_seg dksX9_lastOf_0 22 rfl rfl
theorem dX9_lastOf_0 : decode cX9_lastOf 0 = .ok (.aload_n 0, 1) := dk_42 (dk_at dksX9_lastOf_0 0 rfl rfl)
theorem dX9_lastOf_1 : decode cX9_lastOf 1 = .ok (.aload_n 0, 1) := dk_42 (dk_at dksX9_lastOf_0 1 rfl rfl)
theorem dX9_lastOf_2 : decode cX9_lastOf 2 = .ok (.iload_n 1, 1) := dk_27 (dk_at dksX9_lastOf_0 2 rfl rfl)
theorem dX9_lastOf_3 : decode cX9_lastOf 3 = .ok (.invokevirtual 320, 3) := dk_182 1 64 (dk_at dksX9_lastOf_0 3 rfl rfl)
theorem dX9_lastOf_6 : decode cX9_lastOf 6 = .ok (.iconst 1, 1) := dk_4 (dk_at dksX9_lastOf_0 6 rfl rfl)
theorem dX9_lastOf_7 : decode cX9_lastOf 7 = .ok (.invokevirtual 329, 3) := dk_182 1 73 (dk_at dksX9_lastOf_0 7 rfl rfl)
theorem dX9_lastOf_10 : decode cX9_lastOf 10 = .ok (.istore_n 2, 1) := dk_61 (dk_at dksX9_lastOf_0 10 rfl rfl)
theorem dX9_lastOf_11 : decode cX9_lastOf 11 = .ok (.iload_n 2, 1) := dk_28 (dk_at dksX9_lastOf_0 11 rfl rfl)
theorem dX9_lastOf_12 : decode cX9_lastOf 12 = .ok (.iconst (-1), 1) := dk_2 (dk_at dksX9_lastOf_0 12 rfl rfl)
theorem dX9_lastOf_13 : decode cX9_lastOf 13 = .ok (.if_icmp .ne 12, 3) := dk_160 0 12 (dk_at dksX9_lastOf_0 13 rfl rfl)
theorem dX9_lastOf_16 : decode cX9_lastOf 16 = .ok (.aload_n 0, 1) := dk_42 (dk_at dksX9_lastOf_0 16 rfl rfl)
theorem dX9_lastOf_17 : decode cX9_lastOf 17 = .ok (.invokevirtual 257, 3) := dk_182 1 1 (dk_at dksX9_lastOf_0 17 rfl rfl)
theorem dX9_lastOf_20 : decode cX9_lastOf 20 = .ok (.iconst 1, 1) := dk_4 (dk_at dksX9_lastOf_0 20 rfl rfl)
theorem dX9_lastOf_21 : decode cX9_lastOf 21 = .ok (.isub, 1) := dk_100 (dk_at dksX9_lastOf_0 21 rfl rfl)
theorem dX9_lastOf_22 : decode cX9_lastOf 22 = .ok (.goto 19, 3) := dk_167 0 19 (dk_at dksX9_lastOf_1 0 rfl rfl)
theorem dX9_lastOf_25 : decode cX9_lastOf 25 = .ok (.aload_n 0, 1) := dk_42 (dk_at dksX9_lastOf_1 3 rfl rfl)
theorem dX9_lastOf_26 : decode cX9_lastOf 26 = .ok (.aload_n 0, 1) := dk_42 (dk_at dksX9_lastOf_1 4 rfl rfl)
theorem dX9_lastOf_27 : decode cX9_lastOf 27 = .ok (.iload_n 1, 1) := dk_27 (dk_at dksX9_lastOf_1 5 rfl rfl)
theorem dX9_lastOf_28 : decode cX9_lastOf 28 = .ok (.invokevirtual 320, 3) := dk_182 1 64 (dk_at dksX9_lastOf_1 6 rfl rfl)
theorem dX9_lastOf_31 : decode cX9_lastOf 31 = .ok (.aload_n 0, 1) := dk_42 (dk_at dksX9_lastOf_1 9 rfl rfl)
theorem dX9_lastOf_32 : decode cX9_lastOf 32 = .ok (.iload_n 2, 1) := dk_28 (dk_at dksX9_lastOf_1 10 rfl rfl)
theorem dX9_lastOf_33 : decode cX9_lastOf 33 = .ok (.invokevirtual 320, 3) := dk_182 1 64 (dk_at dksX9_lastOf_1 11 rfl rfl)
theorem dX9_lastOf_36 : decode cX9_lastOf 36 = .ok (.invokevirtual 332, 3) := dk_182 1 76 (dk_at dksX9_lastOf_1 14 rfl rfl)
theorem dX9_lastOf_39 : decode cX9_lastOf 39 = .ok (.iconst 1, 1) := dk_4 (dk_at dksX9_lastOf_1 17 rfl rfl)
theorem dX9_lastOf_40 : decode cX9_lastOf 40 = .ok (.isub, 1) := dk_100 (dk_at dksX9_lastOf_1 18 rfl rfl)
theorem dX9_lastOf_41 : decode cX9_lastOf 41 = .ok (.ireturn, 1) := dk_172 (dk_at dksX9_lastOf_1 19 rfl rfl)
def dkwX9_areaOf_2 : List UInt8 := [28, 172]
abbrev dktX9_areaOf_2 : List UInt8 := dkwX9_areaOf_2 ++ []
def dkwX9_areaOf_1 : List UInt8 := [46, 42, 180, 0, 53, 42, 180, 0, 62, 27, 46, 46, 100, 184, 1, 33, 96, 61, 132, 3, 1, 167, 255, 219]
abbrev dktX9_areaOf_1 : List UInt8 := dkwX9_areaOf_1 ++ dktX9_areaOf_2
def dkwX9_areaOf_0 : List UInt8 := [3, 61, 42, 27, 182, 1, 79, 62, 29, 42, 27, 182, 1, 82, 163, 0, 34, 28, 3, 42, 180, 0, 32, 29]
abbrev dktX9_areaOf_0 : List UInt8 := dkwX9_areaOf_0 ++ dktX9_areaOf_1
theorem dksX9_areaOf_0 : cX9_areaOf.data.toList.drop 0 = dktX9_areaOf_0 := by decide +kernel
theorem dksX9_areaOf_1 : cX9_areaOf.data.toList.drop 24 = dktX9_areaOf_1 := dk_seg dksX9_areaOf_0 24 rfl rfl
theorem dksX9_areaOf_2 : cX9_areaOf.data.toList.drop 48 = dktX9_areaOf_2 := dk_seg dksX9_areaOf_1 24 rfl rfl
theorem dX9_areaOf_0 : decode cX9_areaOf 0 = .ok (.iconst 0, 1) := dk_3 (dk_at dksX9_areaOf_0 0 rfl rfl)
theorem dX9_areaOf_1 : decode cX9_areaOf 1 = .ok (.istore_n 2, 1) := dk_61 (dk_at dksX9_areaOf_0 1 rfl rfl)
theorem dX9_areaOf_2 : decode cX9_areaOf 2 = .ok (.aload_n 0, 1) := dk_42 (dk_at dksX9_areaOf_0 2 rfl rfl)
theorem dX9_areaOf_3 : decode cX9_areaOf 3 = .ok (.iload_n 1, 1) := dk_27 (dk_at dksX9_areaOf_0 3 rfl rfl)
theorem dX9_areaOf_4 : decode cX9_areaOf 4 = .ok (.invokevirtual 335, 3) := dk_182 1 79 (dk_at dksX9_areaOf_0 4 rfl rfl)
theorem dX9_areaOf_7 : decode cX9_areaOf 7 = .ok (.istore_n 3, 1) := dk_62 (dk_at dksX9_areaOf_0 7 rfl rfl)
theorem dX9_areaOf_8 : decode cX9_areaOf 8 = .ok (.iload_n 3, 1) := dk_29 (dk_at dksX9_areaOf_0 8 rfl rfl)
theorem dX9_areaOf_9 : decode cX9_areaOf 9 = .ok (.aload_n 0, 1) := dk_42 (dk_at dksX9_areaOf_0 9 rfl rfl)
theorem dX9_areaOf_10 : decode cX9_areaOf 10 = .ok (.iload_n 1, 1) := dk_27 (dk_at dksX9_areaOf_0 10 rfl rfl)
theorem dX9_areaOf_11 : decode cX9_areaOf 11 = .ok (.invokevirtual 338, 3) := dk_182 1 82 (dk_at dksX9_areaOf_0 11 rfl rfl)
theorem dX9_areaOf_14 : decode cX9_areaOf 14 = .ok (.if_icmp .gt 34, 3) := dk_163 0 34 (dk_at dksX9_areaOf_0 14 rfl rfl)
theorem dX9_areaOf_17 : decode cX9_areaOf 17 = .ok (.iload_n 2, 1) := dk_28 (dk_at dksX9_areaOf_0 17 rfl rfl)
theorem dX9_areaOf_18 : decode cX9_areaOf 18 = .ok (.iconst 0, 1) := dk_3 (dk_at dksX9_areaOf_0 18 rfl rfl)
theorem dX9_areaOf_19 : decode cX9_areaOf 19 = .ok (.aload_n 0, 1) := dk_42 (dk_at dksX9_areaOf_0 19 rfl rfl)
theorem dX9_areaOf_20 : decode cX9_areaOf 20 = .ok (.getfield 32, 3) := dk_180 0 32 (dk_at dksX9_areaOf_0 20 rfl rfl)
theorem dX9_areaOf_23 : decode cX9_areaOf 23 = .ok (.iload_n 3, 1) := dk_29 (dk_at dksX9_areaOf_0 23 rfl rfl)
theorem dX9_areaOf_24 : decode cX9_areaOf 24 = .ok (.iaload, 1) := dk_46 (dk_at dksX9_areaOf_1 0 rfl rfl)
theorem dX9_areaOf_25 : decode cX9_areaOf 25 = .ok (.aload_n 0, 1) := dk_42 (dk_at dksX9_areaOf_1 1 rfl rfl)
theorem dX9_areaOf_26 : decode cX9_areaOf 26 = .ok (.getfield 53, 3) := dk_180 0 53 (dk_at dksX9_areaOf_1 2 rfl rfl)
theorem dX9_areaOf_29 : decode cX9_areaOf 29 = .ok (.aload_n 0, 1) := dk_42 (dk_at dksX9_areaOf_1 5 rfl rfl)
theorem dX9_areaOf_30 : decode cX9_areaOf 30 = .ok (.getfield 62, 3) := dk_180 0 62 (dk_at dksX9_areaOf_1 6 rfl rfl)
theorem dX9_areaOf_33 : decode cX9_areaOf 33 = .ok (.iload_n 1, 1) := dk_27 (dk_at dksX9_areaOf_1 9 rfl rfl)
theorem dX9_areaOf_34 : decode cX9_areaOf 34 = .ok (.iaload, 1) := dk_46 (dk_at dksX9_areaOf_1 10 rfl rfl)
theorem dX9_areaOf_35 : decode cX9_areaOf 35 = .ok (.iaload, 1) := dk_46 (dk_at dksX9_areaOf_1 11 rfl rfl)
theorem dX9_areaOf_36 : decode cX9_areaOf 36 = .ok (.isub, 1) := dk_100 (dk_at dksX9_areaOf_1 12 rfl rfl)
theorem dX9_areaOf_37 : decode cX9_areaOf 37 = .ok (.invokestatic 289, 3) := dk_184 1 33 (dk_at dksX9_areaOf_1 13 rfl rfl)
theorem dX9_areaOf_40 : decode cX9_areaOf 40 = .ok (.iadd, 1) := dk_96 (dk_at dksX9_areaOf_1 16 rfl rfl)
theorem dX9_areaOf_41 : decode cX9_areaOf 41 = .ok (.istore_n 2, 1) := dk_61 (dk_at dksX9_areaOf_1 17 rfl rfl)
theorem dX9_areaOf_42 : decode cX9_areaOf 42 = .ok (.iinc 3 1, 3) := dk_132 3 1 (dk_at dksX9_areaOf_1 18 rfl rfl)
theorem dX9_areaOf_45 : decode cX9_areaOf 45 = .ok (.goto (-37), 3) := dk_167 255 219 (dk_at dksX9_areaOf_1 21 rfl rfl)
theorem dX9_areaOf_48 : decode cX9_areaOf 48 = .ok (.iload_n 2, 1) := dk_28 (dk_at dksX9_areaOf_2 0 rfl rfl)
theorem dX9_areaOf_49 : decode cX9_areaOf 49 = .ok (.ireturn, 1) := dk_172 (dk_at dksX9_areaOf_2 1 rfl rfl)
def dkwX9_widthOf_0 : List UInt8 := [42, 42, 27, 182, 1, 64, 42, 27, 182, 1, 85, 42, 27, 182, 1, 88, 5, 108, 100, 182, 1, 91, 172]
abbrev dktX9_widthOf_0 : List UInt8 := dkwX9_widthOf_0 ++ []
theorem dksX9_widthOf_0 : cX9_widthOf.data.toList.drop 0 = dktX9_widthOf_0 := by decide +kernel
theorem dX9_widthOf_0 : decode cX9_widthOf 0 = .ok (.aload_n 0, 1) := dk_42 (dk_at dksX9_widthOf_0 0 rfl rfl)
theorem dX9_widthOf_1 : decode cX9_widthOf 1 = .ok (.aload_n 0, 1) := dk_42 (dk_at dksX9_widthOf_0 1 rfl rfl)
theorem dX9_widthOf_2 : decode cX9_widthOf 2 = .ok (.iload_n 1, 1) := dk_27 (dk_at dksX9_widthOf_0 2 rfl rfl)
theorem dX9_widthOf_3 : decode cX9_widthOf 3 = .ok (.invokevirtual 320, 3) := dk_182 1 64 (dk_at dksX9_widthOf_0 3 rfl rfl)
theorem dX9_widthOf_6 : decode cX9_widthOf 6 = .ok (.aload_n 0, 1) := dk_42 (dk_at dksX9_widthOf_0 6 rfl rfl)
theorem dX9_widthOf_7 : decode cX9_widthOf 7 = .ok (.iload_n 1, 1) := dk_27 (dk_at dksX9_widthOf_0 7 rfl rfl)
theorem dX9_widthOf_8 : decode cX9_widthOf 8 = .ok (.invokevirtual 341, 3) := dk_182 1 85 (dk_at dksX9_widthOf_0 8 rfl rfl)
theorem dX9_widthOf_11 : decode cX9_widthOf 11 = .ok (.aload_n 0, 1) := dk_42 (dk_at dksX9_widthOf_0 11 rfl rfl)
theorem dX9_widthOf_12 : decode cX9_widthOf 12 = .ok (.iload_n 1, 1) := dk_27 (dk_at dksX9_widthOf_0 12 rfl rfl)
theorem dX9_widthOf_13 : decode cX9_widthOf 13 = .ok (.invokevirtual 344, 3) := dk_182 1 88 (dk_at dksX9_widthOf_0 13 rfl rfl)
theorem dX9_widthOf_16 : decode cX9_widthOf 16 = .ok (.iconst 2, 1) := dk_5 (dk_at dksX9_widthOf_0 16 rfl rfl)
theorem dX9_widthOf_17 : decode cX9_widthOf 17 = .ok (.idiv, 1) := dk_108 (dk_at dksX9_widthOf_0 17 rfl rfl)
theorem dX9_widthOf_18 : decode cX9_widthOf 18 = .ok (.isub, 1) := dk_100 (dk_at dksX9_widthOf_0 18 rfl rfl)
theorem dX9_widthOf_19 : decode cX9_widthOf 19 = .ok (.invokevirtual 347, 3) := dk_182 1 91 (dk_at dksX9_widthOf_0 19 rfl rfl)
theorem dX9_widthOf_22 : decode cX9_widthOf 22 = .ok (.ireturn, 1) := dk_172 (dk_at dksX9_widthOf_0 22 rfl rfl)
def dkwX9_around_2 : List UInt8 := [180, 0, 32, 21, 4, 46, 28, 161, 0, 12, 132, 3, 1, 132, 4, 1, 167, 255, 230, 29, 172]
abbrev dktX9_around_2 : List UInt8 := dkwX9_around_2 ++ []
def dkwX9_around_1 : List UInt8 := [132, 3, 1, 132, 4, 255, 167, 255, 234, 27, 4, 96, 54, 4, 21, 4, 42, 182, 1, 1, 162, 0, 23, 42]
abbrev dktX9_around_1 : List UInt8 := dkwX9_around_1 ++ dktX9_around_2
def dkwX9_around_0 : List UInt8 := [4, 62, 27, 4, 100, 54, 4, 21, 4, 155, 0, 23, 42, 180, 0, 32, 21, 4, 46, 28, 161, 0, 12]
abbrev dktX9_around_0 : List UInt8 := dkwX9_around_0 ++ dktX9_around_1
theorem dksX9_around_0 : cX9_around.data.toList.drop 0 = dktX9_around_0 := by decide +kernel
theorem dksX9_around_1 : cX9_around.data.toList.drop 23 = dktX9_around_1 := dk_seg dksX9_around_0 23 rfl rfl
theorem dksX9_around_2 : cX9_around.data.toList.drop 47 = dktX9_around_2 := dk_seg dksX9_around_1 24 rfl rfl
theorem dX9_around_0 : decode cX9_around 0 = .ok (.iconst 1, 1) := dk_4 (dk_at dksX9_around_0 0 rfl rfl)
theorem dX9_around_1 : decode cX9_around 1 = .ok (.istore_n 3, 1) := dk_62 (dk_at dksX9_around_0 1 rfl rfl)
theorem dX9_around_2 : decode cX9_around 2 = .ok (.iload_n 1, 1) := dk_27 (dk_at dksX9_around_0 2 rfl rfl)
theorem dX9_around_3 : decode cX9_around 3 = .ok (.iconst 1, 1) := dk_4 (dk_at dksX9_around_0 3 rfl rfl)
theorem dX9_around_4 : decode cX9_around 4 = .ok (.isub, 1) := dk_100 (dk_at dksX9_around_0 4 rfl rfl)
theorem dX9_around_5 : decode cX9_around 5 = .ok (.istore 4, 2) := dk_54 4 (dk_at dksX9_around_0 5 rfl rfl)
theorem dX9_around_7 : decode cX9_around 7 = .ok (.iload 4, 2) := dk_21 4 (dk_at dksX9_around_0 7 rfl rfl)
theorem dX9_around_9 : decode cX9_around 9 = .ok (.ifCond .lt 23, 3) := dk_155 0 23 (dk_at dksX9_around_0 9 rfl rfl)
theorem dX9_around_12 : decode cX9_around 12 = .ok (.aload_n 0, 1) := dk_42 (dk_at dksX9_around_0 12 rfl rfl)
theorem dX9_around_13 : decode cX9_around 13 = .ok (.getfield 32, 3) := dk_180 0 32 (dk_at dksX9_around_0 13 rfl rfl)
theorem dX9_around_16 : decode cX9_around 16 = .ok (.iload 4, 2) := dk_21 4 (dk_at dksX9_around_0 16 rfl rfl)
theorem dX9_around_18 : decode cX9_around 18 = .ok (.iaload, 1) := dk_46 (dk_at dksX9_around_0 18 rfl rfl)
theorem dX9_around_19 : decode cX9_around 19 = .ok (.iload_n 2, 1) := dk_28 (dk_at dksX9_around_0 19 rfl rfl)
theorem dX9_around_20 : decode cX9_around 20 = .ok (.if_icmp .lt 12, 3) := dk_161 0 12 (dk_at dksX9_around_0 20 rfl rfl)
theorem dX9_around_23 : decode cX9_around 23 = .ok (.iinc 3 1, 3) := dk_132 3 1 (dk_at dksX9_around_1 0 rfl rfl)
theorem dX9_around_26 : decode cX9_around 26 = .ok (.iinc 4 (-1), 3) := dk_132 4 255 (dk_at dksX9_around_1 3 rfl rfl)
theorem dX9_around_29 : decode cX9_around 29 = .ok (.goto (-22), 3) := dk_167 255 234 (dk_at dksX9_around_1 6 rfl rfl)
theorem dX9_around_32 : decode cX9_around 32 = .ok (.iload_n 1, 1) := dk_27 (dk_at dksX9_around_1 9 rfl rfl)
theorem dX9_around_33 : decode cX9_around 33 = .ok (.iconst 1, 1) := dk_4 (dk_at dksX9_around_1 10 rfl rfl)
theorem dX9_around_34 : decode cX9_around 34 = .ok (.iadd, 1) := dk_96 (dk_at dksX9_around_1 11 rfl rfl)
theorem dX9_around_35 : decode cX9_around 35 = .ok (.istore 4, 2) := dk_54 4 (dk_at dksX9_around_1 12 rfl rfl)
theorem dX9_around_37 : decode cX9_around 37 = .ok (.iload 4, 2) := dk_21 4 (dk_at dksX9_around_1 14 rfl rfl)
theorem dX9_around_39 : decode cX9_around 39 = .ok (.aload_n 0, 1) := dk_42 (dk_at dksX9_around_1 16 rfl rfl)
theorem dX9_around_40 : decode cX9_around 40 = .ok (.invokevirtual 257, 3) := dk_182 1 1 (dk_at dksX9_around_1 17 rfl rfl)
theorem dX9_around_43 : decode cX9_around 43 = .ok (.if_icmp .ge 23, 3) := dk_162 0 23 (dk_at dksX9_around_1 20 rfl rfl)
theorem dX9_around_46 : decode cX9_around 46 = .ok (.aload_n 0, 1) := dk_42 (dk_at dksX9_around_1 23 rfl rfl)
theorem dX9_around_47 : decode cX9_around 47 = .ok (.getfield 32, 3) := dk_180 0 32 (dk_at dksX9_around_2 0 rfl rfl)
theorem dX9_around_50 : decode cX9_around 50 = .ok (.iload 4, 2) := dk_21 4 (dk_at dksX9_around_2 3 rfl rfl)
theorem dX9_around_52 : decode cX9_around 52 = .ok (.iaload, 1) := dk_46 (dk_at dksX9_around_2 5 rfl rfl)
theorem dX9_around_53 : decode cX9_around 53 = .ok (.iload_n 2, 1) := dk_28 (dk_at dksX9_around_2 6 rfl rfl)
theorem dX9_around_54 : decode cX9_around 54 = .ok (.if_icmp .lt 12, 3) := dk_161 0 12 (dk_at dksX9_around_2 7 rfl rfl)
theorem dX9_around_57 : decode cX9_around 57 = .ok (.iinc 3 1, 3) := dk_132 3 1 (dk_at dksX9_around_2 10 rfl rfl)
theorem dX9_around_60 : decode cX9_around 60 = .ok (.iinc 4 1, 3) := dk_132 4 1 (dk_at dksX9_around_2 13 rfl rfl)
theorem dX9_around_63 : decode cX9_around 63 = .ok (.goto (-26), 3) := dk_167 255 230 (dk_at dksX9_around_2 16 rfl rfl)
theorem dX9_around_66 : decode cX9_around 66 = .ok (.iload_n 3, 1) := dk_29 (dk_at dksX9_around_2 19 rfl rfl)
theorem dX9_around_67 : decode cX9_around 67 = .ok (.ireturn, 1) := dk_172 (dk_at dksX9_around_2 20 rfl rfl)
def dkwX9_at_4 : List UInt8 := [132, 3, 1, 167, 255, 185, 2, 172]
abbrev dktX9_at_4 : List UInt8 := dkwX9_at_4 ++ []
def dkwX9_at_3 : List UInt8 := [182, 1, 82, 184, 0, 103, 153, 0, 7, 4, 167, 0, 4, 3, 54, 4, 21, 4, 153, 0, 5, 29, 172]
abbrev dktX9_at_3 : List UInt8 := dkwX9_at_3 ++ dktX9_at_4
def dkwX9_at_2 : List UInt8 := [167, 0, 37, 3, 167, 0, 33, 42, 29, 182, 1, 179, 153, 0, 24, 27, 42, 29, 182, 1, 79, 42, 29]
abbrev dktX9_at_2 : List UInt8 := dkwX9_at_2 ++ dktX9_at_3
def dkwX9_at_1 : List UInt8 := [62, 29, 42, 180, 1, 25, 162, 0, 69, 28, 154, 0, 20, 42, 29, 182, 1, 64, 27, 160, 0, 7, 4]
abbrev dktX9_at_1 : List UInt8 := dkwX9_at_1 ++ dktX9_at_2
def dkwX9_at_0 : List UInt8 := [42, 27, 182, 1, 110, 153, 0, 12, 28, 3, 4, 184, 0, 103, 154, 0, 5, 2, 172, 42, 182, 1, 101, 3]
abbrev dktX9_at_0 : List UInt8 := dkwX9_at_0 ++ dktX9_at_1
theorem dksX9_at_0 : cX9_at.data.toList.drop 0 = dktX9_at_0 := by decide +kernel
theorem dksX9_at_1 : cX9_at.data.toList.drop 24 = dktX9_at_1 := dk_seg dksX9_at_0 24 rfl rfl
theorem dksX9_at_2 : cX9_at.data.toList.drop 47 = dktX9_at_2 := dk_seg dksX9_at_1 23 rfl rfl
theorem dksX9_at_3 : cX9_at.data.toList.drop 70 = dktX9_at_3 := dk_seg dksX9_at_2 23 rfl rfl
theorem dksX9_at_4 : cX9_at.data.toList.drop 93 = dktX9_at_4 := dk_seg dksX9_at_3 23 rfl rfl
theorem dX9_at_0 : decode cX9_at 0 = .ok (.aload_n 0, 1) := dk_42 (dk_at dksX9_at_0 0 rfl rfl)
theorem dX9_at_1 : decode cX9_at 1 = .ok (.iload_n 1, 1) := dk_27 (dk_at dksX9_at_0 1 rfl rfl)
theorem dX9_at_2 : decode cX9_at 2 = .ok (.invokevirtual 366, 3) := dk_182 1 110 (dk_at dksX9_at_0 2 rfl rfl)
theorem dX9_at_5 : decode cX9_at 5 = .ok (.ifCond .eq 12, 3) := dk_153 0 12 (dk_at dksX9_at_0 5 rfl rfl)
theorem dX9_at_8 : decode cX9_at 8 = .ok (.iload_n 2, 1) := dk_28 (dk_at dksX9_at_0 8 rfl rfl)
theorem dX9_at_9 : decode cX9_at 9 = .ok (.iconst 0, 1) := dk_3 (dk_at dksX9_at_0 9 rfl rfl)
theorem dX9_at_10 : decode cX9_at 10 = .ok (.iconst 1, 1) := dk_4 (dk_at dksX9_at_0 10 rfl rfl)
theorem dX9_at_11 : decode cX9_at 11 = .ok (.invokestatic 103, 3) := dk_184 0 103 (dk_at dksX9_at_0 11 rfl rfl)
theorem dX9_at_14 : decode cX9_at 14 = .ok (.ifCond .ne 5, 3) := dk_154 0 5 (dk_at dksX9_at_0 14 rfl rfl)
theorem dX9_at_17 : decode cX9_at 17 = .ok (.iconst (-1), 1) := dk_2 (dk_at dksX9_at_0 17 rfl rfl)
theorem dX9_at_18 : decode cX9_at 18 = .ok (.ireturn, 1) := dk_172 (dk_at dksX9_at_0 18 rfl rfl)
theorem dX9_at_19 : decode cX9_at 19 = .ok (.aload_n 0, 1) := dk_42 (dk_at dksX9_at_0 19 rfl rfl)
theorem dX9_at_20 : decode cX9_at 20 = .ok (.invokevirtual 357, 3) := dk_182 1 101 (dk_at dksX9_at_0 20 rfl rfl)
theorem dX9_at_23 : decode cX9_at 23 = .ok (.iconst 0, 1) := dk_3 (dk_at dksX9_at_0 23 rfl rfl)
theorem dX9_at_24 : decode cX9_at 24 = .ok (.istore_n 3, 1) := dk_62 (dk_at dksX9_at_1 0 rfl rfl)
theorem dX9_at_25 : decode cX9_at 25 = .ok (.iload_n 3, 1) := dk_29 (dk_at dksX9_at_1 1 rfl rfl)
theorem dX9_at_26 : decode cX9_at 26 = .ok (.aload_n 0, 1) := dk_42 (dk_at dksX9_at_1 2 rfl rfl)
theorem dX9_at_27 : decode cX9_at 27 = .ok (.getfield 281, 3) := dk_180 1 25 (dk_at dksX9_at_1 3 rfl rfl)
theorem dX9_at_30 : decode cX9_at 30 = .ok (.if_icmp .ge 69, 3) := dk_162 0 69 (dk_at dksX9_at_1 6 rfl rfl)
theorem dX9_at_33 : decode cX9_at 33 = .ok (.iload_n 2, 1) := dk_28 (dk_at dksX9_at_1 9 rfl rfl)
theorem dX9_at_34 : decode cX9_at 34 = .ok (.ifCond .ne 20, 3) := dk_154 0 20 (dk_at dksX9_at_1 10 rfl rfl)
theorem dX9_at_37 : decode cX9_at 37 = .ok (.aload_n 0, 1) := dk_42 (dk_at dksX9_at_1 13 rfl rfl)
theorem dX9_at_38 : decode cX9_at 38 = .ok (.iload_n 3, 1) := dk_29 (dk_at dksX9_at_1 14 rfl rfl)
theorem dX9_at_39 : decode cX9_at 39 = .ok (.invokevirtual 320, 3) := dk_182 1 64 (dk_at dksX9_at_1 15 rfl rfl)
theorem dX9_at_42 : decode cX9_at 42 = .ok (.iload_n 1, 1) := dk_27 (dk_at dksX9_at_1 18 rfl rfl)
theorem dX9_at_43 : decode cX9_at 43 = .ok (.if_icmp .ne 7, 3) := dk_160 0 7 (dk_at dksX9_at_1 19 rfl rfl)
theorem dX9_at_46 : decode cX9_at 46 = .ok (.iconst 1, 1) := dk_4 (dk_at dksX9_at_1 22 rfl rfl)
theorem dX9_at_47 : decode cX9_at 47 = .ok (.goto 37, 3) := dk_167 0 37 (dk_at dksX9_at_2 0 rfl rfl)
theorem dX9_at_50 : decode cX9_at 50 = .ok (.iconst 0, 1) := dk_3 (dk_at dksX9_at_2 3 rfl rfl)
theorem dX9_at_51 : decode cX9_at 51 = .ok (.goto 33, 3) := dk_167 0 33 (dk_at dksX9_at_2 4 rfl rfl)
theorem dX9_at_54 : decode cX9_at 54 = .ok (.aload_n 0, 1) := dk_42 (dk_at dksX9_at_2 7 rfl rfl)
theorem dX9_at_55 : decode cX9_at 55 = .ok (.iload_n 3, 1) := dk_29 (dk_at dksX9_at_2 8 rfl rfl)
theorem dX9_at_56 : decode cX9_at 56 = .ok (.invokevirtual 435, 3) := dk_182 1 179 (dk_at dksX9_at_2 9 rfl rfl)
theorem dX9_at_59 : decode cX9_at 59 = .ok (.ifCond .eq 24, 3) := dk_153 0 24 (dk_at dksX9_at_2 12 rfl rfl)
theorem dX9_at_62 : decode cX9_at 62 = .ok (.iload_n 1, 1) := dk_27 (dk_at dksX9_at_2 15 rfl rfl)
theorem dX9_at_63 : decode cX9_at 63 = .ok (.aload_n 0, 1) := dk_42 (dk_at dksX9_at_2 16 rfl rfl)
theorem dX9_at_64 : decode cX9_at 64 = .ok (.iload_n 3, 1) := dk_29 (dk_at dksX9_at_2 17 rfl rfl)
theorem dX9_at_65 : decode cX9_at 65 = .ok (.invokevirtual 335, 3) := dk_182 1 79 (dk_at dksX9_at_2 18 rfl rfl)
theorem dX9_at_68 : decode cX9_at 68 = .ok (.aload_n 0, 1) := dk_42 (dk_at dksX9_at_2 21 rfl rfl)
theorem dX9_at_69 : decode cX9_at 69 = .ok (.iload_n 3, 1) := dk_29 (dk_at dksX9_at_2 22 rfl rfl)
theorem dX9_at_70 : decode cX9_at 70 = .ok (.invokevirtual 338, 3) := dk_182 1 82 (dk_at dksX9_at_3 0 rfl rfl)
theorem dX9_at_73 : decode cX9_at 73 = .ok (.invokestatic 103, 3) := dk_184 0 103 (dk_at dksX9_at_3 3 rfl rfl)
theorem dX9_at_76 : decode cX9_at 76 = .ok (.ifCond .eq 7, 3) := dk_153 0 7 (dk_at dksX9_at_3 6 rfl rfl)
theorem dX9_at_79 : decode cX9_at 79 = .ok (.iconst 1, 1) := dk_4 (dk_at dksX9_at_3 9 rfl rfl)
theorem dX9_at_80 : decode cX9_at 80 = .ok (.goto 4, 3) := dk_167 0 4 (dk_at dksX9_at_3 10 rfl rfl)
theorem dX9_at_83 : decode cX9_at 83 = .ok (.iconst 0, 1) := dk_3 (dk_at dksX9_at_3 13 rfl rfl)
theorem dX9_at_84 : decode cX9_at 84 = .ok (.istore 4, 2) := dk_54 4 (dk_at dksX9_at_3 14 rfl rfl)
theorem dX9_at_86 : decode cX9_at 86 = .ok (.iload 4, 2) := dk_21 4 (dk_at dksX9_at_3 16 rfl rfl)
theorem dX9_at_88 : decode cX9_at 88 = .ok (.ifCond .eq 5, 3) := dk_153 0 5 (dk_at dksX9_at_3 18 rfl rfl)
theorem dX9_at_91 : decode cX9_at 91 = .ok (.iload_n 3, 1) := dk_29 (dk_at dksX9_at_3 21 rfl rfl)
theorem dX9_at_92 : decode cX9_at 92 = .ok (.ireturn, 1) := dk_172 (dk_at dksX9_at_3 22 rfl rfl)
theorem dX9_at_93 : decode cX9_at 93 = .ok (.iinc 3 1, 3) := dk_132 3 1 (dk_at dksX9_at_4 0 rfl rfl)
theorem dX9_at_96 : decode cX9_at 96 = .ok (.goto (-71), 3) := dk_167 255 185 (dk_at dksX9_at_4 3 rfl rfl)
theorem dX9_at_99 : decode cX9_at 99 = .ok (.iconst (-1), 1) := dk_2 (dk_at dksX9_at_4 6 rfl rfl)
theorem dX9_at_100 : decode cX9_at 100 = .ok (.ireturn, 1) := dk_172 (dk_at dksX9_at_4 7 rfl rfl)
def dkwX9_line_2 : List UInt8 := [167, 0, 23, 28, 4, 160, 0, 12, 42, 180, 0, 71, 27, 46, 167, 0, 9, 42, 180, 0, 41, 27, 46, 172]
abbrev dktX9_line_2 : List UInt8 := dkwX9_line_2 ++ []
def dkwX9_line_1 : List UInt8 := [184, 0, 103, 154, 0, 5, 2, 172, 42, 182, 1, 101, 28, 154, 0, 12, 42, 180, 0, 38, 27, 46]
abbrev dktX9_line_1 : List UInt8 := dkwX9_line_1 ++ dktX9_line_2
def dkwX9_line_0 : List UInt8 := [42, 180, 0, 254, 153, 0, 26, 27, 3, 42, 180, 1, 7, 4, 100, 184, 0, 103, 153, 0, 12, 28, 3, 5]
abbrev dktX9_line_0 : List UInt8 := dkwX9_line_0 ++ dktX9_line_1
theorem dksX9_line_0 : cX9_line.data.toList.drop 0 = dktX9_line_0 := by decide +kernel
theorem dksX9_line_1 : cX9_line.data.toList.drop 24 = dktX9_line_1 := dk_seg dksX9_line_0 24 rfl rfl
theorem dksX9_line_2 : cX9_line.data.toList.drop 46 = dktX9_line_2 := dk_seg dksX9_line_1 22 rfl rfl
theorem dX9_line_0 : decode cX9_line 0 = .ok (.aload_n 0, 1) := dk_42 (dk_at dksX9_line_0 0 rfl rfl)
theorem dX9_line_1 : decode cX9_line 1 = .ok (.getfield 254, 3) := dk_180 0 254 (dk_at dksX9_line_0 1 rfl rfl)
theorem dX9_line_4 : decode cX9_line 4 = .ok (.ifCond .eq 26, 3) := dk_153 0 26 (dk_at dksX9_line_0 4 rfl rfl)
theorem dX9_line_7 : decode cX9_line 7 = .ok (.iload_n 1, 1) := dk_27 (dk_at dksX9_line_0 7 rfl rfl)
theorem dX9_line_8 : decode cX9_line 8 = .ok (.iconst 0, 1) := dk_3 (dk_at dksX9_line_0 8 rfl rfl)
theorem dX9_line_9 : decode cX9_line 9 = .ok (.aload_n 0, 1) := dk_42 (dk_at dksX9_line_0 9 rfl rfl)
theorem dX9_line_10 : decode cX9_line 10 = .ok (.getfield 263, 3) := dk_180 1 7 (dk_at dksX9_line_0 10 rfl rfl)
theorem dX9_line_13 : decode cX9_line 13 = .ok (.iconst 1, 1) := dk_4 (dk_at dksX9_line_0 13 rfl rfl)
theorem dX9_line_14 : decode cX9_line 14 = .ok (.isub, 1) := dk_100 (dk_at dksX9_line_0 14 rfl rfl)
theorem dX9_line_15 : decode cX9_line 15 = .ok (.invokestatic 103, 3) := dk_184 0 103 (dk_at dksX9_line_0 15 rfl rfl)
theorem dX9_line_18 : decode cX9_line 18 = .ok (.ifCond .eq 12, 3) := dk_153 0 12 (dk_at dksX9_line_0 18 rfl rfl)
theorem dX9_line_21 : decode cX9_line 21 = .ok (.iload_n 2, 1) := dk_28 (dk_at dksX9_line_0 21 rfl rfl)
theorem dX9_line_22 : decode cX9_line 22 = .ok (.iconst 0, 1) := dk_3 (dk_at dksX9_line_0 22 rfl rfl)
theorem dX9_line_23 : decode cX9_line 23 = .ok (.iconst 2, 1) := dk_5 (dk_at dksX9_line_0 23 rfl rfl)
theorem dX9_line_24 : decode cX9_line 24 = .ok (.invokestatic 103, 3) := dk_184 0 103 (dk_at dksX9_line_1 0 rfl rfl)
theorem dX9_line_27 : decode cX9_line 27 = .ok (.ifCond .ne 5, 3) := dk_154 0 5 (dk_at dksX9_line_1 3 rfl rfl)
theorem dX9_line_30 : decode cX9_line 30 = .ok (.iconst (-1), 1) := dk_2 (dk_at dksX9_line_1 6 rfl rfl)
theorem dX9_line_31 : decode cX9_line 31 = .ok (.ireturn, 1) := dk_172 (dk_at dksX9_line_1 7 rfl rfl)
theorem dX9_line_32 : decode cX9_line 32 = .ok (.aload_n 0, 1) := dk_42 (dk_at dksX9_line_1 8 rfl rfl)
theorem dX9_line_33 : decode cX9_line 33 = .ok (.invokevirtual 357, 3) := dk_182 1 101 (dk_at dksX9_line_1 9 rfl rfl)
theorem dX9_line_36 : decode cX9_line 36 = .ok (.iload_n 2, 1) := dk_28 (dk_at dksX9_line_1 12 rfl rfl)
theorem dX9_line_37 : decode cX9_line 37 = .ok (.ifCond .ne 12, 3) := dk_154 0 12 (dk_at dksX9_line_1 13 rfl rfl)
theorem dX9_line_40 : decode cX9_line 40 = .ok (.aload_n 0, 1) := dk_42 (dk_at dksX9_line_1 16 rfl rfl)
theorem dX9_line_41 : decode cX9_line 41 = .ok (.getfield 38, 3) := dk_180 0 38 (dk_at dksX9_line_1 17 rfl rfl)
theorem dX9_line_44 : decode cX9_line 44 = .ok (.iload_n 1, 1) := dk_27 (dk_at dksX9_line_1 20 rfl rfl)
theorem dX9_line_45 : decode cX9_line 45 = .ok (.iaload, 1) := dk_46 (dk_at dksX9_line_1 21 rfl rfl)
theorem dX9_line_46 : decode cX9_line 46 = .ok (.goto 23, 3) := dk_167 0 23 (dk_at dksX9_line_2 0 rfl rfl)
theorem dX9_line_49 : decode cX9_line 49 = .ok (.iload_n 2, 1) := dk_28 (dk_at dksX9_line_2 3 rfl rfl)
theorem dX9_line_50 : decode cX9_line 50 = .ok (.iconst 1, 1) := dk_4 (dk_at dksX9_line_2 4 rfl rfl)
theorem dX9_line_51 : decode cX9_line 51 = .ok (.if_icmp .ne 12, 3) := dk_160 0 12 (dk_at dksX9_line_2 5 rfl rfl)
theorem dX9_line_54 : decode cX9_line 54 = .ok (.aload_n 0, 1) := dk_42 (dk_at dksX9_line_2 8 rfl rfl)
theorem dX9_line_55 : decode cX9_line 55 = .ok (.getfield 71, 3) := dk_180 0 71 (dk_at dksX9_line_2 9 rfl rfl)
theorem dX9_line_58 : decode cX9_line 58 = .ok (.iload_n 1, 1) := dk_27 (dk_at dksX9_line_2 12 rfl rfl)
theorem dX9_line_59 : decode cX9_line 59 = .ok (.iaload, 1) := dk_46 (dk_at dksX9_line_2 13 rfl rfl)
theorem dX9_line_60 : decode cX9_line 60 = .ok (.goto 9, 3) := dk_167 0 9 (dk_at dksX9_line_2 14 rfl rfl)
theorem dX9_line_63 : decode cX9_line 63 = .ok (.aload_n 0, 1) := dk_42 (dk_at dksX9_line_2 17 rfl rfl)
theorem dX9_line_64 : decode cX9_line 64 = .ok (.getfield 41, 3) := dk_180 0 41 (dk_at dksX9_line_2 18 rfl rfl)
theorem dX9_line_67 : decode cX9_line 67 = .ok (.iload_n 1, 1) := dk_27 (dk_at dksX9_line_2 21 rfl rfl)
theorem dX9_line_68 : decode cX9_line 68 = .ok (.iaload, 1) := dk_46 (dk_at dksX9_line_2 22 rfl rfl)
theorem dX9_line_69 : decode cX9_line 69 = .ok (.ireturn, 1) := dk_172 (dk_at dksX9_line_2 23 rfl rfl)
def dkwX9_noiseFor_1 : List UInt8 := [42, 180, 1, 25, 162, 0, 11, 42, 27, 182, 1, 88, 167, 0, 4, 3, 172]
abbrev dktX9_noiseFor_1 : List UInt8 := dkwX9_noiseFor_1 ++ []
def dkwX9_noiseFor_0 : List UInt8 := [42, 180, 0, 254, 153, 0, 13, 27, 4, 16, 48, 184, 0, 103, 154, 0, 5, 2, 172, 42, 182, 1, 101, 27]
abbrev dktX9_noiseFor_0 : List UInt8 := dkwX9_noiseFor_0 ++ dktX9_noiseFor_1
theorem dksX9_noiseFor_0 : cX9_noiseFor.data.toList.drop 0 = dktX9_noiseFor_0 := by decide +kernel
theorem dksX9_noiseFor_1 : cX9_noiseFor.data.toList.drop 24 = dktX9_noiseFor_1 := dk_seg dksX9_noiseFor_0 24 rfl rfl
theorem dX9_noiseFor_0 : decode cX9_noiseFor 0 = .ok (.aload_n 0, 1) := dk_42 (dk_at dksX9_noiseFor_0 0 rfl rfl)
theorem dX9_noiseFor_1 : decode cX9_noiseFor 1 = .ok (.getfield 254, 3) := dk_180 0 254 (dk_at dksX9_noiseFor_0 1 rfl rfl)
theorem dX9_noiseFor_4 : decode cX9_noiseFor 4 = .ok (.ifCond .eq 13, 3) := dk_153 0 13 (dk_at dksX9_noiseFor_0 4 rfl rfl)
theorem dX9_noiseFor_7 : decode cX9_noiseFor 7 = .ok (.iload_n 1, 1) := dk_27 (dk_at dksX9_noiseFor_0 7 rfl rfl)
theorem dX9_noiseFor_8 : decode cX9_noiseFor 8 = .ok (.iconst 1, 1) := dk_4 (dk_at dksX9_noiseFor_0 8 rfl rfl)
theorem dX9_noiseFor_9 : decode cX9_noiseFor 9 = .ok (.bipush 48, 2) := dk_16 48 (dk_at dksX9_noiseFor_0 9 rfl rfl)
theorem dX9_noiseFor_11 : decode cX9_noiseFor 11 = .ok (.invokestatic 103, 3) := dk_184 0 103 (dk_at dksX9_noiseFor_0 11 rfl rfl)
theorem dX9_noiseFor_14 : decode cX9_noiseFor 14 = .ok (.ifCond .ne 5, 3) := dk_154 0 5 (dk_at dksX9_noiseFor_0 14 rfl rfl)
theorem dX9_noiseFor_17 : decode cX9_noiseFor 17 = .ok (.iconst (-1), 1) := dk_2 (dk_at dksX9_noiseFor_0 17 rfl rfl)
theorem dX9_noiseFor_18 : decode cX9_noiseFor 18 = .ok (.ireturn, 1) := dk_172 (dk_at dksX9_noiseFor_0 18 rfl rfl)
theorem dX9_noiseFor_19 : decode cX9_noiseFor 19 = .ok (.aload_n 0, 1) := dk_42 (dk_at dksX9_noiseFor_0 19 rfl rfl)
theorem dX9_noiseFor_20 : decode cX9_noiseFor 20 = .ok (.invokevirtual 357, 3) := dk_182 1 101 (dk_at dksX9_noiseFor_0 20 rfl rfl)
theorem dX9_noiseFor_23 : decode cX9_noiseFor 23 = .ok (.iload_n 1, 1) := dk_27 (dk_at dksX9_noiseFor_0 23 rfl rfl)
theorem dX9_noiseFor_24 : decode cX9_noiseFor 24 = .ok (.aload_n 0, 1) := dk_42 (dk_at dksX9_noiseFor_1 0 rfl rfl)
theorem dX9_noiseFor_25 : decode cX9_noiseFor 25 = .ok (.getfield 281, 3) := dk_180 1 25 (dk_at dksX9_noiseFor_1 1 rfl rfl)
theorem dX9_noiseFor_28 : decode cX9_noiseFor 28 = .ok (.if_icmp .ge 11, 3) := dk_162 0 11 (dk_at dksX9_noiseFor_1 4 rfl rfl)
theorem dX9_noiseFor_31 : decode cX9_noiseFor 31 = .ok (.aload_n 0, 1) := dk_42 (dk_at dksX9_noiseFor_1 7 rfl rfl)
theorem dX9_noiseFor_32 : decode cX9_noiseFor 32 = .ok (.iload_n 1, 1) := dk_27 (dk_at dksX9_noiseFor_1 8 rfl rfl)
theorem dX9_noiseFor_33 : decode cX9_noiseFor 33 = .ok (.invokevirtual 344, 3) := dk_182 1 88 (dk_at dksX9_noiseFor_1 9 rfl rfl)
theorem dX9_noiseFor_36 : decode cX9_noiseFor 36 = .ok (.goto 4, 3) := dk_167 0 4 (dk_at dksX9_noiseFor_1 12 rfl rfl)
theorem dX9_noiseFor_39 : decode cX9_noiseFor 39 = .ok (.iconst 0, 1) := dk_3 (dk_at dksX9_noiseFor_1 15 rfl rfl)
theorem dX9_noiseFor_40 : decode cX9_noiseFor 40 = .ok (.ireturn, 1) := dk_172 (dk_at dksX9_noiseFor_1 16 rfl rfl)
def dkwX9_pieces_3 : List UInt8 := [28, 172]
abbrev dktX9_pieces_3 : List UInt8 := dkwX9_pieces_3 ++ []
def dkwX9_pieces_2 : List UInt8 := [180, 0, 32, 29, 4, 100, 46, 27, 162, 0, 7, 4, 167, 0, 4, 3, 96, 61, 132, 3, 1, 167, 255, 211]
abbrev dktX9_pieces_2 : List UInt8 := dkwX9_pieces_2 ++ dktX9_pieces_3
def dkwX9_pieces_1 : List UInt8 := [29, 42, 182, 1, 1, 162, 0, 43, 28, 42, 180, 0, 32, 29, 46, 27, 161, 0, 23, 29, 153, 0, 15, 42]
abbrev dktX9_pieces_1 : List UInt8 := dkwX9_pieces_1 ++ dktX9_pieces_2
def dkwX9_pieces_0 : List UInt8 := [42, 180, 0, 254, 153, 0, 14, 27, 3, 17, 3, 231, 184, 0, 103, 154, 0, 5, 2, 172, 3, 61, 3, 62]
abbrev dktX9_pieces_0 : List UInt8 := dkwX9_pieces_0 ++ dktX9_pieces_1
theorem dksX9_pieces_0 : cX9_pieces.data.toList.drop 0 = dktX9_pieces_0 := by decide +kernel
theorem dksX9_pieces_1 : cX9_pieces.data.toList.drop 24 = dktX9_pieces_1 := dk_seg dksX9_pieces_0 24 rfl rfl
theorem dksX9_pieces_2 : cX9_pieces.data.toList.drop 48 = dktX9_pieces_2 := dk_seg dksX9_pieces_1 24 rfl rfl
theorem dksX9_pieces_3 : cX9_pieces.data.toList.drop 72 = dktX9_pieces_3 := dk_seg dksX9_pieces_2 24 rfl rfl
theorem dX9_pieces_0 : decode cX9_pieces 0 = .ok (.aload_n 0, 1) := dk_42 (dk_at dksX9_pieces_0 0 rfl rfl)
theorem dX9_pieces_1 : decode cX9_pieces 1 = .ok (.getfield 254, 3) := dk_180 0 254 (dk_at dksX9_pieces_0 1 rfl rfl)
theorem dX9_pieces_4 : decode cX9_pieces 4 = .ok (.ifCond .eq 14, 3) := dk_153 0 14 (dk_at dksX9_pieces_0 4 rfl rfl)
theorem dX9_pieces_7 : decode cX9_pieces 7 = .ok (.iload_n 1, 1) := dk_27 (dk_at dksX9_pieces_0 7 rfl rfl)
theorem dX9_pieces_8 : decode cX9_pieces 8 = .ok (.iconst 0, 1) := dk_3 (dk_at dksX9_pieces_0 8 rfl rfl)
theorem dX9_pieces_9 : decode cX9_pieces 9 = .ok (.sipush 999, 3) := dk_17 3 231 (dk_at dksX9_pieces_0 9 rfl rfl)
theorem dX9_pieces_12 : decode cX9_pieces 12 = .ok (.invokestatic 103, 3) := dk_184 0 103 (dk_at dksX9_pieces_0 12 rfl rfl)
theorem dX9_pieces_15 : decode cX9_pieces 15 = .ok (.ifCond .ne 5, 3) := dk_154 0 5 (dk_at dksX9_pieces_0 15 rfl rfl)
theorem dX9_pieces_18 : decode cX9_pieces 18 = .ok (.iconst (-1), 1) := dk_2 (dk_at dksX9_pieces_0 18 rfl rfl)
theorem dX9_pieces_19 : decode cX9_pieces 19 = .ok (.ireturn, 1) := dk_172 (dk_at dksX9_pieces_0 19 rfl rfl)
theorem dX9_pieces_20 : decode cX9_pieces 20 = .ok (.iconst 0, 1) := dk_3 (dk_at dksX9_pieces_0 20 rfl rfl)
theorem dX9_pieces_21 : decode cX9_pieces 21 = .ok (.istore_n 2, 1) := dk_61 (dk_at dksX9_pieces_0 21 rfl rfl)
theorem dX9_pieces_22 : decode cX9_pieces 22 = .ok (.iconst 0, 1) := dk_3 (dk_at dksX9_pieces_0 22 rfl rfl)
theorem dX9_pieces_23 : decode cX9_pieces 23 = .ok (.istore_n 3, 1) := dk_62 (dk_at dksX9_pieces_0 23 rfl rfl)
theorem dX9_pieces_24 : decode cX9_pieces 24 = .ok (.iload_n 3, 1) := dk_29 (dk_at dksX9_pieces_1 0 rfl rfl)
theorem dX9_pieces_25 : decode cX9_pieces 25 = .ok (.aload_n 0, 1) := dk_42 (dk_at dksX9_pieces_1 1 rfl rfl)
theorem dX9_pieces_26 : decode cX9_pieces 26 = .ok (.invokevirtual 257, 3) := dk_182 1 1 (dk_at dksX9_pieces_1 2 rfl rfl)
theorem dX9_pieces_29 : decode cX9_pieces 29 = .ok (.if_icmp .ge 43, 3) := dk_162 0 43 (dk_at dksX9_pieces_1 5 rfl rfl)
theorem dX9_pieces_32 : decode cX9_pieces 32 = .ok (.iload_n 2, 1) := dk_28 (dk_at dksX9_pieces_1 8 rfl rfl)
theorem dX9_pieces_33 : decode cX9_pieces 33 = .ok (.aload_n 0, 1) := dk_42 (dk_at dksX9_pieces_1 9 rfl rfl)
theorem dX9_pieces_34 : decode cX9_pieces 34 = .ok (.getfield 32, 3) := dk_180 0 32 (dk_at dksX9_pieces_1 10 rfl rfl)
theorem dX9_pieces_37 : decode cX9_pieces 37 = .ok (.iload_n 3, 1) := dk_29 (dk_at dksX9_pieces_1 13 rfl rfl)
theorem dX9_pieces_38 : decode cX9_pieces 38 = .ok (.iaload, 1) := dk_46 (dk_at dksX9_pieces_1 14 rfl rfl)
theorem dX9_pieces_39 : decode cX9_pieces 39 = .ok (.iload_n 1, 1) := dk_27 (dk_at dksX9_pieces_1 15 rfl rfl)
theorem dX9_pieces_40 : decode cX9_pieces 40 = .ok (.if_icmp .lt 23, 3) := dk_161 0 23 (dk_at dksX9_pieces_1 16 rfl rfl)
theorem dX9_pieces_43 : decode cX9_pieces 43 = .ok (.iload_n 3, 1) := dk_29 (dk_at dksX9_pieces_1 19 rfl rfl)
theorem dX9_pieces_44 : decode cX9_pieces 44 = .ok (.ifCond .eq 15, 3) := dk_153 0 15 (dk_at dksX9_pieces_1 20 rfl rfl)
theorem dX9_pieces_47 : decode cX9_pieces 47 = .ok (.aload_n 0, 1) := dk_42 (dk_at dksX9_pieces_1 23 rfl rfl)
theorem dX9_pieces_48 : decode cX9_pieces 48 = .ok (.getfield 32, 3) := dk_180 0 32 (dk_at dksX9_pieces_2 0 rfl rfl)
theorem dX9_pieces_51 : decode cX9_pieces 51 = .ok (.iload_n 3, 1) := dk_29 (dk_at dksX9_pieces_2 3 rfl rfl)
theorem dX9_pieces_52 : decode cX9_pieces 52 = .ok (.iconst 1, 1) := dk_4 (dk_at dksX9_pieces_2 4 rfl rfl)
theorem dX9_pieces_53 : decode cX9_pieces 53 = .ok (.isub, 1) := dk_100 (dk_at dksX9_pieces_2 5 rfl rfl)
theorem dX9_pieces_54 : decode cX9_pieces 54 = .ok (.iaload, 1) := dk_46 (dk_at dksX9_pieces_2 6 rfl rfl)
theorem dX9_pieces_55 : decode cX9_pieces 55 = .ok (.iload_n 1, 1) := dk_27 (dk_at dksX9_pieces_2 7 rfl rfl)
theorem dX9_pieces_56 : decode cX9_pieces 56 = .ok (.if_icmp .ge 7, 3) := dk_162 0 7 (dk_at dksX9_pieces_2 8 rfl rfl)
theorem dX9_pieces_59 : decode cX9_pieces 59 = .ok (.iconst 1, 1) := dk_4 (dk_at dksX9_pieces_2 11 rfl rfl)
theorem dX9_pieces_60 : decode cX9_pieces 60 = .ok (.goto 4, 3) := dk_167 0 4 (dk_at dksX9_pieces_2 12 rfl rfl)
theorem dX9_pieces_63 : decode cX9_pieces 63 = .ok (.iconst 0, 1) := dk_3 (dk_at dksX9_pieces_2 15 rfl rfl)
theorem dX9_pieces_64 : decode cX9_pieces 64 = .ok (.iadd, 1) := dk_96 (dk_at dksX9_pieces_2 16 rfl rfl)
theorem dX9_pieces_65 : decode cX9_pieces 65 = .ok (.istore_n 2, 1) := dk_61 (dk_at dksX9_pieces_2 17 rfl rfl)
theorem dX9_pieces_66 : decode cX9_pieces 66 = .ok (.iinc 3 1, 3) := dk_132 3 1 (dk_at dksX9_pieces_2 18 rfl rfl)
theorem dX9_pieces_69 : decode cX9_pieces 69 = .ok (.goto (-45), 3) := dk_167 255 211 (dk_at dksX9_pieces_2 21 rfl rfl)
theorem dX9_pieces_72 : decode cX9_pieces 72 = .ok (.iload_n 2, 1) := dk_28 (dk_at dksX9_pieces_3 0 rfl rfl)
theorem dX9_pieces_73 : decode cX9_pieces 73 = .ok (.ireturn, 1) := dk_172 (dk_at dksX9_pieces_3 1 rfl rfl)
def dkwX9_room_3 : List UInt8 := [182, 1, 191, 42, 180, 1, 58, 160, 0, 9, 132, 3, 1, 167, 255, 206, 29, 172]
abbrev dktX9_room_3 : List UInt8 := dkwX9_room_3 ++ []
def dkwX9_room_2 : List UInt8 := [3, 17, 3, 231, 184, 0, 103, 153, 0, 33, 42, 42, 180, 0, 32, 16, 49, 46, 29, 4, 96, 28, 104, 96]
abbrev dktX9_room_2 : List UInt8 := dkwX9_room_2 ++ dktX9_room_3
def dkwX9_room_1 : List UInt8 := [154, 0, 7, 4, 167, 0, 4, 2, 61, 3, 62, 42, 180, 0, 32, 16, 49, 46, 29, 4, 96, 28, 104, 96]
abbrev dktX9_room_1 : List UInt8 := dkwX9_room_1 ++ dktX9_room_2
def dkwX9_room_0 : List UInt8 := [42, 180, 0, 254, 153, 0, 12, 27, 3, 4, 184, 0, 103, 154, 0, 5, 2, 172, 42, 182, 1, 101, 27]
abbrev dktX9_room_0 : List UInt8 := dkwX9_room_0 ++ dktX9_room_1
theorem dksX9_room_0 : cX9_room.data.toList.drop 0 = dktX9_room_0 := by decide +kernel
theorem dksX9_room_1 : cX9_room.data.toList.drop 23 = dktX9_room_1 := dk_seg dksX9_room_0 23 rfl rfl
theorem dksX9_room_2 : cX9_room.data.toList.drop 47 = dktX9_room_2 := dk_seg dksX9_room_1 24 rfl rfl
theorem dksX9_room_3 : cX9_room.data.toList.drop 71 = dktX9_room_3 := dk_seg dksX9_room_2 24 rfl rfl
theorem dX9_room_0 : decode cX9_room 0 = .ok (.aload_n 0, 1) := dk_42 (dk_at dksX9_room_0 0 rfl rfl)
theorem dX9_room_1 : decode cX9_room 1 = .ok (.getfield 254, 3) := dk_180 0 254 (dk_at dksX9_room_0 1 rfl rfl)
theorem dX9_room_4 : decode cX9_room 4 = .ok (.ifCond .eq 12, 3) := dk_153 0 12 (dk_at dksX9_room_0 4 rfl rfl)
theorem dX9_room_7 : decode cX9_room 7 = .ok (.iload_n 1, 1) := dk_27 (dk_at dksX9_room_0 7 rfl rfl)
theorem dX9_room_8 : decode cX9_room 8 = .ok (.iconst 0, 1) := dk_3 (dk_at dksX9_room_0 8 rfl rfl)
theorem dX9_room_9 : decode cX9_room 9 = .ok (.iconst 1, 1) := dk_4 (dk_at dksX9_room_0 9 rfl rfl)
theorem dX9_room_10 : decode cX9_room 10 = .ok (.invokestatic 103, 3) := dk_184 0 103 (dk_at dksX9_room_0 10 rfl rfl)
theorem dX9_room_13 : decode cX9_room 13 = .ok (.ifCond .ne 5, 3) := dk_154 0 5 (dk_at dksX9_room_0 13 rfl rfl)
theorem dX9_room_16 : decode cX9_room 16 = .ok (.iconst (-1), 1) := dk_2 (dk_at dksX9_room_0 16 rfl rfl)
theorem dX9_room_17 : decode cX9_room 17 = .ok (.ireturn, 1) := dk_172 (dk_at dksX9_room_0 17 rfl rfl)
theorem dX9_room_18 : decode cX9_room 18 = .ok (.aload_n 0, 1) := dk_42 (dk_at dksX9_room_0 18 rfl rfl)
theorem dX9_room_19 : decode cX9_room 19 = .ok (.invokevirtual 357, 3) := dk_182 1 101 (dk_at dksX9_room_0 19 rfl rfl)
theorem dX9_room_22 : decode cX9_room 22 = .ok (.iload_n 1, 1) := dk_27 (dk_at dksX9_room_0 22 rfl rfl)
theorem dX9_room_23 : decode cX9_room 23 = .ok (.ifCond .ne 7, 3) := dk_154 0 7 (dk_at dksX9_room_1 0 rfl rfl)
theorem dX9_room_26 : decode cX9_room 26 = .ok (.iconst 1, 1) := dk_4 (dk_at dksX9_room_1 3 rfl rfl)
theorem dX9_room_27 : decode cX9_room 27 = .ok (.goto 4, 3) := dk_167 0 4 (dk_at dksX9_room_1 4 rfl rfl)
theorem dX9_room_30 : decode cX9_room 30 = .ok (.iconst (-1), 1) := dk_2 (dk_at dksX9_room_1 7 rfl rfl)
theorem dX9_room_31 : decode cX9_room 31 = .ok (.istore_n 2, 1) := dk_61 (dk_at dksX9_room_1 8 rfl rfl)
theorem dX9_room_32 : decode cX9_room 32 = .ok (.iconst 0, 1) := dk_3 (dk_at dksX9_room_1 9 rfl rfl)
theorem dX9_room_33 : decode cX9_room 33 = .ok (.istore_n 3, 1) := dk_62 (dk_at dksX9_room_1 10 rfl rfl)
theorem dX9_room_34 : decode cX9_room 34 = .ok (.aload_n 0, 1) := dk_42 (dk_at dksX9_room_1 11 rfl rfl)
theorem dX9_room_35 : decode cX9_room 35 = .ok (.getfield 32, 3) := dk_180 0 32 (dk_at dksX9_room_1 12 rfl rfl)
theorem dX9_room_38 : decode cX9_room 38 = .ok (.bipush 49, 2) := dk_16 49 (dk_at dksX9_room_1 15 rfl rfl)
theorem dX9_room_40 : decode cX9_room 40 = .ok (.iaload, 1) := dk_46 (dk_at dksX9_room_1 17 rfl rfl)
theorem dX9_room_41 : decode cX9_room 41 = .ok (.iload_n 3, 1) := dk_29 (dk_at dksX9_room_1 18 rfl rfl)
theorem dX9_room_42 : decode cX9_room 42 = .ok (.iconst 1, 1) := dk_4 (dk_at dksX9_room_1 19 rfl rfl)
theorem dX9_room_43 : decode cX9_room 43 = .ok (.iadd, 1) := dk_96 (dk_at dksX9_room_1 20 rfl rfl)
theorem dX9_room_44 : decode cX9_room 44 = .ok (.iload_n 2, 1) := dk_28 (dk_at dksX9_room_1 21 rfl rfl)
theorem dX9_room_45 : decode cX9_room 45 = .ok (.imul, 1) := dk_104 (dk_at dksX9_room_1 22 rfl rfl)
theorem dX9_room_46 : decode cX9_room 46 = .ok (.iadd, 1) := dk_96 (dk_at dksX9_room_1 23 rfl rfl)
theorem dX9_room_47 : decode cX9_room 47 = .ok (.iconst 0, 1) := dk_3 (dk_at dksX9_room_2 0 rfl rfl)
theorem dX9_room_48 : decode cX9_room 48 = .ok (.sipush 999, 3) := dk_17 3 231 (dk_at dksX9_room_2 1 rfl rfl)
theorem dX9_room_51 : decode cX9_room 51 = .ok (.invokestatic 103, 3) := dk_184 0 103 (dk_at dksX9_room_2 4 rfl rfl)
theorem dX9_room_54 : decode cX9_room 54 = .ok (.ifCond .eq 33, 3) := dk_153 0 33 (dk_at dksX9_room_2 7 rfl rfl)
theorem dX9_room_57 : decode cX9_room 57 = .ok (.aload_n 0, 1) := dk_42 (dk_at dksX9_room_2 10 rfl rfl)
theorem dX9_room_58 : decode cX9_room 58 = .ok (.aload_n 0, 1) := dk_42 (dk_at dksX9_room_2 11 rfl rfl)
theorem dX9_room_59 : decode cX9_room 59 = .ok (.getfield 32, 3) := dk_180 0 32 (dk_at dksX9_room_2 12 rfl rfl)
theorem dX9_room_62 : decode cX9_room 62 = .ok (.bipush 49, 2) := dk_16 49 (dk_at dksX9_room_2 15 rfl rfl)
theorem dX9_room_64 : decode cX9_room 64 = .ok (.iaload, 1) := dk_46 (dk_at dksX9_room_2 17 rfl rfl)
theorem dX9_room_65 : decode cX9_room 65 = .ok (.iload_n 3, 1) := dk_29 (dk_at dksX9_room_2 18 rfl rfl)
theorem dX9_room_66 : decode cX9_room 66 = .ok (.iconst 1, 1) := dk_4 (dk_at dksX9_room_2 19 rfl rfl)
theorem dX9_room_67 : decode cX9_room 67 = .ok (.iadd, 1) := dk_96 (dk_at dksX9_room_2 20 rfl rfl)
theorem dX9_room_68 : decode cX9_room 68 = .ok (.iload_n 2, 1) := dk_28 (dk_at dksX9_room_2 21 rfl rfl)
theorem dX9_room_69 : decode cX9_room 69 = .ok (.imul, 1) := dk_104 (dk_at dksX9_room_2 22 rfl rfl)
theorem dX9_room_70 : decode cX9_room 70 = .ok (.iadd, 1) := dk_96 (dk_at dksX9_room_2 23 rfl rfl)
theorem dX9_room_71 : decode cX9_room 71 = .ok (.invokevirtual 447, 3) := dk_182 1 191 (dk_at dksX9_room_3 0 rfl rfl)
theorem dX9_room_74 : decode cX9_room 74 = .ok (.aload_n 0, 1) := dk_42 (dk_at dksX9_room_3 3 rfl rfl)
theorem dX9_room_75 : decode cX9_room 75 = .ok (.getfield 314, 3) := dk_180 1 58 (dk_at dksX9_room_3 4 rfl rfl)
theorem dX9_room_78 : decode cX9_room 78 = .ok (.if_icmp .ne 9, 3) := dk_160 0 9 (dk_at dksX9_room_3 7 rfl rfl)
theorem dX9_room_81 : decode cX9_room 81 = .ok (.iinc 3 1, 3) := dk_132 3 1 (dk_at dksX9_room_3 10 rfl rfl)
theorem dX9_room_84 : decode cX9_room 84 = .ok (.goto (-50), 3) := dk_167 255 206 (dk_at dksX9_room_3 13 rfl rfl)
theorem dX9_room_87 : decode cX9_room 87 = .ok (.iload_n 3, 1) := dk_29 (dk_at dksX9_room_3 16 rfl rfl)
theorem dX9_room_88 : decode cX9_room 88 = .ok (.ireturn, 1) := dk_172 (dk_at dksX9_room_3 17 rfl rfl)
def dkwX9_keptBy_1 : List UInt8 := [167, 0, 4, 3, 96, 61, 132, 3, 1, 167, 255, 228, 28, 172]
abbrev dktX9_keptBy_1 : List UInt8 := dkwX9_keptBy_1 ++ []
def dkwX9_keptBy_0 : List UInt8 := [4, 61, 4, 62, 29, 42, 180, 1, 25, 162, 0, 26, 28, 42, 29, 182, 1, 88, 27, 164, 0, 7, 4]
abbrev dktX9_keptBy_0 : List UInt8 := dkwX9_keptBy_0 ++ dktX9_keptBy_1
theorem dksX9_keptBy_0 : cX9_keptBy.data.toList.drop 0 = dktX9_keptBy_0 := by decide +kernel
theorem dksX9_keptBy_1 : cX9_keptBy.data.toList.drop 23 = dktX9_keptBy_1 := dk_seg dksX9_keptBy_0 23 rfl rfl
theorem dX9_keptBy_0 : decode cX9_keptBy 0 = .ok (.iconst 1, 1) := dk_4 (dk_at dksX9_keptBy_0 0 rfl rfl)
theorem dX9_keptBy_1 : decode cX9_keptBy 1 = .ok (.istore_n 2, 1) := dk_61 (dk_at dksX9_keptBy_0 1 rfl rfl)
theorem dX9_keptBy_2 : decode cX9_keptBy 2 = .ok (.iconst 1, 1) := dk_4 (dk_at dksX9_keptBy_0 2 rfl rfl)
theorem dX9_keptBy_3 : decode cX9_keptBy 3 = .ok (.istore_n 3, 1) := dk_62 (dk_at dksX9_keptBy_0 3 rfl rfl)
theorem dX9_keptBy_4 : decode cX9_keptBy 4 = .ok (.iload_n 3, 1) := dk_29 (dk_at dksX9_keptBy_0 4 rfl rfl)
theorem dX9_keptBy_5 : decode cX9_keptBy 5 = .ok (.aload_n 0, 1) := dk_42 (dk_at dksX9_keptBy_0 5 rfl rfl)
theorem dX9_keptBy_6 : decode cX9_keptBy 6 = .ok (.getfield 281, 3) := dk_180 1 25 (dk_at dksX9_keptBy_0 6 rfl rfl)
theorem dX9_keptBy_9 : decode cX9_keptBy 9 = .ok (.if_icmp .ge 26, 3) := dk_162 0 26 (dk_at dksX9_keptBy_0 9 rfl rfl)
theorem dX9_keptBy_12 : decode cX9_keptBy 12 = .ok (.iload_n 2, 1) := dk_28 (dk_at dksX9_keptBy_0 12 rfl rfl)
theorem dX9_keptBy_13 : decode cX9_keptBy 13 = .ok (.aload_n 0, 1) := dk_42 (dk_at dksX9_keptBy_0 13 rfl rfl)
theorem dX9_keptBy_14 : decode cX9_keptBy 14 = .ok (.iload_n 3, 1) := dk_29 (dk_at dksX9_keptBy_0 14 rfl rfl)
theorem dX9_keptBy_15 : decode cX9_keptBy 15 = .ok (.invokevirtual 344, 3) := dk_182 1 88 (dk_at dksX9_keptBy_0 15 rfl rfl)
theorem dX9_keptBy_18 : decode cX9_keptBy 18 = .ok (.iload_n 1, 1) := dk_27 (dk_at dksX9_keptBy_0 18 rfl rfl)
theorem dX9_keptBy_19 : decode cX9_keptBy 19 = .ok (.if_icmp .le 7, 3) := dk_164 0 7 (dk_at dksX9_keptBy_0 19 rfl rfl)
theorem dX9_keptBy_22 : decode cX9_keptBy 22 = .ok (.iconst 1, 1) := dk_4 (dk_at dksX9_keptBy_0 22 rfl rfl)
theorem dX9_keptBy_23 : decode cX9_keptBy 23 = .ok (.goto 4, 3) := dk_167 0 4 (dk_at dksX9_keptBy_1 0 rfl rfl)
theorem dX9_keptBy_26 : decode cX9_keptBy 26 = .ok (.iconst 0, 1) := dk_3 (dk_at dksX9_keptBy_1 3 rfl rfl)
theorem dX9_keptBy_27 : decode cX9_keptBy 27 = .ok (.iadd, 1) := dk_96 (dk_at dksX9_keptBy_1 4 rfl rfl)
theorem dX9_keptBy_28 : decode cX9_keptBy 28 = .ok (.istore_n 2, 1) := dk_61 (dk_at dksX9_keptBy_1 5 rfl rfl)
theorem dX9_keptBy_29 : decode cX9_keptBy 29 = .ok (.iinc 3 1, 3) := dk_132 3 1 (dk_at dksX9_keptBy_1 6 rfl rfl)
theorem dX9_keptBy_32 : decode cX9_keptBy 32 = .ok (.goto (-28), 3) := dk_167 255 228 (dk_at dksX9_keptBy_1 9 rfl rfl)
theorem dX9_keptBy_35 : decode cX9_keptBy 35 = .ok (.iload_n 2, 1) := dk_28 (dk_at dksX9_keptBy_1 12 rfl rfl)
theorem dX9_keptBy_36 : decode cX9_keptBy 36 = .ok (.ireturn, 1) := dk_172 (dk_at dksX9_keptBy_1 13 rfl rfl)
def dkwX9_image_1 : List UInt8 := [180, 0, 32, 27, 46, 79, 132, 1, 1, 167, 255, 234, 42, 4, 181, 1, 13, 42, 182, 1, 117, 172]
abbrev dktX9_image_1 : List UInt8 := dkwX9_image_1 ++ []
def dkwX9_image_0 : List UInt8 := [42, 180, 0, 254, 154, 0, 5, 2, 172, 3, 60, 27, 17, 0, 231, 162, 0, 21, 42, 180, 0, 80, 27, 42]
abbrev dktX9_image_0 : List UInt8 := dkwX9_image_0 ++ dktX9_image_1
theorem dksX9_image_0 : cX9_image.data.toList.drop 0 = dktX9_image_0 := by decide +kernel
theorem dksX9_image_1 : cX9_image.data.toList.drop 24 = dktX9_image_1 := dk_seg dksX9_image_0 24 rfl rfl
theorem dX9_image_0 : decode cX9_image 0 = .ok (.aload_n 0, 1) := dk_42 (dk_at dksX9_image_0 0 rfl rfl)
theorem dX9_image_1 : decode cX9_image 1 = .ok (.getfield 254, 3) := dk_180 0 254 (dk_at dksX9_image_0 1 rfl rfl)
theorem dX9_image_4 : decode cX9_image 4 = .ok (.ifCond .ne 5, 3) := dk_154 0 5 (dk_at dksX9_image_0 4 rfl rfl)
theorem dX9_image_7 : decode cX9_image 7 = .ok (.iconst (-1), 1) := dk_2 (dk_at dksX9_image_0 7 rfl rfl)
theorem dX9_image_8 : decode cX9_image 8 = .ok (.ireturn, 1) := dk_172 (dk_at dksX9_image_0 8 rfl rfl)
theorem dX9_image_9 : decode cX9_image 9 = .ok (.iconst 0, 1) := dk_3 (dk_at dksX9_image_0 9 rfl rfl)
theorem dX9_image_10 : decode cX9_image 10 = .ok (.istore_n 1, 1) := dk_60 (dk_at dksX9_image_0 10 rfl rfl)
theorem dX9_image_11 : decode cX9_image 11 = .ok (.iload_n 1, 1) := dk_27 (dk_at dksX9_image_0 11 rfl rfl)
theorem dX9_image_12 : decode cX9_image 12 = .ok (.sipush 231, 3) := dk_17 0 231 (dk_at dksX9_image_0 12 rfl rfl)
theorem dX9_image_15 : decode cX9_image 15 = .ok (.if_icmp .ge 21, 3) := dk_162 0 21 (dk_at dksX9_image_0 15 rfl rfl)
theorem dX9_image_18 : decode cX9_image 18 = .ok (.aload_n 0, 1) := dk_42 (dk_at dksX9_image_0 18 rfl rfl)
theorem dX9_image_19 : decode cX9_image 19 = .ok (.getfield 80, 3) := dk_180 0 80 (dk_at dksX9_image_0 19 rfl rfl)
theorem dX9_image_22 : decode cX9_image 22 = .ok (.iload_n 1, 1) := dk_27 (dk_at dksX9_image_0 22 rfl rfl)
theorem dX9_image_23 : decode cX9_image 23 = .ok (.aload_n 0, 1) := dk_42 (dk_at dksX9_image_0 23 rfl rfl)
theorem dX9_image_24 : decode cX9_image 24 = .ok (.getfield 32, 3) := dk_180 0 32 (dk_at dksX9_image_1 0 rfl rfl)
theorem dX9_image_27 : decode cX9_image 27 = .ok (.iload_n 1, 1) := dk_27 (dk_at dksX9_image_1 3 rfl rfl)
theorem dX9_image_28 : decode cX9_image 28 = .ok (.iaload, 1) := dk_46 (dk_at dksX9_image_1 4 rfl rfl)
theorem dX9_image_29 : decode cX9_image 29 = .ok (.iastore, 1) := dk_79 (dk_at dksX9_image_1 5 rfl rfl)
theorem dX9_image_30 : decode cX9_image 30 = .ok (.iinc 1 1, 3) := dk_132 1 1 (dk_at dksX9_image_1 6 rfl rfl)
theorem dX9_image_33 : decode cX9_image 33 = .ok (.goto (-22), 3) := dk_167 255 234 (dk_at dksX9_image_1 9 rfl rfl)
theorem dX9_image_36 : decode cX9_image 36 = .ok (.aload_n 0, 1) := dk_42 (dk_at dksX9_image_1 12 rfl rfl)
theorem dX9_image_37 : decode cX9_image 37 = .ok (.iconst 1, 1) := dk_4 (dk_at dksX9_image_1 13 rfl rfl)
theorem dX9_image_38 : decode cX9_image 38 = .ok (.putfield 269, 3) := dk_181 1 13 (dk_at dksX9_image_1 14 rfl rfl)
theorem dX9_image_41 : decode cX9_image 41 = .ok (.aload_n 0, 1) := dk_42 (dk_at dksX9_image_1 17 rfl rfl)
theorem dX9_image_42 : decode cX9_image 42 = .ok (.invokevirtual 373, 3) := dk_182 1 117 (dk_at dksX9_image_1 18 rfl rfl)
theorem dX9_image_45 : decode cX9_image 45 = .ok (.ireturn, 1) := dk_172 (dk_at dksX9_image_1 21 rfl rfl)
def dkwX9_back_1 : List UInt8 := [180, 0, 80, 27, 46, 79, 132, 1, 1, 167, 255, 234, 42, 3, 181, 1, 10, 42, 182, 1, 117, 172]
abbrev dktX9_back_1 : List UInt8 := dkwX9_back_1 ++ []
def dkwX9_back_0 : List UInt8 := [42, 180, 1, 13, 154, 0, 5, 2, 172, 3, 60, 27, 17, 0, 231, 162, 0, 21, 42, 180, 0, 32, 27, 42]
abbrev dktX9_back_0 : List UInt8 := dkwX9_back_0 ++ dktX9_back_1
theorem dksX9_back_0 : cX9_back.data.toList.drop 0 = dktX9_back_0 := by decide +kernel
theorem dksX9_back_1 : cX9_back.data.toList.drop 24 = dktX9_back_1 := dk_seg dksX9_back_0 24 rfl rfl
theorem dX9_back_0 : decode cX9_back 0 = .ok (.aload_n 0, 1) := dk_42 (dk_at dksX9_back_0 0 rfl rfl)
theorem dX9_back_1 : decode cX9_back 1 = .ok (.getfield 269, 3) := dk_180 1 13 (dk_at dksX9_back_0 1 rfl rfl)
theorem dX9_back_4 : decode cX9_back 4 = .ok (.ifCond .ne 5, 3) := dk_154 0 5 (dk_at dksX9_back_0 4 rfl rfl)
theorem dX9_back_7 : decode cX9_back 7 = .ok (.iconst (-1), 1) := dk_2 (dk_at dksX9_back_0 7 rfl rfl)
theorem dX9_back_8 : decode cX9_back 8 = .ok (.ireturn, 1) := dk_172 (dk_at dksX9_back_0 8 rfl rfl)
theorem dX9_back_9 : decode cX9_back 9 = .ok (.iconst 0, 1) := dk_3 (dk_at dksX9_back_0 9 rfl rfl)
theorem dX9_back_10 : decode cX9_back 10 = .ok (.istore_n 1, 1) := dk_60 (dk_at dksX9_back_0 10 rfl rfl)
theorem dX9_back_11 : decode cX9_back 11 = .ok (.iload_n 1, 1) := dk_27 (dk_at dksX9_back_0 11 rfl rfl)
theorem dX9_back_12 : decode cX9_back 12 = .ok (.sipush 231, 3) := dk_17 0 231 (dk_at dksX9_back_0 12 rfl rfl)
theorem dX9_back_15 : decode cX9_back 15 = .ok (.if_icmp .ge 21, 3) := dk_162 0 21 (dk_at dksX9_back_0 15 rfl rfl)
theorem dX9_back_18 : decode cX9_back 18 = .ok (.aload_n 0, 1) := dk_42 (dk_at dksX9_back_0 18 rfl rfl)
theorem dX9_back_19 : decode cX9_back 19 = .ok (.getfield 32, 3) := dk_180 0 32 (dk_at dksX9_back_0 19 rfl rfl)
theorem dX9_back_22 : decode cX9_back 22 = .ok (.iload_n 1, 1) := dk_27 (dk_at dksX9_back_0 22 rfl rfl)
theorem dX9_back_23 : decode cX9_back 23 = .ok (.aload_n 0, 1) := dk_42 (dk_at dksX9_back_0 23 rfl rfl)
theorem dX9_back_24 : decode cX9_back 24 = .ok (.getfield 80, 3) := dk_180 0 80 (dk_at dksX9_back_1 0 rfl rfl)
theorem dX9_back_27 : decode cX9_back 27 = .ok (.iload_n 1, 1) := dk_27 (dk_at dksX9_back_1 3 rfl rfl)
theorem dX9_back_28 : decode cX9_back 28 = .ok (.iaload, 1) := dk_46 (dk_at dksX9_back_1 4 rfl rfl)
theorem dX9_back_29 : decode cX9_back 29 = .ok (.iastore, 1) := dk_79 (dk_at dksX9_back_1 5 rfl rfl)
theorem dX9_back_30 : decode cX9_back 30 = .ok (.iinc 1 1, 3) := dk_132 1 1 (dk_at dksX9_back_1 6 rfl rfl)
theorem dX9_back_33 : decode cX9_back 33 = .ok (.goto (-22), 3) := dk_167 255 234 (dk_at dksX9_back_1 9 rfl rfl)
theorem dX9_back_36 : decode cX9_back 36 = .ok (.aload_n 0, 1) := dk_42 (dk_at dksX9_back_1 12 rfl rfl)
theorem dX9_back_37 : decode cX9_back 37 = .ok (.iconst 0, 1) := dk_3 (dk_at dksX9_back_1 13 rfl rfl)
theorem dX9_back_38 : decode cX9_back 38 = .ok (.putfield 266, 3) := dk_181 1 10 (dk_at dksX9_back_1 14 rfl rfl)
theorem dX9_back_41 : decode cX9_back 41 = .ok (.aload_n 0, 1) := dk_42 (dk_at dksX9_back_1 17 rfl rfl)
theorem dX9_back_42 : decode cX9_back 42 = .ok (.invokevirtual 373, 3) := dk_182 1 117 (dk_at dksX9_back_1 18 rfl rfl)
theorem dX9_back_45 : decode cX9_back 45 = .ok (.ireturn, 1) := dk_172 (dk_at dksX9_back_1 21 rfl rfl)
def dkwX9_unlike_5 : List UInt8 := [182, 1, 88, 167, 0, 4, 3, 184, 1, 70, 96, 60, 132, 2, 1, 167, 255, 218, 27, 172]
abbrev dktX9_unlike_5 : List UInt8 := dkwX9_unlike_5 ++ []
def dkwX9_unlike_4 : List UInt8 := [16, 48, 162, 0, 38, 27, 42, 180, 0, 86, 28, 46, 28, 42, 180, 1, 25, 162, 0, 11, 42, 28]
abbrev dktX9_unlike_4 : List UInt8 := dkwX9_unlike_4 ++ dktX9_unlike_5
def dkwX9_unlike_3 : List UInt8 := [167, 0, 4, 3, 79, 132, 1, 1, 167, 255, 224, 42, 182, 1, 197, 42, 182, 1, 101, 3, 60, 3, 61, 28]
abbrev dktX9_unlike_3 : List UInt8 := dkwX9_unlike_3 ++ dktX9_unlike_4
def dkwX9_unlike_2 : List UInt8 := [16, 48, 162, 0, 32, 42, 180, 0, 86, 27, 27, 42, 180, 1, 25, 162, 0, 11, 42, 27, 182, 1, 88]
abbrev dktX9_unlike_2 : List UInt8 := dkwX9_unlike_2 ++ dktX9_unlike_3
def dkwX9_unlike_1 : List UInt8 := [180, 0, 32, 27, 42, 180, 0, 80, 27, 46, 79, 132, 1, 1, 167, 255, 235, 42, 182, 1, 101, 3, 60, 27]
abbrev dktX9_unlike_1 : List UInt8 := dkwX9_unlike_1 ++ dktX9_unlike_2
def dkwX9_unlike_0 : List UInt8 := [42, 180, 1, 13, 154, 0, 5, 2, 172, 42, 182, 1, 194, 3, 60, 27, 16, 50, 162, 0, 21, 42]
abbrev dktX9_unlike_0 : List UInt8 := dkwX9_unlike_0 ++ dktX9_unlike_1
theorem dksX9_unlike_0 : cX9_unlike.data.toList.drop 0 = dktX9_unlike_0 := by decide +kernel
theorem dksX9_unlike_1 : cX9_unlike.data.toList.drop 22 = dktX9_unlike_1 := dk_seg dksX9_unlike_0 22 rfl rfl
theorem dksX9_unlike_2 : cX9_unlike.data.toList.drop 46 = dktX9_unlike_2 := dk_seg dksX9_unlike_1 24 rfl rfl
theorem dksX9_unlike_3 : cX9_unlike.data.toList.drop 69 = dktX9_unlike_3 := dk_seg dksX9_unlike_2 23 rfl rfl
theorem dksX9_unlike_4 : cX9_unlike.data.toList.drop 93 = dktX9_unlike_4 := dk_seg dksX9_unlike_3 24 rfl rfl
theorem dksX9_unlike_5 : cX9_unlike.data.toList.drop 115 = dktX9_unlike_5 := dk_seg dksX9_unlike_4 22 rfl rfl
theorem dX9_unlike_0 : decode cX9_unlike 0 = .ok (.aload_n 0, 1) := dk_42 (dk_at dksX9_unlike_0 0 rfl rfl)
theorem dX9_unlike_1 : decode cX9_unlike 1 = .ok (.getfield 269, 3) := dk_180 1 13 (dk_at dksX9_unlike_0 1 rfl rfl)
theorem dX9_unlike_4 : decode cX9_unlike 4 = .ok (.ifCond .ne 5, 3) := dk_154 0 5 (dk_at dksX9_unlike_0 4 rfl rfl)
theorem dX9_unlike_7 : decode cX9_unlike 7 = .ok (.iconst (-1), 1) := dk_2 (dk_at dksX9_unlike_0 7 rfl rfl)
theorem dX9_unlike_8 : decode cX9_unlike 8 = .ok (.ireturn, 1) := dk_172 (dk_at dksX9_unlike_0 8 rfl rfl)
theorem dX9_unlike_9 : decode cX9_unlike 9 = .ok (.aload_n 0, 1) := dk_42 (dk_at dksX9_unlike_0 9 rfl rfl)
theorem dX9_unlike_10 : decode cX9_unlike 10 = .ok (.invokevirtual 450, 3) := dk_182 1 194 (dk_at dksX9_unlike_0 10 rfl rfl)
theorem dX9_unlike_13 : decode cX9_unlike 13 = .ok (.iconst 0, 1) := dk_3 (dk_at dksX9_unlike_0 13 rfl rfl)
theorem dX9_unlike_14 : decode cX9_unlike 14 = .ok (.istore_n 1, 1) := dk_60 (dk_at dksX9_unlike_0 14 rfl rfl)
theorem dX9_unlike_15 : decode cX9_unlike 15 = .ok (.iload_n 1, 1) := dk_27 (dk_at dksX9_unlike_0 15 rfl rfl)
theorem dX9_unlike_16 : decode cX9_unlike 16 = .ok (.bipush 50, 2) := dk_16 50 (dk_at dksX9_unlike_0 16 rfl rfl)
theorem dX9_unlike_18 : decode cX9_unlike 18 = .ok (.if_icmp .ge 21, 3) := dk_162 0 21 (dk_at dksX9_unlike_0 18 rfl rfl)
theorem dX9_unlike_21 : decode cX9_unlike 21 = .ok (.aload_n 0, 1) := dk_42 (dk_at dksX9_unlike_0 21 rfl rfl)
theorem dX9_unlike_22 : decode cX9_unlike 22 = .ok (.getfield 32, 3) := dk_180 0 32 (dk_at dksX9_unlike_1 0 rfl rfl)
theorem dX9_unlike_25 : decode cX9_unlike 25 = .ok (.iload_n 1, 1) := dk_27 (dk_at dksX9_unlike_1 3 rfl rfl)
theorem dX9_unlike_26 : decode cX9_unlike 26 = .ok (.aload_n 0, 1) := dk_42 (dk_at dksX9_unlike_1 4 rfl rfl)
theorem dX9_unlike_27 : decode cX9_unlike 27 = .ok (.getfield 80, 3) := dk_180 0 80 (dk_at dksX9_unlike_1 5 rfl rfl)
theorem dX9_unlike_30 : decode cX9_unlike 30 = .ok (.iload_n 1, 1) := dk_27 (dk_at dksX9_unlike_1 8 rfl rfl)
theorem dX9_unlike_31 : decode cX9_unlike 31 = .ok (.iaload, 1) := dk_46 (dk_at dksX9_unlike_1 9 rfl rfl)
theorem dX9_unlike_32 : decode cX9_unlike 32 = .ok (.iastore, 1) := dk_79 (dk_at dksX9_unlike_1 10 rfl rfl)
theorem dX9_unlike_33 : decode cX9_unlike 33 = .ok (.iinc 1 1, 3) := dk_132 1 1 (dk_at dksX9_unlike_1 11 rfl rfl)
theorem dX9_unlike_36 : decode cX9_unlike 36 = .ok (.goto (-21), 3) := dk_167 255 235 (dk_at dksX9_unlike_1 14 rfl rfl)
theorem dX9_unlike_39 : decode cX9_unlike 39 = .ok (.aload_n 0, 1) := dk_42 (dk_at dksX9_unlike_1 17 rfl rfl)
theorem dX9_unlike_40 : decode cX9_unlike 40 = .ok (.invokevirtual 357, 3) := dk_182 1 101 (dk_at dksX9_unlike_1 18 rfl rfl)
theorem dX9_unlike_43 : decode cX9_unlike 43 = .ok (.iconst 0, 1) := dk_3 (dk_at dksX9_unlike_1 21 rfl rfl)
theorem dX9_unlike_44 : decode cX9_unlike 44 = .ok (.istore_n 1, 1) := dk_60 (dk_at dksX9_unlike_1 22 rfl rfl)
theorem dX9_unlike_45 : decode cX9_unlike 45 = .ok (.iload_n 1, 1) := dk_27 (dk_at dksX9_unlike_1 23 rfl rfl)
theorem dX9_unlike_46 : decode cX9_unlike 46 = .ok (.bipush 48, 2) := dk_16 48 (dk_at dksX9_unlike_2 0 rfl rfl)
theorem dX9_unlike_48 : decode cX9_unlike 48 = .ok (.if_icmp .ge 32, 3) := dk_162 0 32 (dk_at dksX9_unlike_2 2 rfl rfl)
theorem dX9_unlike_51 : decode cX9_unlike 51 = .ok (.aload_n 0, 1) := dk_42 (dk_at dksX9_unlike_2 5 rfl rfl)
theorem dX9_unlike_52 : decode cX9_unlike 52 = .ok (.getfield 86, 3) := dk_180 0 86 (dk_at dksX9_unlike_2 6 rfl rfl)
theorem dX9_unlike_55 : decode cX9_unlike 55 = .ok (.iload_n 1, 1) := dk_27 (dk_at dksX9_unlike_2 9 rfl rfl)
theorem dX9_unlike_56 : decode cX9_unlike 56 = .ok (.iload_n 1, 1) := dk_27 (dk_at dksX9_unlike_2 10 rfl rfl)
theorem dX9_unlike_57 : decode cX9_unlike 57 = .ok (.aload_n 0, 1) := dk_42 (dk_at dksX9_unlike_2 11 rfl rfl)
theorem dX9_unlike_58 : decode cX9_unlike 58 = .ok (.getfield 281, 3) := dk_180 1 25 (dk_at dksX9_unlike_2 12 rfl rfl)
theorem dX9_unlike_61 : decode cX9_unlike 61 = .ok (.if_icmp .ge 11, 3) := dk_162 0 11 (dk_at dksX9_unlike_2 15 rfl rfl)
theorem dX9_unlike_64 : decode cX9_unlike 64 = .ok (.aload_n 0, 1) := dk_42 (dk_at dksX9_unlike_2 18 rfl rfl)
theorem dX9_unlike_65 : decode cX9_unlike 65 = .ok (.iload_n 1, 1) := dk_27 (dk_at dksX9_unlike_2 19 rfl rfl)
theorem dX9_unlike_66 : decode cX9_unlike 66 = .ok (.invokevirtual 344, 3) := dk_182 1 88 (dk_at dksX9_unlike_2 20 rfl rfl)
theorem dX9_unlike_69 : decode cX9_unlike 69 = .ok (.goto 4, 3) := dk_167 0 4 (dk_at dksX9_unlike_3 0 rfl rfl)
theorem dX9_unlike_72 : decode cX9_unlike 72 = .ok (.iconst 0, 1) := dk_3 (dk_at dksX9_unlike_3 3 rfl rfl)
theorem dX9_unlike_73 : decode cX9_unlike 73 = .ok (.iastore, 1) := dk_79 (dk_at dksX9_unlike_3 4 rfl rfl)
theorem dX9_unlike_74 : decode cX9_unlike 74 = .ok (.iinc 1 1, 3) := dk_132 1 1 (dk_at dksX9_unlike_3 5 rfl rfl)
theorem dX9_unlike_77 : decode cX9_unlike 77 = .ok (.goto (-32), 3) := dk_167 255 224 (dk_at dksX9_unlike_3 8 rfl rfl)
theorem dX9_unlike_80 : decode cX9_unlike 80 = .ok (.aload_n 0, 1) := dk_42 (dk_at dksX9_unlike_3 11 rfl rfl)
theorem dX9_unlike_81 : decode cX9_unlike 81 = .ok (.invokevirtual 453, 3) := dk_182 1 197 (dk_at dksX9_unlike_3 12 rfl rfl)
theorem dX9_unlike_84 : decode cX9_unlike 84 = .ok (.aload_n 0, 1) := dk_42 (dk_at dksX9_unlike_3 15 rfl rfl)
theorem dX9_unlike_85 : decode cX9_unlike 85 = .ok (.invokevirtual 357, 3) := dk_182 1 101 (dk_at dksX9_unlike_3 16 rfl rfl)
theorem dX9_unlike_88 : decode cX9_unlike 88 = .ok (.iconst 0, 1) := dk_3 (dk_at dksX9_unlike_3 19 rfl rfl)
theorem dX9_unlike_89 : decode cX9_unlike 89 = .ok (.istore_n 1, 1) := dk_60 (dk_at dksX9_unlike_3 20 rfl rfl)
theorem dX9_unlike_90 : decode cX9_unlike 90 = .ok (.iconst 0, 1) := dk_3 (dk_at dksX9_unlike_3 21 rfl rfl)
theorem dX9_unlike_91 : decode cX9_unlike 91 = .ok (.istore_n 2, 1) := dk_61 (dk_at dksX9_unlike_3 22 rfl rfl)
theorem dX9_unlike_92 : decode cX9_unlike 92 = .ok (.iload_n 2, 1) := dk_28 (dk_at dksX9_unlike_3 23 rfl rfl)
theorem dX9_unlike_93 : decode cX9_unlike 93 = .ok (.bipush 48, 2) := dk_16 48 (dk_at dksX9_unlike_4 0 rfl rfl)
theorem dX9_unlike_95 : decode cX9_unlike 95 = .ok (.if_icmp .ge 38, 3) := dk_162 0 38 (dk_at dksX9_unlike_4 2 rfl rfl)
theorem dX9_unlike_98 : decode cX9_unlike 98 = .ok (.iload_n 1, 1) := dk_27 (dk_at dksX9_unlike_4 5 rfl rfl)
theorem dX9_unlike_99 : decode cX9_unlike 99 = .ok (.aload_n 0, 1) := dk_42 (dk_at dksX9_unlike_4 6 rfl rfl)
theorem dX9_unlike_100 : decode cX9_unlike 100 = .ok (.getfield 86, 3) := dk_180 0 86 (dk_at dksX9_unlike_4 7 rfl rfl)
theorem dX9_unlike_103 : decode cX9_unlike 103 = .ok (.iload_n 2, 1) := dk_28 (dk_at dksX9_unlike_4 10 rfl rfl)
theorem dX9_unlike_104 : decode cX9_unlike 104 = .ok (.iaload, 1) := dk_46 (dk_at dksX9_unlike_4 11 rfl rfl)
theorem dX9_unlike_105 : decode cX9_unlike 105 = .ok (.iload_n 2, 1) := dk_28 (dk_at dksX9_unlike_4 12 rfl rfl)
theorem dX9_unlike_106 : decode cX9_unlike 106 = .ok (.aload_n 0, 1) := dk_42 (dk_at dksX9_unlike_4 13 rfl rfl)
theorem dX9_unlike_107 : decode cX9_unlike 107 = .ok (.getfield 281, 3) := dk_180 1 25 (dk_at dksX9_unlike_4 14 rfl rfl)
theorem dX9_unlike_110 : decode cX9_unlike 110 = .ok (.if_icmp .ge 11, 3) := dk_162 0 11 (dk_at dksX9_unlike_4 17 rfl rfl)
theorem dX9_unlike_113 : decode cX9_unlike 113 = .ok (.aload_n 0, 1) := dk_42 (dk_at dksX9_unlike_4 20 rfl rfl)
theorem dX9_unlike_114 : decode cX9_unlike 114 = .ok (.iload_n 2, 1) := dk_28 (dk_at dksX9_unlike_4 21 rfl rfl)
theorem dX9_unlike_115 : decode cX9_unlike 115 = .ok (.invokevirtual 344, 3) := dk_182 1 88 (dk_at dksX9_unlike_5 0 rfl rfl)
theorem dX9_unlike_118 : decode cX9_unlike 118 = .ok (.goto 4, 3) := dk_167 0 4 (dk_at dksX9_unlike_5 3 rfl rfl)
theorem dX9_unlike_121 : decode cX9_unlike 121 = .ok (.iconst 0, 1) := dk_3 (dk_at dksX9_unlike_5 6 rfl rfl)
theorem dX9_unlike_122 : decode cX9_unlike 122 = .ok (.invokestatic 326, 3) := dk_184 1 70 (dk_at dksX9_unlike_5 7 rfl rfl)
theorem dX9_unlike_125 : decode cX9_unlike 125 = .ok (.iadd, 1) := dk_96 (dk_at dksX9_unlike_5 10 rfl rfl)
theorem dX9_unlike_126 : decode cX9_unlike 126 = .ok (.istore_n 1, 1) := dk_60 (dk_at dksX9_unlike_5 11 rfl rfl)
theorem dX9_unlike_127 : decode cX9_unlike 127 = .ok (.iinc 2 1, 3) := dk_132 2 1 (dk_at dksX9_unlike_5 12 rfl rfl)
theorem dX9_unlike_130 : decode cX9_unlike 130 = .ok (.goto (-38), 3) := dk_167 255 218 (dk_at dksX9_unlike_5 15 rfl rfl)
theorem dX9_unlike_133 : decode cX9_unlike 133 = .ok (.iload_n 1, 1) := dk_27 (dk_at dksX9_unlike_5 18 rfl rfl)
theorem dX9_unlike_134 : decode cX9_unlike 134 = .ok (.ireturn, 1) := dk_172 (dk_at dksX9_unlike_5 19 rfl rfl)
def dkwX9_putAside_1 : List UInt8 := [167, 255, 235, 177]
abbrev dktX9_putAside_1 : List UInt8 := dkwX9_putAside_1 ++ []
def dkwX9_putAside_0 : List UInt8 := [3, 60, 27, 16, 50, 162, 0, 21, 42, 180, 0, 83, 27, 42, 180, 0, 32, 27, 46, 79, 132, 1, 1]
abbrev dktX9_putAside_0 : List UInt8 := dkwX9_putAside_0 ++ dktX9_putAside_1
theorem dksX9_putAside_0 : cX9_putAside.data.toList.drop 0 = dktX9_putAside_0 := by decide +kernel
theorem dksX9_putAside_1 : cX9_putAside.data.toList.drop 23 = dktX9_putAside_1 := dk_seg dksX9_putAside_0 23 rfl rfl
theorem dX9_putAside_0 : decode cX9_putAside 0 = .ok (.iconst 0, 1) := dk_3 (dk_at dksX9_putAside_0 0 rfl rfl)
theorem dX9_putAside_1 : decode cX9_putAside 1 = .ok (.istore_n 1, 1) := dk_60 (dk_at dksX9_putAside_0 1 rfl rfl)
theorem dX9_putAside_2 : decode cX9_putAside 2 = .ok (.iload_n 1, 1) := dk_27 (dk_at dksX9_putAside_0 2 rfl rfl)
theorem dX9_putAside_3 : decode cX9_putAside 3 = .ok (.bipush 50, 2) := dk_16 50 (dk_at dksX9_putAside_0 3 rfl rfl)
theorem dX9_putAside_5 : decode cX9_putAside 5 = .ok (.if_icmp .ge 21, 3) := dk_162 0 21 (dk_at dksX9_putAside_0 5 rfl rfl)
theorem dX9_putAside_8 : decode cX9_putAside 8 = .ok (.aload_n 0, 1) := dk_42 (dk_at dksX9_putAside_0 8 rfl rfl)
theorem dX9_putAside_9 : decode cX9_putAside 9 = .ok (.getfield 83, 3) := dk_180 0 83 (dk_at dksX9_putAside_0 9 rfl rfl)
theorem dX9_putAside_12 : decode cX9_putAside 12 = .ok (.iload_n 1, 1) := dk_27 (dk_at dksX9_putAside_0 12 rfl rfl)
theorem dX9_putAside_13 : decode cX9_putAside 13 = .ok (.aload_n 0, 1) := dk_42 (dk_at dksX9_putAside_0 13 rfl rfl)
theorem dX9_putAside_14 : decode cX9_putAside 14 = .ok (.getfield 32, 3) := dk_180 0 32 (dk_at dksX9_putAside_0 14 rfl rfl)
theorem dX9_putAside_17 : decode cX9_putAside 17 = .ok (.iload_n 1, 1) := dk_27 (dk_at dksX9_putAside_0 17 rfl rfl)
theorem dX9_putAside_18 : decode cX9_putAside 18 = .ok (.iaload, 1) := dk_46 (dk_at dksX9_putAside_0 18 rfl rfl)
theorem dX9_putAside_19 : decode cX9_putAside 19 = .ok (.iastore, 1) := dk_79 (dk_at dksX9_putAside_0 19 rfl rfl)
theorem dX9_putAside_20 : decode cX9_putAside 20 = .ok (.iinc 1 1, 3) := dk_132 1 1 (dk_at dksX9_putAside_0 20 rfl rfl)
theorem dX9_putAside_23 : decode cX9_putAside 23 = .ok (.goto (-21), 3) := dk_167 255 235 (dk_at dksX9_putAside_1 0 rfl rfl)
theorem dX9_putAside_26 : decode cX9_putAside 26 = .ok (.return_, 1) := dk_177 (dk_at dksX9_putAside_1 3 rfl rfl)
def dkwX9_bringBack_1 : List UInt8 := [167, 255, 235, 177]
abbrev dktX9_bringBack_1 : List UInt8 := dkwX9_bringBack_1 ++ []
def dkwX9_bringBack_0 : List UInt8 := [3, 60, 27, 16, 50, 162, 0, 21, 42, 180, 0, 32, 27, 42, 180, 0, 83, 27, 46, 79, 132, 1, 1]
abbrev dktX9_bringBack_0 : List UInt8 := dkwX9_bringBack_0 ++ dktX9_bringBack_1
theorem dksX9_bringBack_0 : cX9_bringBack.data.toList.drop 0 = dktX9_bringBack_0 := by decide +kernel
theorem dksX9_bringBack_1 : cX9_bringBack.data.toList.drop 23 = dktX9_bringBack_1 := dk_seg dksX9_bringBack_0 23 rfl rfl
theorem dX9_bringBack_0 : decode cX9_bringBack 0 = .ok (.iconst 0, 1) := dk_3 (dk_at dksX9_bringBack_0 0 rfl rfl)
theorem dX9_bringBack_1 : decode cX9_bringBack 1 = .ok (.istore_n 1, 1) := dk_60 (dk_at dksX9_bringBack_0 1 rfl rfl)
theorem dX9_bringBack_2 : decode cX9_bringBack 2 = .ok (.iload_n 1, 1) := dk_27 (dk_at dksX9_bringBack_0 2 rfl rfl)
theorem dX9_bringBack_3 : decode cX9_bringBack 3 = .ok (.bipush 50, 2) := dk_16 50 (dk_at dksX9_bringBack_0 3 rfl rfl)
theorem dX9_bringBack_5 : decode cX9_bringBack 5 = .ok (.if_icmp .ge 21, 3) := dk_162 0 21 (dk_at dksX9_bringBack_0 5 rfl rfl)
theorem dX9_bringBack_8 : decode cX9_bringBack 8 = .ok (.aload_n 0, 1) := dk_42 (dk_at dksX9_bringBack_0 8 rfl rfl)
theorem dX9_bringBack_9 : decode cX9_bringBack 9 = .ok (.getfield 32, 3) := dk_180 0 32 (dk_at dksX9_bringBack_0 9 rfl rfl)
theorem dX9_bringBack_12 : decode cX9_bringBack 12 = .ok (.iload_n 1, 1) := dk_27 (dk_at dksX9_bringBack_0 12 rfl rfl)
theorem dX9_bringBack_13 : decode cX9_bringBack 13 = .ok (.aload_n 0, 1) := dk_42 (dk_at dksX9_bringBack_0 13 rfl rfl)
theorem dX9_bringBack_14 : decode cX9_bringBack 14 = .ok (.getfield 83, 3) := dk_180 0 83 (dk_at dksX9_bringBack_0 14 rfl rfl)
theorem dX9_bringBack_17 : decode cX9_bringBack 17 = .ok (.iload_n 1, 1) := dk_27 (dk_at dksX9_bringBack_0 17 rfl rfl)
theorem dX9_bringBack_18 : decode cX9_bringBack 18 = .ok (.iaload, 1) := dk_46 (dk_at dksX9_bringBack_0 18 rfl rfl)
theorem dX9_bringBack_19 : decode cX9_bringBack 19 = .ok (.iastore, 1) := dk_79 (dk_at dksX9_bringBack_0 19 rfl rfl)
theorem dX9_bringBack_20 : decode cX9_bringBack 20 = .ok (.iinc 1 1, 3) := dk_132 1 1 (dk_at dksX9_bringBack_0 20 rfl rfl)
theorem dX9_bringBack_23 : decode cX9_bringBack 23 = .ok (.goto (-21), 3) := dk_167 255 235 (dk_at dksX9_bringBack_1 0 rfl rfl)
theorem dX9_bringBack_26 : decode cX9_bringBack 26 = .ok (.return_, 1) := dk_177 (dk_at dksX9_bringBack_1 3 rfl rfl)
def dkwX9_shift_4 : List UInt8 := [167, 0, 4, 29, 172]
abbrev dktX9_shift_4 : List UInt8 := dkwX9_shift_4 ++ []
def dkwX9_shift_3 : List UInt8 := [164, 0, 11, 42, 180, 1, 67, 62, 21, 5, 61, 132, 4, 1, 167, 255, 200, 27, 154, 0, 7, 28]
abbrev dktX9_shift_3 : List UInt8 := dkwX9_shift_3 ++ dktX9_shift_4
def dkwX9_shift_2 : List UInt8 := [96, 116, 5, 108, 167, 0, 7, 21, 4, 5, 108, 54, 5, 42, 21, 5, 182, 1, 61, 42, 180, 1, 67, 29]
abbrev dktX9_shift_2 : List UInt8 := dkwX9_shift_2 ++ dktX9_shift_3
def dkwX9_shift_1 : List UInt8 := [61, 2, 62, 3, 54, 4, 21, 4, 16, 18, 163, 0, 55, 21, 4, 5, 112, 4, 160, 0, 13, 21, 4, 4]
abbrev dktX9_shift_1 : List UInt8 := dkwX9_shift_1 ++ dktX9_shift_2
def dkwX9_shift_0 : List UInt8 := [42, 180, 0, 254, 153, 0, 12, 27, 3, 4, 184, 0, 103, 154, 0, 6, 18, 240, 172, 42, 182, 1, 101, 3]
abbrev dktX9_shift_0 : List UInt8 := dkwX9_shift_0 ++ dktX9_shift_1
theorem dksX9_shift_0 : cX9_shift.data.toList.drop 0 = dktX9_shift_0 := by decide +kernel
theorem dksX9_shift_1 : cX9_shift.data.toList.drop 24 = dktX9_shift_1 := dk_seg dksX9_shift_0 24 rfl rfl
theorem dksX9_shift_2 : cX9_shift.data.toList.drop 48 = dktX9_shift_2 := dk_seg dksX9_shift_1 24 rfl rfl
theorem dksX9_shift_3 : cX9_shift.data.toList.drop 72 = dktX9_shift_3 := dk_seg dksX9_shift_2 24 rfl rfl
theorem dksX9_shift_4 : cX9_shift.data.toList.drop 94 = dktX9_shift_4 := dk_seg dksX9_shift_3 22 rfl rfl
theorem dX9_shift_0 : decode cX9_shift 0 = .ok (.aload_n 0, 1) := dk_42 (dk_at dksX9_shift_0 0 rfl rfl)
theorem dX9_shift_1 : decode cX9_shift 1 = .ok (.getfield 254, 3) := dk_180 0 254 (dk_at dksX9_shift_0 1 rfl rfl)
theorem dX9_shift_4 : decode cX9_shift 4 = .ok (.ifCond .eq 12, 3) := dk_153 0 12 (dk_at dksX9_shift_0 4 rfl rfl)
theorem dX9_shift_7 : decode cX9_shift 7 = .ok (.iload_n 1, 1) := dk_27 (dk_at dksX9_shift_0 7 rfl rfl)
theorem dX9_shift_8 : decode cX9_shift 8 = .ok (.iconst 0, 1) := dk_3 (dk_at dksX9_shift_0 8 rfl rfl)
theorem dX9_shift_9 : decode cX9_shift 9 = .ok (.iconst 1, 1) := dk_4 (dk_at dksX9_shift_0 9 rfl rfl)
theorem dX9_shift_10 : decode cX9_shift 10 = .ok (.invokestatic 103, 3) := dk_184 0 103 (dk_at dksX9_shift_0 10 rfl rfl)
theorem dX9_shift_13 : decode cX9_shift 13 = .ok (.ifCond .ne 6, 3) := dk_154 0 6 (dk_at dksX9_shift_0 13 rfl rfl)
theorem dX9_shift_16 : decode cX9_shift 16 = .ok (.ldc 240, 2) := dk_18 240 (dk_at dksX9_shift_0 16 rfl rfl)
theorem dX9_shift_18 : decode cX9_shift 18 = .ok (.ireturn, 1) := dk_172 (dk_at dksX9_shift_0 18 rfl rfl)
theorem dX9_shift_19 : decode cX9_shift 19 = .ok (.aload_n 0, 1) := dk_42 (dk_at dksX9_shift_0 19 rfl rfl)
theorem dX9_shift_20 : decode cX9_shift 20 = .ok (.invokevirtual 357, 3) := dk_182 1 101 (dk_at dksX9_shift_0 20 rfl rfl)
theorem dX9_shift_23 : decode cX9_shift 23 = .ok (.iconst 0, 1) := dk_3 (dk_at dksX9_shift_0 23 rfl rfl)
theorem dX9_shift_24 : decode cX9_shift 24 = .ok (.istore_n 2, 1) := dk_61 (dk_at dksX9_shift_1 0 rfl rfl)
theorem dX9_shift_25 : decode cX9_shift 25 = .ok (.iconst (-1), 1) := dk_2 (dk_at dksX9_shift_1 1 rfl rfl)
theorem dX9_shift_26 : decode cX9_shift 26 = .ok (.istore_n 3, 1) := dk_62 (dk_at dksX9_shift_1 2 rfl rfl)
theorem dX9_shift_27 : decode cX9_shift 27 = .ok (.iconst 0, 1) := dk_3 (dk_at dksX9_shift_1 3 rfl rfl)
theorem dX9_shift_28 : decode cX9_shift 28 = .ok (.istore 4, 2) := dk_54 4 (dk_at dksX9_shift_1 4 rfl rfl)
theorem dX9_shift_30 : decode cX9_shift 30 = .ok (.iload 4, 2) := dk_21 4 (dk_at dksX9_shift_1 6 rfl rfl)
theorem dX9_shift_32 : decode cX9_shift 32 = .ok (.bipush 18, 2) := dk_16 18 (dk_at dksX9_shift_1 8 rfl rfl)
theorem dX9_shift_34 : decode cX9_shift 34 = .ok (.if_icmp .gt 55, 3) := dk_163 0 55 (dk_at dksX9_shift_1 10 rfl rfl)
theorem dX9_shift_37 : decode cX9_shift 37 = .ok (.iload 4, 2) := dk_21 4 (dk_at dksX9_shift_1 13 rfl rfl)
theorem dX9_shift_39 : decode cX9_shift 39 = .ok (.iconst 2, 1) := dk_5 (dk_at dksX9_shift_1 15 rfl rfl)
theorem dX9_shift_40 : decode cX9_shift 40 = .ok (.irem, 1) := dk_112 (dk_at dksX9_shift_1 16 rfl rfl)
theorem dX9_shift_41 : decode cX9_shift 41 = .ok (.iconst 1, 1) := dk_4 (dk_at dksX9_shift_1 17 rfl rfl)
theorem dX9_shift_42 : decode cX9_shift 42 = .ok (.if_icmp .ne 13, 3) := dk_160 0 13 (dk_at dksX9_shift_1 18 rfl rfl)
theorem dX9_shift_45 : decode cX9_shift 45 = .ok (.iload 4, 2) := dk_21 4 (dk_at dksX9_shift_1 21 rfl rfl)
theorem dX9_shift_47 : decode cX9_shift 47 = .ok (.iconst 1, 1) := dk_4 (dk_at dksX9_shift_1 23 rfl rfl)
theorem dX9_shift_48 : decode cX9_shift 48 = .ok (.iadd, 1) := dk_96 (dk_at dksX9_shift_2 0 rfl rfl)
theorem dX9_shift_49 : decode cX9_shift 49 = .ok (.ineg, 1) := dk_116 (dk_at dksX9_shift_2 1 rfl rfl)
theorem dX9_shift_50 : decode cX9_shift 50 = .ok (.iconst 2, 1) := dk_5 (dk_at dksX9_shift_2 2 rfl rfl)
theorem dX9_shift_51 : decode cX9_shift 51 = .ok (.idiv, 1) := dk_108 (dk_at dksX9_shift_2 3 rfl rfl)
theorem dX9_shift_52 : decode cX9_shift 52 = .ok (.goto 7, 3) := dk_167 0 7 (dk_at dksX9_shift_2 4 rfl rfl)
theorem dX9_shift_55 : decode cX9_shift 55 = .ok (.iload 4, 2) := dk_21 4 (dk_at dksX9_shift_2 7 rfl rfl)
theorem dX9_shift_57 : decode cX9_shift 57 = .ok (.iconst 2, 1) := dk_5 (dk_at dksX9_shift_2 9 rfl rfl)
theorem dX9_shift_58 : decode cX9_shift 58 = .ok (.idiv, 1) := dk_108 (dk_at dksX9_shift_2 10 rfl rfl)
theorem dX9_shift_59 : decode cX9_shift 59 = .ok (.istore 5, 2) := dk_54 5 (dk_at dksX9_shift_2 11 rfl rfl)
theorem dX9_shift_61 : decode cX9_shift 61 = .ok (.aload_n 0, 1) := dk_42 (dk_at dksX9_shift_2 13 rfl rfl)
theorem dX9_shift_62 : decode cX9_shift 62 = .ok (.iload 5, 2) := dk_21 5 (dk_at dksX9_shift_2 14 rfl rfl)
theorem dX9_shift_64 : decode cX9_shift 64 = .ok (.invokevirtual 317, 3) := dk_182 1 61 (dk_at dksX9_shift_2 16 rfl rfl)
theorem dX9_shift_67 : decode cX9_shift 67 = .ok (.aload_n 0, 1) := dk_42 (dk_at dksX9_shift_2 19 rfl rfl)
theorem dX9_shift_68 : decode cX9_shift 68 = .ok (.getfield 323, 3) := dk_180 1 67 (dk_at dksX9_shift_2 20 rfl rfl)
theorem dX9_shift_71 : decode cX9_shift 71 = .ok (.iload_n 3, 1) := dk_29 (dk_at dksX9_shift_2 23 rfl rfl)
theorem dX9_shift_72 : decode cX9_shift 72 = .ok (.if_icmp .le 11, 3) := dk_164 0 11 (dk_at dksX9_shift_3 0 rfl rfl)
theorem dX9_shift_75 : decode cX9_shift 75 = .ok (.aload_n 0, 1) := dk_42 (dk_at dksX9_shift_3 3 rfl rfl)
theorem dX9_shift_76 : decode cX9_shift 76 = .ok (.getfield 323, 3) := dk_180 1 67 (dk_at dksX9_shift_3 4 rfl rfl)
theorem dX9_shift_79 : decode cX9_shift 79 = .ok (.istore_n 3, 1) := dk_62 (dk_at dksX9_shift_3 7 rfl rfl)
theorem dX9_shift_80 : decode cX9_shift 80 = .ok (.iload 5, 2) := dk_21 5 (dk_at dksX9_shift_3 8 rfl rfl)
theorem dX9_shift_82 : decode cX9_shift 82 = .ok (.istore_n 2, 1) := dk_61 (dk_at dksX9_shift_3 10 rfl rfl)
theorem dX9_shift_83 : decode cX9_shift 83 = .ok (.iinc 4 1, 3) := dk_132 4 1 (dk_at dksX9_shift_3 11 rfl rfl)
theorem dX9_shift_86 : decode cX9_shift 86 = .ok (.goto (-56), 3) := dk_167 255 200 (dk_at dksX9_shift_3 14 rfl rfl)
theorem dX9_shift_89 : decode cX9_shift 89 = .ok (.iload_n 1, 1) := dk_27 (dk_at dksX9_shift_3 17 rfl rfl)
theorem dX9_shift_90 : decode cX9_shift 90 = .ok (.ifCond .ne 7, 3) := dk_154 0 7 (dk_at dksX9_shift_3 18 rfl rfl)
theorem dX9_shift_93 : decode cX9_shift 93 = .ok (.iload_n 2, 1) := dk_28 (dk_at dksX9_shift_3 21 rfl rfl)
theorem dX9_shift_94 : decode cX9_shift 94 = .ok (.goto 4, 3) := dk_167 0 4 (dk_at dksX9_shift_4 0 rfl rfl)
theorem dX9_shift_97 : decode cX9_shift 97 = .ok (.iload_n 3, 1) := dk_29 (dk_at dksX9_shift_4 3 rfl rfl)
theorem dX9_shift_98 : decode cX9_shift 98 = .ok (.ireturn, 1) := dk_172 (dk_at dksX9_shift_4 4 rfl rfl)
def dkwX9_missed_1 : List UInt8 := [167, 0, 4, 2, 172]
abbrev dktX9_missed_1 : List UInt8 := dkwX9_missed_1 ++ []
def dkwX9_missed_0 : List UInt8 := [42, 180, 0, 254, 153, 0, 21, 4, 42, 180, 1, 7, 120, 4, 100, 42, 182, 1, 200, 2, 130, 126]
abbrev dktX9_missed_0 : List UInt8 := dkwX9_missed_0 ++ dktX9_missed_1
theorem dksX9_missed_0 : cX9_missed.data.toList.drop 0 = dktX9_missed_0 := by decide +kernel
theorem dksX9_missed_1 : cX9_missed.data.toList.drop 22 = dktX9_missed_1 := dk_seg dksX9_missed_0 22 rfl rfl
theorem dX9_missed_0 : decode cX9_missed 0 = .ok (.aload_n 0, 1) := dk_42 (dk_at dksX9_missed_0 0 rfl rfl)
theorem dX9_missed_1 : decode cX9_missed 1 = .ok (.getfield 254, 3) := dk_180 0 254 (dk_at dksX9_missed_0 1 rfl rfl)
theorem dX9_missed_4 : decode cX9_missed 4 = .ok (.ifCond .eq 21, 3) := dk_153 0 21 (dk_at dksX9_missed_0 4 rfl rfl)
theorem dX9_missed_7 : decode cX9_missed 7 = .ok (.iconst 1, 1) := dk_4 (dk_at dksX9_missed_0 7 rfl rfl)
theorem dX9_missed_8 : decode cX9_missed 8 = .ok (.aload_n 0, 1) := dk_42 (dk_at dksX9_missed_0 8 rfl rfl)
theorem dX9_missed_9 : decode cX9_missed 9 = .ok (.getfield 263, 3) := dk_180 1 7 (dk_at dksX9_missed_0 9 rfl rfl)
theorem dX9_missed_12 : decode cX9_missed 12 = .ok (.ishl, 1) := dk_120 (dk_at dksX9_missed_0 12 rfl rfl)
theorem dX9_missed_13 : decode cX9_missed 13 = .ok (.iconst 1, 1) := dk_4 (dk_at dksX9_missed_0 13 rfl rfl)
theorem dX9_missed_14 : decode cX9_missed 14 = .ok (.isub, 1) := dk_100 (dk_at dksX9_missed_0 14 rfl rfl)
theorem dX9_missed_15 : decode cX9_missed 15 = .ok (.aload_n 0, 1) := dk_42 (dk_at dksX9_missed_0 15 rfl rfl)
theorem dX9_missed_16 : decode cX9_missed 16 = .ok (.invokevirtual 456, 3) := dk_182 1 200 (dk_at dksX9_missed_0 16 rfl rfl)
theorem dX9_missed_19 : decode cX9_missed 19 = .ok (.iconst (-1), 1) := dk_2 (dk_at dksX9_missed_0 19 rfl rfl)
theorem dX9_missed_20 : decode cX9_missed 20 = .ok (.ixor, 1) := dk_130 (dk_at dksX9_missed_0 20 rfl rfl)
theorem dX9_missed_21 : decode cX9_missed 21 = .ok (.iand, 1) := dk_126 (dk_at dksX9_missed_0 21 rfl rfl)
theorem dX9_missed_22 : decode cX9_missed 22 = .ok (.goto 4, 3) := dk_167 0 4 (dk_at dksX9_missed_1 0 rfl rfl)
theorem dX9_missed_25 : decode cX9_missed 25 = .ok (.iconst (-1), 1) := dk_2 (dk_at dksX9_missed_1 3 rfl rfl)
theorem dX9_missed_26 : decode cX9_missed 26 = .ok (.ireturn, 1) := dk_172 (dk_at dksX9_missed_1 4 rfl rfl)
def dkwX9_matched_1 : List UInt8 := [159, 0, 9, 4, 28, 120, 167, 0, 4, 3, 128, 60, 132, 2, 1, 167, 255, 225, 27, 172]
abbrev dktX9_matched_1 : List UInt8 := dkwX9_matched_1 ++ []
def dkwX9_matched_0 : List UInt8 := [42, 182, 1, 101, 3, 60, 3, 61, 28, 42, 180, 1, 7, 162, 0, 29, 27, 42, 180, 0, 71, 28, 46, 2]
abbrev dktX9_matched_0 : List UInt8 := dkwX9_matched_0 ++ dktX9_matched_1
theorem dksX9_matched_0 : cX9_matched.data.toList.drop 0 = dktX9_matched_0 := by decide +kernel
theorem dksX9_matched_1 : cX9_matched.data.toList.drop 24 = dktX9_matched_1 := dk_seg dksX9_matched_0 24 rfl rfl
theorem dX9_matched_0 : decode cX9_matched 0 = .ok (.aload_n 0, 1) := dk_42 (dk_at dksX9_matched_0 0 rfl rfl)
theorem dX9_matched_1 : decode cX9_matched 1 = .ok (.invokevirtual 357, 3) := dk_182 1 101 (dk_at dksX9_matched_0 1 rfl rfl)
theorem dX9_matched_4 : decode cX9_matched 4 = .ok (.iconst 0, 1) := dk_3 (dk_at dksX9_matched_0 4 rfl rfl)
theorem dX9_matched_5 : decode cX9_matched 5 = .ok (.istore_n 1, 1) := dk_60 (dk_at dksX9_matched_0 5 rfl rfl)
theorem dX9_matched_6 : decode cX9_matched 6 = .ok (.iconst 0, 1) := dk_3 (dk_at dksX9_matched_0 6 rfl rfl)
theorem dX9_matched_7 : decode cX9_matched 7 = .ok (.istore_n 2, 1) := dk_61 (dk_at dksX9_matched_0 7 rfl rfl)
theorem dX9_matched_8 : decode cX9_matched 8 = .ok (.iload_n 2, 1) := dk_28 (dk_at dksX9_matched_0 8 rfl rfl)
theorem dX9_matched_9 : decode cX9_matched 9 = .ok (.aload_n 0, 1) := dk_42 (dk_at dksX9_matched_0 9 rfl rfl)
theorem dX9_matched_10 : decode cX9_matched 10 = .ok (.getfield 263, 3) := dk_180 1 7 (dk_at dksX9_matched_0 10 rfl rfl)
theorem dX9_matched_13 : decode cX9_matched 13 = .ok (.if_icmp .ge 29, 3) := dk_162 0 29 (dk_at dksX9_matched_0 13 rfl rfl)
theorem dX9_matched_16 : decode cX9_matched 16 = .ok (.iload_n 1, 1) := dk_27 (dk_at dksX9_matched_0 16 rfl rfl)
theorem dX9_matched_17 : decode cX9_matched 17 = .ok (.aload_n 0, 1) := dk_42 (dk_at dksX9_matched_0 17 rfl rfl)
theorem dX9_matched_18 : decode cX9_matched 18 = .ok (.getfield 71, 3) := dk_180 0 71 (dk_at dksX9_matched_0 18 rfl rfl)
theorem dX9_matched_21 : decode cX9_matched 21 = .ok (.iload_n 2, 1) := dk_28 (dk_at dksX9_matched_0 21 rfl rfl)
theorem dX9_matched_22 : decode cX9_matched 22 = .ok (.iaload, 1) := dk_46 (dk_at dksX9_matched_0 22 rfl rfl)
theorem dX9_matched_23 : decode cX9_matched 23 = .ok (.iconst (-1), 1) := dk_2 (dk_at dksX9_matched_0 23 rfl rfl)
theorem dX9_matched_24 : decode cX9_matched 24 = .ok (.if_icmp .eq 9, 3) := dk_159 0 9 (dk_at dksX9_matched_1 0 rfl rfl)
theorem dX9_matched_27 : decode cX9_matched 27 = .ok (.iconst 1, 1) := dk_4 (dk_at dksX9_matched_1 3 rfl rfl)
theorem dX9_matched_28 : decode cX9_matched 28 = .ok (.iload_n 2, 1) := dk_28 (dk_at dksX9_matched_1 4 rfl rfl)
theorem dX9_matched_29 : decode cX9_matched 29 = .ok (.ishl, 1) := dk_120 (dk_at dksX9_matched_1 5 rfl rfl)
theorem dX9_matched_30 : decode cX9_matched 30 = .ok (.goto 4, 3) := dk_167 0 4 (dk_at dksX9_matched_1 6 rfl rfl)
theorem dX9_matched_33 : decode cX9_matched 33 = .ok (.iconst 0, 1) := dk_3 (dk_at dksX9_matched_1 9 rfl rfl)
theorem dX9_matched_34 : decode cX9_matched 34 = .ok (.ior, 1) := dk_128 (dk_at dksX9_matched_1 10 rfl rfl)
theorem dX9_matched_35 : decode cX9_matched 35 = .ok (.istore_n 1, 1) := dk_60 (dk_at dksX9_matched_1 11 rfl rfl)
theorem dX9_matched_36 : decode cX9_matched 36 = .ok (.iinc 2 1, 3) := dk_132 2 1 (dk_at dksX9_matched_1 12 rfl rfl)
theorem dX9_matched_39 : decode cX9_matched 39 = .ok (.goto (-31), 3) := dk_167 255 225 (dk_at dksX9_matched_1 15 rfl rfl)
theorem dX9_matched_42 : decode cX9_matched 42 = .ok (.iload_n 1, 1) := dk_27 (dk_at dksX9_matched_1 18 rfl rfl)
theorem dX9_matched_43 : decode cX9_matched 43 = .ok (.ireturn, 1) := dk_172 (dk_at dksX9_matched_1 19 rfl rfl)
def dkwX9_would_3 : List UInt8 := [79, 21, 5, 172]
abbrev dktX9_would_3 : List UInt8 := dkwX9_would_3 ++ []
def dkwX9_would_2 : List UInt8 := [160, 0, 11, 42, 3, 182, 1, 64, 167, 0, 7, 42, 180, 1, 25, 54, 5, 42, 180, 0, 32, 27, 21, 4]
abbrev dktX9_would_2 : List UInt8 := dkwX9_would_2 ++ dktX9_would_3
def dkwX9_would_1 : List UInt8 := [27, 28, 182, 1, 135, 54, 4, 42, 182, 1, 101, 29, 154, 0, 10, 42, 180, 1, 58, 167, 0, 20, 29, 4]
abbrev dktX9_would_1 : List UInt8 := dkwX9_would_1 ++ dktX9_would_2
def dkwX9_would_0 : List UInt8 := [42, 16, 7, 27, 28, 182, 1, 151, 2, 160, 0, 12, 29, 3, 5, 184, 0, 103, 154, 0, 5, 2, 172, 42]
abbrev dktX9_would_0 : List UInt8 := dkwX9_would_0 ++ dktX9_would_1
theorem dksX9_would_0 : cX9_would.data.toList.drop 0 = dktX9_would_0 := by decide +kernel
theorem dksX9_would_1 : cX9_would.data.toList.drop 24 = dktX9_would_1 := dk_seg dksX9_would_0 24 rfl rfl
theorem dksX9_would_2 : cX9_would.data.toList.drop 48 = dktX9_would_2 := dk_seg dksX9_would_1 24 rfl rfl
theorem dksX9_would_3 : cX9_would.data.toList.drop 72 = dktX9_would_3 := dk_seg dksX9_would_2 24 rfl rfl
theorem dX9_would_0 : decode cX9_would 0 = .ok (.aload_n 0, 1) := dk_42 (dk_at dksX9_would_0 0 rfl rfl)
theorem dX9_would_1 : decode cX9_would 1 = .ok (.bipush 7, 2) := dk_16 7 (dk_at dksX9_would_0 1 rfl rfl)
theorem dX9_would_3 : decode cX9_would 3 = .ok (.iload_n 1, 1) := dk_27 (dk_at dksX9_would_0 3 rfl rfl)
theorem dX9_would_4 : decode cX9_would 4 = .ok (.iload_n 2, 1) := dk_28 (dk_at dksX9_would_0 4 rfl rfl)
theorem dX9_would_5 : decode cX9_would 5 = .ok (.invokevirtual 407, 3) := dk_182 1 151 (dk_at dksX9_would_0 5 rfl rfl)
theorem dX9_would_8 : decode cX9_would 8 = .ok (.iconst (-1), 1) := dk_2 (dk_at dksX9_would_0 8 rfl rfl)
theorem dX9_would_9 : decode cX9_would 9 = .ok (.if_icmp .ne 12, 3) := dk_160 0 12 (dk_at dksX9_would_0 9 rfl rfl)
theorem dX9_would_12 : decode cX9_would 12 = .ok (.iload_n 3, 1) := dk_29 (dk_at dksX9_would_0 12 rfl rfl)
theorem dX9_would_13 : decode cX9_would 13 = .ok (.iconst 0, 1) := dk_3 (dk_at dksX9_would_0 13 rfl rfl)
theorem dX9_would_14 : decode cX9_would 14 = .ok (.iconst 2, 1) := dk_5 (dk_at dksX9_would_0 14 rfl rfl)
theorem dX9_would_15 : decode cX9_would 15 = .ok (.invokestatic 103, 3) := dk_184 0 103 (dk_at dksX9_would_0 15 rfl rfl)
theorem dX9_would_18 : decode cX9_would 18 = .ok (.ifCond .ne 5, 3) := dk_154 0 5 (dk_at dksX9_would_0 18 rfl rfl)
theorem dX9_would_21 : decode cX9_would 21 = .ok (.iconst (-1), 1) := dk_2 (dk_at dksX9_would_0 21 rfl rfl)
theorem dX9_would_22 : decode cX9_would 22 = .ok (.ireturn, 1) := dk_172 (dk_at dksX9_would_0 22 rfl rfl)
theorem dX9_would_23 : decode cX9_would 23 = .ok (.aload_n 0, 1) := dk_42 (dk_at dksX9_would_0 23 rfl rfl)
theorem dX9_would_24 : decode cX9_would 24 = .ok (.iload_n 1, 1) := dk_27 (dk_at dksX9_would_1 0 rfl rfl)
theorem dX9_would_25 : decode cX9_would 25 = .ok (.iload_n 2, 1) := dk_28 (dk_at dksX9_would_1 1 rfl rfl)
theorem dX9_would_26 : decode cX9_would 26 = .ok (.invokevirtual 391, 3) := dk_182 1 135 (dk_at dksX9_would_1 2 rfl rfl)
theorem dX9_would_29 : decode cX9_would 29 = .ok (.istore 4, 2) := dk_54 4 (dk_at dksX9_would_1 5 rfl rfl)
theorem dX9_would_31 : decode cX9_would 31 = .ok (.aload_n 0, 1) := dk_42 (dk_at dksX9_would_1 7 rfl rfl)
theorem dX9_would_32 : decode cX9_would 32 = .ok (.invokevirtual 357, 3) := dk_182 1 101 (dk_at dksX9_would_1 8 rfl rfl)
theorem dX9_would_35 : decode cX9_would 35 = .ok (.iload_n 3, 1) := dk_29 (dk_at dksX9_would_1 11 rfl rfl)
theorem dX9_would_36 : decode cX9_would 36 = .ok (.ifCond .ne 10, 3) := dk_154 0 10 (dk_at dksX9_would_1 12 rfl rfl)
theorem dX9_would_39 : decode cX9_would 39 = .ok (.aload_n 0, 1) := dk_42 (dk_at dksX9_would_1 15 rfl rfl)
theorem dX9_would_40 : decode cX9_would 40 = .ok (.getfield 314, 3) := dk_180 1 58 (dk_at dksX9_would_1 16 rfl rfl)
theorem dX9_would_43 : decode cX9_would 43 = .ok (.goto 20, 3) := dk_167 0 20 (dk_at dksX9_would_1 19 rfl rfl)
theorem dX9_would_46 : decode cX9_would 46 = .ok (.iload_n 3, 1) := dk_29 (dk_at dksX9_would_1 22 rfl rfl)
theorem dX9_would_47 : decode cX9_would 47 = .ok (.iconst 1, 1) := dk_4 (dk_at dksX9_would_1 23 rfl rfl)
theorem dX9_would_48 : decode cX9_would 48 = .ok (.if_icmp .ne 11, 3) := dk_160 0 11 (dk_at dksX9_would_2 0 rfl rfl)
theorem dX9_would_51 : decode cX9_would 51 = .ok (.aload_n 0, 1) := dk_42 (dk_at dksX9_would_2 3 rfl rfl)
theorem dX9_would_52 : decode cX9_would 52 = .ok (.iconst 0, 1) := dk_3 (dk_at dksX9_would_2 4 rfl rfl)
theorem dX9_would_53 : decode cX9_would 53 = .ok (.invokevirtual 320, 3) := dk_182 1 64 (dk_at dksX9_would_2 5 rfl rfl)
theorem dX9_would_56 : decode cX9_would 56 = .ok (.goto 7, 3) := dk_167 0 7 (dk_at dksX9_would_2 8 rfl rfl)
theorem dX9_would_59 : decode cX9_would 59 = .ok (.aload_n 0, 1) := dk_42 (dk_at dksX9_would_2 11 rfl rfl)
theorem dX9_would_60 : decode cX9_would 60 = .ok (.getfield 281, 3) := dk_180 1 25 (dk_at dksX9_would_2 12 rfl rfl)
theorem dX9_would_63 : decode cX9_would 63 = .ok (.istore 5, 2) := dk_54 5 (dk_at dksX9_would_2 15 rfl rfl)
theorem dX9_would_65 : decode cX9_would 65 = .ok (.aload_n 0, 1) := dk_42 (dk_at dksX9_would_2 17 rfl rfl)
theorem dX9_would_66 : decode cX9_would 66 = .ok (.getfield 32, 3) := dk_180 0 32 (dk_at dksX9_would_2 18 rfl rfl)
theorem dX9_would_69 : decode cX9_would 69 = .ok (.iload_n 1, 1) := dk_27 (dk_at dksX9_would_2 21 rfl rfl)
theorem dX9_would_70 : decode cX9_would 70 = .ok (.iload 4, 2) := dk_21 4 (dk_at dksX9_would_2 22 rfl rfl)
theorem dX9_would_72 : decode cX9_would 72 = .ok (.iastore, 1) := dk_79 (dk_at dksX9_would_3 0 rfl rfl)
theorem dX9_would_73 : decode cX9_would 73 = .ok (.iload 5, 2) := dk_21 5 (dk_at dksX9_would_3 1 rfl rfl)
theorem dX9_would_75 : decode cX9_would 75 = .ok (.ireturn, 1) := dk_172 (dk_at dksX9_would_3 3 rfl rfl)
def dkwX9_solo_0 : List UInt8 := [42, 180, 0, 254, 154, 0, 5, 2, 172, 42, 182, 1, 101, 42, 2, 182, 1, 203, 172]
abbrev dktX9_solo_0 : List UInt8 := dkwX9_solo_0 ++ []
theorem dksX9_solo_0 : cX9_solo.data.toList.drop 0 = dktX9_solo_0 := by decide +kernel
theorem dX9_solo_0 : decode cX9_solo 0 = .ok (.aload_n 0, 1) := dk_42 (dk_at dksX9_solo_0 0 rfl rfl)
theorem dX9_solo_1 : decode cX9_solo 1 = .ok (.getfield 254, 3) := dk_180 0 254 (dk_at dksX9_solo_0 1 rfl rfl)
theorem dX9_solo_4 : decode cX9_solo 4 = .ok (.ifCond .ne 5, 3) := dk_154 0 5 (dk_at dksX9_solo_0 4 rfl rfl)
theorem dX9_solo_7 : decode cX9_solo 7 = .ok (.iconst (-1), 1) := dk_2 (dk_at dksX9_solo_0 7 rfl rfl)
theorem dX9_solo_8 : decode cX9_solo 8 = .ok (.ireturn, 1) := dk_172 (dk_at dksX9_solo_0 8 rfl rfl)
theorem dX9_solo_9 : decode cX9_solo 9 = .ok (.aload_n 0, 1) := dk_42 (dk_at dksX9_solo_0 9 rfl rfl)
theorem dX9_solo_10 : decode cX9_solo 10 = .ok (.invokevirtual 357, 3) := dk_182 1 101 (dk_at dksX9_solo_0 10 rfl rfl)
theorem dX9_solo_13 : decode cX9_solo 13 = .ok (.aload_n 0, 1) := dk_42 (dk_at dksX9_solo_0 13 rfl rfl)
theorem dX9_solo_14 : decode cX9_solo 14 = .ok (.iconst (-1), 1) := dk_2 (dk_at dksX9_solo_0 14 rfl rfl)
theorem dX9_solo_15 : decode cX9_solo 15 = .ok (.invokevirtual 459, 3) := dk_182 1 203 (dk_at dksX9_solo_0 15 rfl rfl)
theorem dX9_solo_18 : decode cX9_solo 18 = .ok (.ireturn, 1) := dk_172 (dk_at dksX9_solo_0 18 rfl rfl)
def dkwX9_tallestOf_3 : List UInt8 := [167, 0, 4, 28, 61, 132, 3, 1, 167, 255, 183, 28, 172]
abbrev dktX9_tallestOf_3 : List UInt8 := dkwX9_tallestOf_3 ++ []
def dkwX9_tallestOf_2 : List UInt8 := [21, 4, 153, 0, 25, 28, 2, 159, 0, 16, 42, 29, 182, 1, 85, 42, 28, 182, 1, 85, 164, 0, 7, 29]
abbrev dktX9_tallestOf_2 : List UInt8 := dkwX9_tallestOf_2 ++ dktX9_tallestOf_3
def dkwX9_tallestOf_1 : List UInt8 := [167, 0, 21, 3, 167, 0, 17, 42, 29, 182, 1, 182, 27, 160, 0, 7, 4, 167, 0, 4, 3, 54, 4]
abbrev dktX9_tallestOf_1 : List UInt8 := dkwX9_tallestOf_1 ++ dktX9_tallestOf_2
def dkwX9_tallestOf_0 : List UInt8 := [2, 61, 3, 62, 29, 42, 180, 1, 25, 162, 0, 71, 27, 2, 160, 0, 15, 29, 158, 0, 7, 4]
abbrev dktX9_tallestOf_0 : List UInt8 := dkwX9_tallestOf_0 ++ dktX9_tallestOf_1
theorem dksX9_tallestOf_0 : cX9_tallestOf.data.toList.drop 0 = dktX9_tallestOf_0 := by decide +kernel
theorem dksX9_tallestOf_1 : cX9_tallestOf.data.toList.drop 22 = dktX9_tallestOf_1 := dk_seg dksX9_tallestOf_0 22 rfl rfl
theorem dksX9_tallestOf_2 : cX9_tallestOf.data.toList.drop 45 = dktX9_tallestOf_2 := dk_seg dksX9_tallestOf_1 23 rfl rfl
theorem dksX9_tallestOf_3 : cX9_tallestOf.data.toList.drop 69 = dktX9_tallestOf_3 := dk_seg dksX9_tallestOf_2 24 rfl rfl
theorem dX9_tallestOf_0 : decode cX9_tallestOf 0 = .ok (.iconst (-1), 1) := dk_2 (dk_at dksX9_tallestOf_0 0 rfl rfl)
theorem dX9_tallestOf_1 : decode cX9_tallestOf 1 = .ok (.istore_n 2, 1) := dk_61 (dk_at dksX9_tallestOf_0 1 rfl rfl)
theorem dX9_tallestOf_2 : decode cX9_tallestOf 2 = .ok (.iconst 0, 1) := dk_3 (dk_at dksX9_tallestOf_0 2 rfl rfl)
theorem dX9_tallestOf_3 : decode cX9_tallestOf 3 = .ok (.istore_n 3, 1) := dk_62 (dk_at dksX9_tallestOf_0 3 rfl rfl)
theorem dX9_tallestOf_4 : decode cX9_tallestOf 4 = .ok (.iload_n 3, 1) := dk_29 (dk_at dksX9_tallestOf_0 4 rfl rfl)
theorem dX9_tallestOf_5 : decode cX9_tallestOf 5 = .ok (.aload_n 0, 1) := dk_42 (dk_at dksX9_tallestOf_0 5 rfl rfl)
theorem dX9_tallestOf_6 : decode cX9_tallestOf 6 = .ok (.getfield 281, 3) := dk_180 1 25 (dk_at dksX9_tallestOf_0 6 rfl rfl)
theorem dX9_tallestOf_9 : decode cX9_tallestOf 9 = .ok (.if_icmp .ge 71, 3) := dk_162 0 71 (dk_at dksX9_tallestOf_0 9 rfl rfl)
theorem dX9_tallestOf_12 : decode cX9_tallestOf 12 = .ok (.iload_n 1, 1) := dk_27 (dk_at dksX9_tallestOf_0 12 rfl rfl)
theorem dX9_tallestOf_13 : decode cX9_tallestOf 13 = .ok (.iconst (-1), 1) := dk_2 (dk_at dksX9_tallestOf_0 13 rfl rfl)
theorem dX9_tallestOf_14 : decode cX9_tallestOf 14 = .ok (.if_icmp .ne 15, 3) := dk_160 0 15 (dk_at dksX9_tallestOf_0 14 rfl rfl)
theorem dX9_tallestOf_17 : decode cX9_tallestOf 17 = .ok (.iload_n 3, 1) := dk_29 (dk_at dksX9_tallestOf_0 17 rfl rfl)
theorem dX9_tallestOf_18 : decode cX9_tallestOf 18 = .ok (.ifCond .le 7, 3) := dk_158 0 7 (dk_at dksX9_tallestOf_0 18 rfl rfl)
theorem dX9_tallestOf_21 : decode cX9_tallestOf 21 = .ok (.iconst 1, 1) := dk_4 (dk_at dksX9_tallestOf_0 21 rfl rfl)
theorem dX9_tallestOf_22 : decode cX9_tallestOf 22 = .ok (.goto 21, 3) := dk_167 0 21 (dk_at dksX9_tallestOf_1 0 rfl rfl)
theorem dX9_tallestOf_25 : decode cX9_tallestOf 25 = .ok (.iconst 0, 1) := dk_3 (dk_at dksX9_tallestOf_1 3 rfl rfl)
theorem dX9_tallestOf_26 : decode cX9_tallestOf 26 = .ok (.goto 17, 3) := dk_167 0 17 (dk_at dksX9_tallestOf_1 4 rfl rfl)
theorem dX9_tallestOf_29 : decode cX9_tallestOf 29 = .ok (.aload_n 0, 1) := dk_42 (dk_at dksX9_tallestOf_1 7 rfl rfl)
theorem dX9_tallestOf_30 : decode cX9_tallestOf 30 = .ok (.iload_n 3, 1) := dk_29 (dk_at dksX9_tallestOf_1 8 rfl rfl)
theorem dX9_tallestOf_31 : decode cX9_tallestOf 31 = .ok (.invokevirtual 438, 3) := dk_182 1 182 (dk_at dksX9_tallestOf_1 9 rfl rfl)
theorem dX9_tallestOf_34 : decode cX9_tallestOf 34 = .ok (.iload_n 1, 1) := dk_27 (dk_at dksX9_tallestOf_1 12 rfl rfl)
theorem dX9_tallestOf_35 : decode cX9_tallestOf 35 = .ok (.if_icmp .ne 7, 3) := dk_160 0 7 (dk_at dksX9_tallestOf_1 13 rfl rfl)
theorem dX9_tallestOf_38 : decode cX9_tallestOf 38 = .ok (.iconst 1, 1) := dk_4 (dk_at dksX9_tallestOf_1 16 rfl rfl)
theorem dX9_tallestOf_39 : decode cX9_tallestOf 39 = .ok (.goto 4, 3) := dk_167 0 4 (dk_at dksX9_tallestOf_1 17 rfl rfl)
theorem dX9_tallestOf_42 : decode cX9_tallestOf 42 = .ok (.iconst 0, 1) := dk_3 (dk_at dksX9_tallestOf_1 20 rfl rfl)
theorem dX9_tallestOf_43 : decode cX9_tallestOf 43 = .ok (.istore 4, 2) := dk_54 4 (dk_at dksX9_tallestOf_1 21 rfl rfl)
theorem dX9_tallestOf_45 : decode cX9_tallestOf 45 = .ok (.iload 4, 2) := dk_21 4 (dk_at dksX9_tallestOf_2 0 rfl rfl)
theorem dX9_tallestOf_47 : decode cX9_tallestOf 47 = .ok (.ifCond .eq 25, 3) := dk_153 0 25 (dk_at dksX9_tallestOf_2 2 rfl rfl)
theorem dX9_tallestOf_50 : decode cX9_tallestOf 50 = .ok (.iload_n 2, 1) := dk_28 (dk_at dksX9_tallestOf_2 5 rfl rfl)
theorem dX9_tallestOf_51 : decode cX9_tallestOf 51 = .ok (.iconst (-1), 1) := dk_2 (dk_at dksX9_tallestOf_2 6 rfl rfl)
theorem dX9_tallestOf_52 : decode cX9_tallestOf 52 = .ok (.if_icmp .eq 16, 3) := dk_159 0 16 (dk_at dksX9_tallestOf_2 7 rfl rfl)
theorem dX9_tallestOf_55 : decode cX9_tallestOf 55 = .ok (.aload_n 0, 1) := dk_42 (dk_at dksX9_tallestOf_2 10 rfl rfl)
theorem dX9_tallestOf_56 : decode cX9_tallestOf 56 = .ok (.iload_n 3, 1) := dk_29 (dk_at dksX9_tallestOf_2 11 rfl rfl)
theorem dX9_tallestOf_57 : decode cX9_tallestOf 57 = .ok (.invokevirtual 341, 3) := dk_182 1 85 (dk_at dksX9_tallestOf_2 12 rfl rfl)
theorem dX9_tallestOf_60 : decode cX9_tallestOf 60 = .ok (.aload_n 0, 1) := dk_42 (dk_at dksX9_tallestOf_2 15 rfl rfl)
theorem dX9_tallestOf_61 : decode cX9_tallestOf 61 = .ok (.iload_n 2, 1) := dk_28 (dk_at dksX9_tallestOf_2 16 rfl rfl)
theorem dX9_tallestOf_62 : decode cX9_tallestOf 62 = .ok (.invokevirtual 341, 3) := dk_182 1 85 (dk_at dksX9_tallestOf_2 17 rfl rfl)
theorem dX9_tallestOf_65 : decode cX9_tallestOf 65 = .ok (.if_icmp .le 7, 3) := dk_164 0 7 (dk_at dksX9_tallestOf_2 20 rfl rfl)
theorem dX9_tallestOf_68 : decode cX9_tallestOf 68 = .ok (.iload_n 3, 1) := dk_29 (dk_at dksX9_tallestOf_2 23 rfl rfl)
theorem dX9_tallestOf_69 : decode cX9_tallestOf 69 = .ok (.goto 4, 3) := dk_167 0 4 (dk_at dksX9_tallestOf_3 0 rfl rfl)
theorem dX9_tallestOf_72 : decode cX9_tallestOf 72 = .ok (.iload_n 2, 1) := dk_28 (dk_at dksX9_tallestOf_3 3 rfl rfl)
theorem dX9_tallestOf_73 : decode cX9_tallestOf 73 = .ok (.istore_n 2, 1) := dk_61 (dk_at dksX9_tallestOf_3 4 rfl rfl)
theorem dX9_tallestOf_74 : decode cX9_tallestOf 74 = .ok (.iinc 3 1, 3) := dk_132 3 1 (dk_at dksX9_tallestOf_3 5 rfl rfl)
theorem dX9_tallestOf_77 : decode cX9_tallestOf 77 = .ok (.goto (-73), 3) := dk_167 255 183 (dk_at dksX9_tallestOf_3 8 rfl rfl)
theorem dX9_tallestOf_80 : decode cX9_tallestOf 80 = .ok (.iload_n 2, 1) := dk_28 (dk_at dksX9_tallestOf_3 11 rfl rfl)
theorem dX9_tallestOf_81 : decode cX9_tallestOf 81 = .ok (.ireturn, 1) := dk_172 (dk_at dksX9_tallestOf_3 12 rfl rfl)
def dkwX9_tallest_0 : List UInt8 := [42, 180, 0, 254, 153, 0, 7, 27, 156, 0, 5, 2, 172, 42, 182, 1, 101, 42, 27, 182, 1, 203, 172]
abbrev dktX9_tallest_0 : List UInt8 := dkwX9_tallest_0 ++ []
theorem dksX9_tallest_0 : cX9_tallest.data.toList.drop 0 = dktX9_tallest_0 := by decide +kernel
theorem dX9_tallest_0 : decode cX9_tallest 0 = .ok (.aload_n 0, 1) := dk_42 (dk_at dksX9_tallest_0 0 rfl rfl)
theorem dX9_tallest_1 : decode cX9_tallest 1 = .ok (.getfield 254, 3) := dk_180 0 254 (dk_at dksX9_tallest_0 1 rfl rfl)
theorem dX9_tallest_4 : decode cX9_tallest 4 = .ok (.ifCond .eq 7, 3) := dk_153 0 7 (dk_at dksX9_tallest_0 4 rfl rfl)
theorem dX9_tallest_7 : decode cX9_tallest 7 = .ok (.iload_n 1, 1) := dk_27 (dk_at dksX9_tallest_0 7 rfl rfl)
theorem dX9_tallest_8 : decode cX9_tallest 8 = .ok (.ifCond .ge 5, 3) := dk_156 0 5 (dk_at dksX9_tallest_0 8 rfl rfl)
theorem dX9_tallest_11 : decode cX9_tallest 11 = .ok (.iconst (-1), 1) := dk_2 (dk_at dksX9_tallest_0 11 rfl rfl)
theorem dX9_tallest_12 : decode cX9_tallest 12 = .ok (.ireturn, 1) := dk_172 (dk_at dksX9_tallest_0 12 rfl rfl)
theorem dX9_tallest_13 : decode cX9_tallest 13 = .ok (.aload_n 0, 1) := dk_42 (dk_at dksX9_tallest_0 13 rfl rfl)
theorem dX9_tallest_14 : decode cX9_tallest 14 = .ok (.invokevirtual 357, 3) := dk_182 1 101 (dk_at dksX9_tallest_0 14 rfl rfl)
theorem dX9_tallest_17 : decode cX9_tallest 17 = .ok (.aload_n 0, 1) := dk_42 (dk_at dksX9_tallest_0 17 rfl rfl)
theorem dX9_tallest_18 : decode cX9_tallest 18 = .ok (.iload_n 1, 1) := dk_27 (dk_at dksX9_tallest_0 18 rfl rfl)
theorem dX9_tallest_19 : decode cX9_tallest 19 = .ok (.invokevirtual 459, 3) := dk_182 1 203 (dk_at dksX9_tallest_0 19 rfl rfl)
theorem dX9_tallest_22 : decode cX9_tallest 22 = .ok (.ireturn, 1) := dk_172 (dk_at dksX9_tallest_0 22 rfl rfl)
def dkwX9_change_3 : List UInt8 := [154, 0, 7, 28, 167, 0, 4, 29, 172]
abbrev dktX9_change_3 : List UInt8 := dkwX9_change_3 ++ []
def dkwX9_change_2 : List UInt8 := [159, 0, 9, 21, 5, 29, 162, 0, 9, 21, 4, 61, 21, 5, 62, 132, 4, 1, 167, 255, 217, 27]
abbrev dktX9_change_2 : List UInt8 := dkwX9_change_2 ++ dktX9_change_3
def dkwX9_change_1 : List UInt8 := [54, 4, 21, 4, 42, 182, 1, 1, 162, 0, 36, 42, 21, 4, 3, 3, 182, 1, 206, 54, 5, 28, 2]
abbrev dktX9_change_1 : List UInt8 := dkwX9_change_1 ++ dktX9_change_2
def dkwX9_change_0 : List UInt8 := [42, 180, 0, 254, 153, 0, 12, 27, 3, 4, 184, 0, 103, 154, 0, 5, 2, 172, 2, 61, 3, 62, 3]
abbrev dktX9_change_0 : List UInt8 := dkwX9_change_0 ++ dktX9_change_1
theorem dksX9_change_0 : cX9_change.data.toList.drop 0 = dktX9_change_0 := by decide +kernel
theorem dksX9_change_1 : cX9_change.data.toList.drop 23 = dktX9_change_1 := dk_seg dksX9_change_0 23 rfl rfl
theorem dksX9_change_2 : cX9_change.data.toList.drop 46 = dktX9_change_2 := dk_seg dksX9_change_1 23 rfl rfl
theorem dksX9_change_3 : cX9_change.data.toList.drop 68 = dktX9_change_3 := dk_seg dksX9_change_2 22 rfl rfl
theorem dX9_change_0 : decode cX9_change 0 = .ok (.aload_n 0, 1) := dk_42 (dk_at dksX9_change_0 0 rfl rfl)
theorem dX9_change_1 : decode cX9_change 1 = .ok (.getfield 254, 3) := dk_180 0 254 (dk_at dksX9_change_0 1 rfl rfl)
theorem dX9_change_4 : decode cX9_change 4 = .ok (.ifCond .eq 12, 3) := dk_153 0 12 (dk_at dksX9_change_0 4 rfl rfl)
theorem dX9_change_7 : decode cX9_change 7 = .ok (.iload_n 1, 1) := dk_27 (dk_at dksX9_change_0 7 rfl rfl)
theorem dX9_change_8 : decode cX9_change 8 = .ok (.iconst 0, 1) := dk_3 (dk_at dksX9_change_0 8 rfl rfl)
theorem dX9_change_9 : decode cX9_change 9 = .ok (.iconst 1, 1) := dk_4 (dk_at dksX9_change_0 9 rfl rfl)
theorem dX9_change_10 : decode cX9_change 10 = .ok (.invokestatic 103, 3) := dk_184 0 103 (dk_at dksX9_change_0 10 rfl rfl)
theorem dX9_change_13 : decode cX9_change 13 = .ok (.ifCond .ne 5, 3) := dk_154 0 5 (dk_at dksX9_change_0 13 rfl rfl)
theorem dX9_change_16 : decode cX9_change 16 = .ok (.iconst (-1), 1) := dk_2 (dk_at dksX9_change_0 16 rfl rfl)
theorem dX9_change_17 : decode cX9_change 17 = .ok (.ireturn, 1) := dk_172 (dk_at dksX9_change_0 17 rfl rfl)
theorem dX9_change_18 : decode cX9_change 18 = .ok (.iconst (-1), 1) := dk_2 (dk_at dksX9_change_0 18 rfl rfl)
theorem dX9_change_19 : decode cX9_change 19 = .ok (.istore_n 2, 1) := dk_61 (dk_at dksX9_change_0 19 rfl rfl)
theorem dX9_change_20 : decode cX9_change 20 = .ok (.iconst 0, 1) := dk_3 (dk_at dksX9_change_0 20 rfl rfl)
theorem dX9_change_21 : decode cX9_change 21 = .ok (.istore_n 3, 1) := dk_62 (dk_at dksX9_change_0 21 rfl rfl)
theorem dX9_change_22 : decode cX9_change 22 = .ok (.iconst 0, 1) := dk_3 (dk_at dksX9_change_0 22 rfl rfl)
theorem dX9_change_23 : decode cX9_change 23 = .ok (.istore 4, 2) := dk_54 4 (dk_at dksX9_change_1 0 rfl rfl)
theorem dX9_change_25 : decode cX9_change 25 = .ok (.iload 4, 2) := dk_21 4 (dk_at dksX9_change_1 2 rfl rfl)
theorem dX9_change_27 : decode cX9_change 27 = .ok (.aload_n 0, 1) := dk_42 (dk_at dksX9_change_1 4 rfl rfl)
theorem dX9_change_28 : decode cX9_change 28 = .ok (.invokevirtual 257, 3) := dk_182 1 1 (dk_at dksX9_change_1 5 rfl rfl)
theorem dX9_change_31 : decode cX9_change 31 = .ok (.if_icmp .ge 36, 3) := dk_162 0 36 (dk_at dksX9_change_1 8 rfl rfl)
theorem dX9_change_34 : decode cX9_change 34 = .ok (.aload_n 0, 1) := dk_42 (dk_at dksX9_change_1 11 rfl rfl)
theorem dX9_change_35 : decode cX9_change 35 = .ok (.iload 4, 2) := dk_21 4 (dk_at dksX9_change_1 12 rfl rfl)
theorem dX9_change_37 : decode cX9_change 37 = .ok (.iconst 0, 1) := dk_3 (dk_at dksX9_change_1 14 rfl rfl)
theorem dX9_change_38 : decode cX9_change 38 = .ok (.iconst 0, 1) := dk_3 (dk_at dksX9_change_1 15 rfl rfl)
theorem dX9_change_39 : decode cX9_change 39 = .ok (.invokevirtual 462, 3) := dk_182 1 206 (dk_at dksX9_change_1 16 rfl rfl)
theorem dX9_change_42 : decode cX9_change 42 = .ok (.istore 5, 2) := dk_54 5 (dk_at dksX9_change_1 19 rfl rfl)
theorem dX9_change_44 : decode cX9_change 44 = .ok (.iload_n 2, 1) := dk_28 (dk_at dksX9_change_1 21 rfl rfl)
theorem dX9_change_45 : decode cX9_change 45 = .ok (.iconst (-1), 1) := dk_2 (dk_at dksX9_change_1 22 rfl rfl)
theorem dX9_change_46 : decode cX9_change 46 = .ok (.if_icmp .eq 9, 3) := dk_159 0 9 (dk_at dksX9_change_2 0 rfl rfl)
theorem dX9_change_49 : decode cX9_change 49 = .ok (.iload 5, 2) := dk_21 5 (dk_at dksX9_change_2 3 rfl rfl)
theorem dX9_change_51 : decode cX9_change 51 = .ok (.iload_n 3, 1) := dk_29 (dk_at dksX9_change_2 5 rfl rfl)
theorem dX9_change_52 : decode cX9_change 52 = .ok (.if_icmp .ge 9, 3) := dk_162 0 9 (dk_at dksX9_change_2 6 rfl rfl)
theorem dX9_change_55 : decode cX9_change 55 = .ok (.iload 4, 2) := dk_21 4 (dk_at dksX9_change_2 9 rfl rfl)
theorem dX9_change_57 : decode cX9_change 57 = .ok (.istore_n 2, 1) := dk_61 (dk_at dksX9_change_2 11 rfl rfl)
theorem dX9_change_58 : decode cX9_change 58 = .ok (.iload 5, 2) := dk_21 5 (dk_at dksX9_change_2 12 rfl rfl)
theorem dX9_change_60 : decode cX9_change 60 = .ok (.istore_n 3, 1) := dk_62 (dk_at dksX9_change_2 14 rfl rfl)
theorem dX9_change_61 : decode cX9_change 61 = .ok (.iinc 4 1, 3) := dk_132 4 1 (dk_at dksX9_change_2 15 rfl rfl)
theorem dX9_change_64 : decode cX9_change 64 = .ok (.goto (-39), 3) := dk_167 255 217 (dk_at dksX9_change_2 18 rfl rfl)
theorem dX9_change_67 : decode cX9_change 67 = .ok (.iload_n 1, 1) := dk_27 (dk_at dksX9_change_2 21 rfl rfl)
theorem dX9_change_68 : decode cX9_change 68 = .ok (.ifCond .ne 7, 3) := dk_154 0 7 (dk_at dksX9_change_3 0 rfl rfl)
theorem dX9_change_71 : decode cX9_change 71 = .ok (.iload_n 2, 1) := dk_28 (dk_at dksX9_change_3 3 rfl rfl)
theorem dX9_change_72 : decode cX9_change 72 = .ok (.goto 4, 3) := dk_167 0 4 (dk_at dksX9_change_3 4 rfl rfl)
theorem dX9_change_75 : decode cX9_change 75 = .ok (.iload_n 3, 1) := dk_29 (dk_at dksX9_change_3 7 rfl rfl)
theorem dX9_change_76 : decode cX9_change 76 = .ok (.ireturn, 1) := dk_172 (dk_at dksX9_change_3 8 rfl rfl)
def dkwX9_spell_4 : List UInt8 := [167, 0, 4, 2, 172]
abbrev dktX9_spell_4 : List UInt8 := dkwX9_spell_4 ++ []
def dkwX9_spell_3 : List UInt8 := [167, 0, 27, 28, 3, 42, 180, 1, 209, 4, 100, 184, 0, 103, 153, 0, 12, 42, 180, 0, 89, 28, 46]
abbrev dktX9_spell_3 : List UInt8 := dkwX9_spell_3 ++ dktX9_spell_4
def dkwX9_spell_2 : List UInt8 := [42, 16, 58, 182, 1, 212, 42, 42, 27, 182, 1, 85, 182, 1, 218, 28, 2, 160, 0, 10, 42, 180, 1, 209]
abbrev dktX9_spell_2 : List UInt8 := dkwX9_spell_2 ++ dktX9_spell_3
def dkwX9_spell_1 : List UInt8 := [42, 180, 0, 68, 27, 46, 182, 1, 215, 42, 16, 64, 182, 1, 212, 42, 42, 27, 182, 1, 64, 182, 1, 218]
abbrev dktX9_spell_1 : List UInt8 := dkwX9_spell_1 ++ dktX9_spell_2
def dkwX9_spell_0 : List UInt8 := [42, 27, 182, 1, 176, 153, 0, 11, 42, 27, 182, 1, 179, 154, 0, 5, 2, 172, 42, 3, 181, 1, 209, 42]
abbrev dktX9_spell_0 : List UInt8 := dkwX9_spell_0 ++ dktX9_spell_1
theorem dksX9_spell_0 : cX9_spell.data.toList.drop 0 = dktX9_spell_0 := by decide +kernel
theorem dksX9_spell_1 : cX9_spell.data.toList.drop 24 = dktX9_spell_1 := dk_seg dksX9_spell_0 24 rfl rfl
theorem dksX9_spell_2 : cX9_spell.data.toList.drop 48 = dktX9_spell_2 := dk_seg dksX9_spell_1 24 rfl rfl
theorem dksX9_spell_3 : cX9_spell.data.toList.drop 72 = dktX9_spell_3 := dk_seg dksX9_spell_2 24 rfl rfl
theorem dksX9_spell_4 : cX9_spell.data.toList.drop 95 = dktX9_spell_4 := dk_seg dksX9_spell_3 23 rfl rfl
theorem dX9_spell_0 : decode cX9_spell 0 = .ok (.aload_n 0, 1) := dk_42 (dk_at dksX9_spell_0 0 rfl rfl)
theorem dX9_spell_1 : decode cX9_spell 1 = .ok (.iload_n 1, 1) := dk_27 (dk_at dksX9_spell_0 1 rfl rfl)
theorem dX9_spell_2 : decode cX9_spell 2 = .ok (.invokevirtual 432, 3) := dk_182 1 176 (dk_at dksX9_spell_0 2 rfl rfl)
theorem dX9_spell_5 : decode cX9_spell 5 = .ok (.ifCond .eq 11, 3) := dk_153 0 11 (dk_at dksX9_spell_0 5 rfl rfl)
theorem dX9_spell_8 : decode cX9_spell 8 = .ok (.aload_n 0, 1) := dk_42 (dk_at dksX9_spell_0 8 rfl rfl)
theorem dX9_spell_9 : decode cX9_spell 9 = .ok (.iload_n 1, 1) := dk_27 (dk_at dksX9_spell_0 9 rfl rfl)
theorem dX9_spell_10 : decode cX9_spell 10 = .ok (.invokevirtual 435, 3) := dk_182 1 179 (dk_at dksX9_spell_0 10 rfl rfl)
theorem dX9_spell_13 : decode cX9_spell 13 = .ok (.ifCond .ne 5, 3) := dk_154 0 5 (dk_at dksX9_spell_0 13 rfl rfl)
theorem dX9_spell_16 : decode cX9_spell 16 = .ok (.iconst (-1), 1) := dk_2 (dk_at dksX9_spell_0 16 rfl rfl)
theorem dX9_spell_17 : decode cX9_spell 17 = .ok (.ireturn, 1) := dk_172 (dk_at dksX9_spell_0 17 rfl rfl)
theorem dX9_spell_18 : decode cX9_spell 18 = .ok (.aload_n 0, 1) := dk_42 (dk_at dksX9_spell_0 18 rfl rfl)
theorem dX9_spell_19 : decode cX9_spell 19 = .ok (.iconst 0, 1) := dk_3 (dk_at dksX9_spell_0 19 rfl rfl)
theorem dX9_spell_20 : decode cX9_spell 20 = .ok (.putfield 465, 3) := dk_181 1 209 (dk_at dksX9_spell_0 20 rfl rfl)
theorem dX9_spell_23 : decode cX9_spell 23 = .ok (.aload_n 0, 1) := dk_42 (dk_at dksX9_spell_0 23 rfl rfl)
theorem dX9_spell_24 : decode cX9_spell 24 = .ok (.aload_n 0, 1) := dk_42 (dk_at dksX9_spell_1 0 rfl rfl)
theorem dX9_spell_25 : decode cX9_spell 25 = .ok (.getfield 68, 3) := dk_180 0 68 (dk_at dksX9_spell_1 1 rfl rfl)
theorem dX9_spell_28 : decode cX9_spell 28 = .ok (.iload_n 1, 1) := dk_27 (dk_at dksX9_spell_1 4 rfl rfl)
theorem dX9_spell_29 : decode cX9_spell 29 = .ok (.iaload, 1) := dk_46 (dk_at dksX9_spell_1 5 rfl rfl)
theorem dX9_spell_30 : decode cX9_spell 30 = .ok (.invokevirtual 471, 3) := dk_182 1 215 (dk_at dksX9_spell_1 6 rfl rfl)
theorem dX9_spell_33 : decode cX9_spell 33 = .ok (.aload_n 0, 1) := dk_42 (dk_at dksX9_spell_1 9 rfl rfl)
theorem dX9_spell_34 : decode cX9_spell 34 = .ok (.bipush 64, 2) := dk_16 64 (dk_at dksX9_spell_1 10 rfl rfl)
theorem dX9_spell_36 : decode cX9_spell 36 = .ok (.invokevirtual 468, 3) := dk_182 1 212 (dk_at dksX9_spell_1 12 rfl rfl)
theorem dX9_spell_39 : decode cX9_spell 39 = .ok (.aload_n 0, 1) := dk_42 (dk_at dksX9_spell_1 15 rfl rfl)
theorem dX9_spell_40 : decode cX9_spell 40 = .ok (.aload_n 0, 1) := dk_42 (dk_at dksX9_spell_1 16 rfl rfl)
theorem dX9_spell_41 : decode cX9_spell 41 = .ok (.iload_n 1, 1) := dk_27 (dk_at dksX9_spell_1 17 rfl rfl)
theorem dX9_spell_42 : decode cX9_spell 42 = .ok (.invokevirtual 320, 3) := dk_182 1 64 (dk_at dksX9_spell_1 18 rfl rfl)
theorem dX9_spell_45 : decode cX9_spell 45 = .ok (.invokevirtual 474, 3) := dk_182 1 218 (dk_at dksX9_spell_1 21 rfl rfl)
theorem dX9_spell_48 : decode cX9_spell 48 = .ok (.aload_n 0, 1) := dk_42 (dk_at dksX9_spell_2 0 rfl rfl)
theorem dX9_spell_49 : decode cX9_spell 49 = .ok (.bipush 58, 2) := dk_16 58 (dk_at dksX9_spell_2 1 rfl rfl)
theorem dX9_spell_51 : decode cX9_spell 51 = .ok (.invokevirtual 468, 3) := dk_182 1 212 (dk_at dksX9_spell_2 3 rfl rfl)
theorem dX9_spell_54 : decode cX9_spell 54 = .ok (.aload_n 0, 1) := dk_42 (dk_at dksX9_spell_2 6 rfl rfl)
theorem dX9_spell_55 : decode cX9_spell 55 = .ok (.aload_n 0, 1) := dk_42 (dk_at dksX9_spell_2 7 rfl rfl)
theorem dX9_spell_56 : decode cX9_spell 56 = .ok (.iload_n 1, 1) := dk_27 (dk_at dksX9_spell_2 8 rfl rfl)
theorem dX9_spell_57 : decode cX9_spell 57 = .ok (.invokevirtual 341, 3) := dk_182 1 85 (dk_at dksX9_spell_2 9 rfl rfl)
theorem dX9_spell_60 : decode cX9_spell 60 = .ok (.invokevirtual 474, 3) := dk_182 1 218 (dk_at dksX9_spell_2 12 rfl rfl)
theorem dX9_spell_63 : decode cX9_spell 63 = .ok (.iload_n 2, 1) := dk_28 (dk_at dksX9_spell_2 15 rfl rfl)
theorem dX9_spell_64 : decode cX9_spell 64 = .ok (.iconst (-1), 1) := dk_2 (dk_at dksX9_spell_2 16 rfl rfl)
theorem dX9_spell_65 : decode cX9_spell 65 = .ok (.if_icmp .ne 10, 3) := dk_160 0 10 (dk_at dksX9_spell_2 17 rfl rfl)
theorem dX9_spell_68 : decode cX9_spell 68 = .ok (.aload_n 0, 1) := dk_42 (dk_at dksX9_spell_2 20 rfl rfl)
theorem dX9_spell_69 : decode cX9_spell 69 = .ok (.getfield 465, 3) := dk_180 1 209 (dk_at dksX9_spell_2 21 rfl rfl)
theorem dX9_spell_72 : decode cX9_spell 72 = .ok (.goto 27, 3) := dk_167 0 27 (dk_at dksX9_spell_3 0 rfl rfl)
theorem dX9_spell_75 : decode cX9_spell 75 = .ok (.iload_n 2, 1) := dk_28 (dk_at dksX9_spell_3 3 rfl rfl)
theorem dX9_spell_76 : decode cX9_spell 76 = .ok (.iconst 0, 1) := dk_3 (dk_at dksX9_spell_3 4 rfl rfl)
theorem dX9_spell_77 : decode cX9_spell 77 = .ok (.aload_n 0, 1) := dk_42 (dk_at dksX9_spell_3 5 rfl rfl)
theorem dX9_spell_78 : decode cX9_spell 78 = .ok (.getfield 465, 3) := dk_180 1 209 (dk_at dksX9_spell_3 6 rfl rfl)
theorem dX9_spell_81 : decode cX9_spell 81 = .ok (.iconst 1, 1) := dk_4 (dk_at dksX9_spell_3 9 rfl rfl)
theorem dX9_spell_82 : decode cX9_spell 82 = .ok (.isub, 1) := dk_100 (dk_at dksX9_spell_3 10 rfl rfl)
theorem dX9_spell_83 : decode cX9_spell 83 = .ok (.invokestatic 103, 3) := dk_184 0 103 (dk_at dksX9_spell_3 11 rfl rfl)
theorem dX9_spell_86 : decode cX9_spell 86 = .ok (.ifCond .eq 12, 3) := dk_153 0 12 (dk_at dksX9_spell_3 14 rfl rfl)
theorem dX9_spell_89 : decode cX9_spell 89 = .ok (.aload_n 0, 1) := dk_42 (dk_at dksX9_spell_3 17 rfl rfl)
theorem dX9_spell_90 : decode cX9_spell 90 = .ok (.getfield 89, 3) := dk_180 0 89 (dk_at dksX9_spell_3 18 rfl rfl)
theorem dX9_spell_93 : decode cX9_spell 93 = .ok (.iload_n 2, 1) := dk_28 (dk_at dksX9_spell_3 21 rfl rfl)
theorem dX9_spell_94 : decode cX9_spell 94 = .ok (.iaload, 1) := dk_46 (dk_at dksX9_spell_3 22 rfl rfl)
theorem dX9_spell_95 : decode cX9_spell 95 = .ok (.goto 4, 3) := dk_167 0 4 (dk_at dksX9_spell_4 0 rfl rfl)
theorem dX9_spell_98 : decode cX9_spell 98 = .ok (.iconst (-1), 1) := dk_2 (dk_at dksX9_spell_4 3 rfl rfl)
theorem dX9_spell_99 : decode cX9_spell 99 = .ok (.ireturn, 1) := dk_172 (dk_at dksX9_spell_4 4 rfl rfl)
def dkwX9_spellsName_3 : List UInt8 := [132, 2, 255, 167, 255, 206, 177]
abbrev dktX9_spellsName_3 : List UInt8 := dkwX9_spellsName_3 ++ []
def dkwX9_spellsName_2 : List UInt8 := [66, 132, 5, 1, 167, 255, 241, 42, 16, 97, 33, 10, 101, 20, 0, 125, 113, 136, 96, 182, 1, 212]
abbrev dktX9_spellsName_2 : List UInt8 := dkwX9_spellsName_2 ++ dktX9_spellsName_3
def dkwX9_spellsName_1 : List UInt8 := [155, 0, 52, 42, 180, 0, 44, 27, 47, 66, 3, 54, 5, 21, 5, 28, 162, 0, 15, 33, 20, 0, 125, 109]
abbrev dktX9_spellsName_1 : List UInt8 := dkwX9_spellsName_1 ++ dktX9_spellsName_2
def dkwX9_spellsName_0 : List UInt8 := [27, 2, 160, 0, 10, 42, 16, 63, 182, 1, 212, 177, 42, 180, 0, 41, 27, 46, 4, 100, 61, 28]
abbrev dktX9_spellsName_0 : List UInt8 := dkwX9_spellsName_0 ++ dktX9_spellsName_1
theorem dksX9_spellsName_0 : cX9_spellsName.data.toList.drop 0 = dktX9_spellsName_0 := by decide +kernel
theorem dksX9_spellsName_1 : cX9_spellsName.data.toList.drop 22 = dktX9_spellsName_1 := dk_seg dksX9_spellsName_0 22 rfl rfl
theorem dksX9_spellsName_2 : cX9_spellsName.data.toList.drop 46 = dktX9_spellsName_2 := dk_seg dksX9_spellsName_1 24 rfl rfl
theorem dksX9_spellsName_3 : cX9_spellsName.data.toList.drop 68 = dktX9_spellsName_3 := dk_seg dksX9_spellsName_2 22 rfl rfl
theorem dX9_spellsName_0 : decode cX9_spellsName 0 = .ok (.iload_n 1, 1) := dk_27 (dk_at dksX9_spellsName_0 0 rfl rfl)
theorem dX9_spellsName_1 : decode cX9_spellsName 1 = .ok (.iconst (-1), 1) := dk_2 (dk_at dksX9_spellsName_0 1 rfl rfl)
theorem dX9_spellsName_2 : decode cX9_spellsName 2 = .ok (.if_icmp .ne 10, 3) := dk_160 0 10 (dk_at dksX9_spellsName_0 2 rfl rfl)
theorem dX9_spellsName_5 : decode cX9_spellsName 5 = .ok (.aload_n 0, 1) := dk_42 (dk_at dksX9_spellsName_0 5 rfl rfl)
theorem dX9_spellsName_6 : decode cX9_spellsName 6 = .ok (.bipush 63, 2) := dk_16 63 (dk_at dksX9_spellsName_0 6 rfl rfl)
theorem dX9_spellsName_8 : decode cX9_spellsName 8 = .ok (.invokevirtual 468, 3) := dk_182 1 212 (dk_at dksX9_spellsName_0 8 rfl rfl)
theorem dX9_spellsName_11 : decode cX9_spellsName 11 = .ok (.return_, 1) := dk_177 (dk_at dksX9_spellsName_0 11 rfl rfl)
theorem dX9_spellsName_12 : decode cX9_spellsName 12 = .ok (.aload_n 0, 1) := dk_42 (dk_at dksX9_spellsName_0 12 rfl rfl)
theorem dX9_spellsName_13 : decode cX9_spellsName 13 = .ok (.getfield 41, 3) := dk_180 0 41 (dk_at dksX9_spellsName_0 13 rfl rfl)
theorem dX9_spellsName_16 : decode cX9_spellsName 16 = .ok (.iload_n 1, 1) := dk_27 (dk_at dksX9_spellsName_0 16 rfl rfl)
theorem dX9_spellsName_17 : decode cX9_spellsName 17 = .ok (.iaload, 1) := dk_46 (dk_at dksX9_spellsName_0 17 rfl rfl)
theorem dX9_spellsName_18 : decode cX9_spellsName 18 = .ok (.iconst 1, 1) := dk_4 (dk_at dksX9_spellsName_0 18 rfl rfl)
theorem dX9_spellsName_19 : decode cX9_spellsName 19 = .ok (.isub, 1) := dk_100 (dk_at dksX9_spellsName_0 19 rfl rfl)
theorem dX9_spellsName_20 : decode cX9_spellsName 20 = .ok (.istore_n 2, 1) := dk_61 (dk_at dksX9_spellsName_0 20 rfl rfl)
theorem dX9_spellsName_21 : decode cX9_spellsName 21 = .ok (.iload_n 2, 1) := dk_28 (dk_at dksX9_spellsName_0 21 rfl rfl)
theorem dX9_spellsName_22 : decode cX9_spellsName 22 = .ok (.ifCond .lt 52, 3) := dk_155 0 52 (dk_at dksX9_spellsName_1 0 rfl rfl)
theorem dX9_spellsName_25 : decode cX9_spellsName 25 = .ok (.aload_n 0, 1) := dk_42 (dk_at dksX9_spellsName_1 3 rfl rfl)
theorem dX9_spellsName_26 : decode cX9_spellsName 26 = .ok (.getfield 44, 3) := dk_180 0 44 (dk_at dksX9_spellsName_1 4 rfl rfl)
theorem dX9_spellsName_29 : decode cX9_spellsName 29 = .ok (.iload_n 1, 1) := dk_27 (dk_at dksX9_spellsName_1 7 rfl rfl)
theorem dX9_spellsName_30 : decode cX9_spellsName 30 = .ok (.laload, 1) := dk_47 (dk_at dksX9_spellsName_1 8 rfl rfl)
theorem dX9_spellsName_31 : decode cX9_spellsName 31 = .ok (.lstore_n 3, 1) := dk_66 (dk_at dksX9_spellsName_1 9 rfl rfl)
theorem dX9_spellsName_32 : decode cX9_spellsName 32 = .ok (.iconst 0, 1) := dk_3 (dk_at dksX9_spellsName_1 10 rfl rfl)
theorem dX9_spellsName_33 : decode cX9_spellsName 33 = .ok (.istore 5, 2) := dk_54 5 (dk_at dksX9_spellsName_1 11 rfl rfl)
theorem dX9_spellsName_35 : decode cX9_spellsName 35 = .ok (.iload 5, 2) := dk_21 5 (dk_at dksX9_spellsName_1 13 rfl rfl)
theorem dX9_spellsName_37 : decode cX9_spellsName 37 = .ok (.iload_n 2, 1) := dk_28 (dk_at dksX9_spellsName_1 15 rfl rfl)
theorem dX9_spellsName_38 : decode cX9_spellsName 38 = .ok (.if_icmp .ge 15, 3) := dk_162 0 15 (dk_at dksX9_spellsName_1 16 rfl rfl)
theorem dX9_spellsName_41 : decode cX9_spellsName 41 = .ok (.lload_n 3, 1) := dk_33 (dk_at dksX9_spellsName_1 19 rfl rfl)
theorem dX9_spellsName_42 : decode cX9_spellsName 42 = .ok (.ldc2_w 125, 3) := dk_20 0 125 (dk_at dksX9_spellsName_1 20 rfl rfl)
theorem dX9_spellsName_45 : decode cX9_spellsName 45 = .ok (.ldiv, 1) := dk_109 (dk_at dksX9_spellsName_1 23 rfl rfl)
theorem dX9_spellsName_46 : decode cX9_spellsName 46 = .ok (.lstore_n 3, 1) := dk_66 (dk_at dksX9_spellsName_2 0 rfl rfl)
theorem dX9_spellsName_47 : decode cX9_spellsName 47 = .ok (.iinc 5 1, 3) := dk_132 5 1 (dk_at dksX9_spellsName_2 1 rfl rfl)
theorem dX9_spellsName_50 : decode cX9_spellsName 50 = .ok (.goto (-15), 3) := dk_167 255 241 (dk_at dksX9_spellsName_2 4 rfl rfl)
theorem dX9_spellsName_53 : decode cX9_spellsName 53 = .ok (.aload_n 0, 1) := dk_42 (dk_at dksX9_spellsName_2 7 rfl rfl)
theorem dX9_spellsName_54 : decode cX9_spellsName 54 = .ok (.bipush 97, 2) := dk_16 97 (dk_at dksX9_spellsName_2 8 rfl rfl)
theorem dX9_spellsName_56 : decode cX9_spellsName 56 = .ok (.lload_n 3, 1) := dk_33 (dk_at dksX9_spellsName_2 10 rfl rfl)
theorem dX9_spellsName_57 : decode cX9_spellsName 57 = .ok (.lconst 1, 1) := dk_10 (dk_at dksX9_spellsName_2 11 rfl rfl)
theorem dX9_spellsName_58 : decode cX9_spellsName 58 = .ok (.lsub, 1) := dk_101 (dk_at dksX9_spellsName_2 12 rfl rfl)
theorem dX9_spellsName_59 : decode cX9_spellsName 59 = .ok (.ldc2_w 125, 3) := dk_20 0 125 (dk_at dksX9_spellsName_2 13 rfl rfl)
theorem dX9_spellsName_62 : decode cX9_spellsName 62 = .ok (.lrem, 1) := dk_113 (dk_at dksX9_spellsName_2 16 rfl rfl)
theorem dX9_spellsName_63 : decode cX9_spellsName 63 = .ok (.l2i, 1) := dk_136 (dk_at dksX9_spellsName_2 17 rfl rfl)
theorem dX9_spellsName_64 : decode cX9_spellsName 64 = .ok (.iadd, 1) := dk_96 (dk_at dksX9_spellsName_2 18 rfl rfl)
theorem dX9_spellsName_65 : decode cX9_spellsName 65 = .ok (.invokevirtual 468, 3) := dk_182 1 212 (dk_at dksX9_spellsName_2 19 rfl rfl)
theorem dX9_spellsName_68 : decode cX9_spellsName 68 = .ok (.iinc 2 (-1), 3) := dk_132 2 255 (dk_at dksX9_spellsName_3 0 rfl rfl)
theorem dX9_spellsName_71 : decode cX9_spellsName 71 = .ok (.goto (-50), 3) := dk_167 255 206 (dk_at dksX9_spellsName_3 3 rfl rfl)
theorem dX9_spellsName_74 : decode cX9_spellsName 74 = .ok (.return_, 1) := dk_177 (dk_at dksX9_spellsName_3 6 rfl rfl)
def dkwX9_spells_0 : List UInt8 := [42, 180, 0, 89, 42, 180, 1, 209, 27, 79, 42, 89, 180, 1, 209, 4, 96, 181, 1, 209, 177]
abbrev dktX9_spells_0 : List UInt8 := dkwX9_spells_0 ++ []
theorem dksX9_spells_0 : cX9_spells.data.toList.drop 0 = dktX9_spells_0 := by decide +kernel
theorem dX9_spells_0 : decode cX9_spells 0 = .ok (.aload_n 0, 1) := dk_42 (dk_at dksX9_spells_0 0 rfl rfl)
theorem dX9_spells_1 : decode cX9_spells 1 = .ok (.getfield 89, 3) := dk_180 0 89 (dk_at dksX9_spells_0 1 rfl rfl)
theorem dX9_spells_4 : decode cX9_spells 4 = .ok (.aload_n 0, 1) := dk_42 (dk_at dksX9_spells_0 4 rfl rfl)
theorem dX9_spells_5 : decode cX9_spells 5 = .ok (.getfield 465, 3) := dk_180 1 209 (dk_at dksX9_spells_0 5 rfl rfl)
theorem dX9_spells_8 : decode cX9_spells 8 = .ok (.iload_n 1, 1) := dk_27 (dk_at dksX9_spells_0 8 rfl rfl)
theorem dX9_spells_9 : decode cX9_spells 9 = .ok (.iastore, 1) := dk_79 (dk_at dksX9_spells_0 9 rfl rfl)
theorem dX9_spells_10 : decode cX9_spells 10 = .ok (.aload_n 0, 1) := dk_42 (dk_at dksX9_spells_0 10 rfl rfl)
theorem dX9_spells_11 : decode cX9_spells 11 = .ok (.dup, 1) := dk_89 (dk_at dksX9_spells_0 11 rfl rfl)
theorem dX9_spells_12 : decode cX9_spells 12 = .ok (.getfield 465, 3) := dk_180 1 209 (dk_at dksX9_spells_0 12 rfl rfl)
theorem dX9_spells_15 : decode cX9_spells 15 = .ok (.iconst 1, 1) := dk_4 (dk_at dksX9_spells_0 15 rfl rfl)
theorem dX9_spells_16 : decode cX9_spells 16 = .ok (.iadd, 1) := dk_96 (dk_at dksX9_spells_0 16 rfl rfl)
theorem dX9_spells_17 : decode cX9_spells 17 = .ok (.putfield 465, 3) := dk_181 1 209 (dk_at dksX9_spells_0 17 rfl rfl)
theorem dX9_spells_20 : decode cX9_spells 20 = .ok (.return_, 1) := dk_177 (dk_at dksX9_spells_0 20 rfl rfl)
def dkwX9_spellsNumber_1 : List UInt8 := [16, 48, 27, 28, 108, 16, 10, 112, 96, 182, 1, 212, 28, 16, 10, 108, 61, 167, 255, 234, 177]
abbrev dktX9_spellsNumber_1 : List UInt8 := dkwX9_spellsNumber_1 ++ []
def dkwX9_spellsNumber_0 : List UInt8 := [4, 61, 27, 28, 108, 16, 9, 164, 0, 11, 28, 16, 10, 104, 61, 167, 255, 243, 28, 158, 0, 24, 42]
abbrev dktX9_spellsNumber_0 : List UInt8 := dkwX9_spellsNumber_0 ++ dktX9_spellsNumber_1
theorem dksX9_spellsNumber_0 : cX9_spellsNumber.data.toList.drop 0 = dktX9_spellsNumber_0 := by decide +kernel
theorem dksX9_spellsNumber_1 : cX9_spellsNumber.data.toList.drop 23 = dktX9_spellsNumber_1 := dk_seg dksX9_spellsNumber_0 23 rfl rfl
theorem dX9_spellsNumber_0 : decode cX9_spellsNumber 0 = .ok (.iconst 1, 1) := dk_4 (dk_at dksX9_spellsNumber_0 0 rfl rfl)
theorem dX9_spellsNumber_1 : decode cX9_spellsNumber 1 = .ok (.istore_n 2, 1) := dk_61 (dk_at dksX9_spellsNumber_0 1 rfl rfl)
theorem dX9_spellsNumber_2 : decode cX9_spellsNumber 2 = .ok (.iload_n 1, 1) := dk_27 (dk_at dksX9_spellsNumber_0 2 rfl rfl)
theorem dX9_spellsNumber_3 : decode cX9_spellsNumber 3 = .ok (.iload_n 2, 1) := dk_28 (dk_at dksX9_spellsNumber_0 3 rfl rfl)
theorem dX9_spellsNumber_4 : decode cX9_spellsNumber 4 = .ok (.idiv, 1) := dk_108 (dk_at dksX9_spellsNumber_0 4 rfl rfl)
theorem dX9_spellsNumber_5 : decode cX9_spellsNumber 5 = .ok (.bipush 9, 2) := dk_16 9 (dk_at dksX9_spellsNumber_0 5 rfl rfl)
theorem dX9_spellsNumber_7 : decode cX9_spellsNumber 7 = .ok (.if_icmp .le 11, 3) := dk_164 0 11 (dk_at dksX9_spellsNumber_0 7 rfl rfl)
theorem dX9_spellsNumber_10 : decode cX9_spellsNumber 10 = .ok (.iload_n 2, 1) := dk_28 (dk_at dksX9_spellsNumber_0 10 rfl rfl)
theorem dX9_spellsNumber_11 : decode cX9_spellsNumber 11 = .ok (.bipush 10, 2) := dk_16 10 (dk_at dksX9_spellsNumber_0 11 rfl rfl)
theorem dX9_spellsNumber_13 : decode cX9_spellsNumber 13 = .ok (.imul, 1) := dk_104 (dk_at dksX9_spellsNumber_0 13 rfl rfl)
theorem dX9_spellsNumber_14 : decode cX9_spellsNumber 14 = .ok (.istore_n 2, 1) := dk_61 (dk_at dksX9_spellsNumber_0 14 rfl rfl)
theorem dX9_spellsNumber_15 : decode cX9_spellsNumber 15 = .ok (.goto (-13), 3) := dk_167 255 243 (dk_at dksX9_spellsNumber_0 15 rfl rfl)
theorem dX9_spellsNumber_18 : decode cX9_spellsNumber 18 = .ok (.iload_n 2, 1) := dk_28 (dk_at dksX9_spellsNumber_0 18 rfl rfl)
theorem dX9_spellsNumber_19 : decode cX9_spellsNumber 19 = .ok (.ifCond .le 24, 3) := dk_158 0 24 (dk_at dksX9_spellsNumber_0 19 rfl rfl)
theorem dX9_spellsNumber_22 : decode cX9_spellsNumber 22 = .ok (.aload_n 0, 1) := dk_42 (dk_at dksX9_spellsNumber_0 22 rfl rfl)
theorem dX9_spellsNumber_23 : decode cX9_spellsNumber 23 = .ok (.bipush 48, 2) := dk_16 48 (dk_at dksX9_spellsNumber_1 0 rfl rfl)
theorem dX9_spellsNumber_25 : decode cX9_spellsNumber 25 = .ok (.iload_n 1, 1) := dk_27 (dk_at dksX9_spellsNumber_1 2 rfl rfl)
theorem dX9_spellsNumber_26 : decode cX9_spellsNumber 26 = .ok (.iload_n 2, 1) := dk_28 (dk_at dksX9_spellsNumber_1 3 rfl rfl)
theorem dX9_spellsNumber_27 : decode cX9_spellsNumber 27 = .ok (.idiv, 1) := dk_108 (dk_at dksX9_spellsNumber_1 4 rfl rfl)
theorem dX9_spellsNumber_28 : decode cX9_spellsNumber 28 = .ok (.bipush 10, 2) := dk_16 10 (dk_at dksX9_spellsNumber_1 5 rfl rfl)
theorem dX9_spellsNumber_30 : decode cX9_spellsNumber 30 = .ok (.irem, 1) := dk_112 (dk_at dksX9_spellsNumber_1 7 rfl rfl)
theorem dX9_spellsNumber_31 : decode cX9_spellsNumber 31 = .ok (.iadd, 1) := dk_96 (dk_at dksX9_spellsNumber_1 8 rfl rfl)
theorem dX9_spellsNumber_32 : decode cX9_spellsNumber 32 = .ok (.invokevirtual 468, 3) := dk_182 1 212 (dk_at dksX9_spellsNumber_1 9 rfl rfl)
theorem dX9_spellsNumber_35 : decode cX9_spellsNumber 35 = .ok (.iload_n 2, 1) := dk_28 (dk_at dksX9_spellsNumber_1 12 rfl rfl)
theorem dX9_spellsNumber_36 : decode cX9_spellsNumber 36 = .ok (.bipush 10, 2) := dk_16 10 (dk_at dksX9_spellsNumber_1 13 rfl rfl)
theorem dX9_spellsNumber_38 : decode cX9_spellsNumber 38 = .ok (.idiv, 1) := dk_108 (dk_at dksX9_spellsNumber_1 15 rfl rfl)
theorem dX9_spellsNumber_39 : decode cX9_spellsNumber 39 = .ok (.istore_n 2, 1) := dk_61 (dk_at dksX9_spellsNumber_1 16 rfl rfl)
theorem dX9_spellsNumber_40 : decode cX9_spellsNumber 40 = .ok (.goto (-22), 3) := dk_167 255 234 (dk_at dksX9_spellsNumber_1 17 rfl rfl)
theorem dX9_spellsNumber_43 : decode cX9_spellsNumber 43 = .ok (.return_, 1) := dk_177 (dk_at dksX9_spellsNumber_1 20 rfl rfl)
def dkwX9_step_2 : List UInt8 := [167, 0, 5, 18, 240, 172]
abbrev dktX9_step_2 : List UInt8 := dkwX9_step_2 ++ []
def dkwX9_step_1 : List UInt8 := [29, 3, 5, 184, 0, 103, 153, 0, 21, 42, 180, 0, 26, 6, 16, 12, 27, 104, 28, 96, 104, 29, 96, 46]
abbrev dktX9_step_1 : List UInt8 := dkwX9_step_1 ++ dktX9_step_2
def dkwX9_step_0 : List UInt8 := [42, 27, 182, 1, 221, 153, 0, 46, 28, 3, 42, 180, 0, 29, 27, 46, 4, 100, 184, 0, 103, 153, 0, 30]
abbrev dktX9_step_0 : List UInt8 := dkwX9_step_0 ++ dktX9_step_1
theorem dksX9_step_0 : cX9_step.data.toList.drop 0 = dktX9_step_0 := by decide +kernel
theorem dksX9_step_1 : cX9_step.data.toList.drop 24 = dktX9_step_1 := dk_seg dksX9_step_0 24 rfl rfl
theorem dksX9_step_2 : cX9_step.data.toList.drop 48 = dktX9_step_2 := dk_seg dksX9_step_1 24 rfl rfl
theorem dX9_step_0 : decode cX9_step 0 = .ok (.aload_n 0, 1) := dk_42 (dk_at dksX9_step_0 0 rfl rfl)
theorem dX9_step_1 : decode cX9_step 1 = .ok (.iload_n 1, 1) := dk_27 (dk_at dksX9_step_0 1 rfl rfl)
theorem dX9_step_2 : decode cX9_step 2 = .ok (.invokevirtual 477, 3) := dk_182 1 221 (dk_at dksX9_step_0 2 rfl rfl)
theorem dX9_step_5 : decode cX9_step 5 = .ok (.ifCond .eq 46, 3) := dk_153 0 46 (dk_at dksX9_step_0 5 rfl rfl)
theorem dX9_step_8 : decode cX9_step 8 = .ok (.iload_n 2, 1) := dk_28 (dk_at dksX9_step_0 8 rfl rfl)
theorem dX9_step_9 : decode cX9_step 9 = .ok (.iconst 0, 1) := dk_3 (dk_at dksX9_step_0 9 rfl rfl)
theorem dX9_step_10 : decode cX9_step 10 = .ok (.aload_n 0, 1) := dk_42 (dk_at dksX9_step_0 10 rfl rfl)
theorem dX9_step_11 : decode cX9_step 11 = .ok (.getfield 29, 3) := dk_180 0 29 (dk_at dksX9_step_0 11 rfl rfl)
theorem dX9_step_14 : decode cX9_step 14 = .ok (.iload_n 1, 1) := dk_27 (dk_at dksX9_step_0 14 rfl rfl)
theorem dX9_step_15 : decode cX9_step 15 = .ok (.iaload, 1) := dk_46 (dk_at dksX9_step_0 15 rfl rfl)
theorem dX9_step_16 : decode cX9_step 16 = .ok (.iconst 1, 1) := dk_4 (dk_at dksX9_step_0 16 rfl rfl)
theorem dX9_step_17 : decode cX9_step 17 = .ok (.isub, 1) := dk_100 (dk_at dksX9_step_0 17 rfl rfl)
theorem dX9_step_18 : decode cX9_step 18 = .ok (.invokestatic 103, 3) := dk_184 0 103 (dk_at dksX9_step_0 18 rfl rfl)
theorem dX9_step_21 : decode cX9_step 21 = .ok (.ifCond .eq 30, 3) := dk_153 0 30 (dk_at dksX9_step_0 21 rfl rfl)
theorem dX9_step_24 : decode cX9_step 24 = .ok (.iload_n 3, 1) := dk_29 (dk_at dksX9_step_1 0 rfl rfl)
theorem dX9_step_25 : decode cX9_step 25 = .ok (.iconst 0, 1) := dk_3 (dk_at dksX9_step_1 1 rfl rfl)
theorem dX9_step_26 : decode cX9_step 26 = .ok (.iconst 2, 1) := dk_5 (dk_at dksX9_step_1 2 rfl rfl)
theorem dX9_step_27 : decode cX9_step 27 = .ok (.invokestatic 103, 3) := dk_184 0 103 (dk_at dksX9_step_1 3 rfl rfl)
theorem dX9_step_30 : decode cX9_step 30 = .ok (.ifCond .eq 21, 3) := dk_153 0 21 (dk_at dksX9_step_1 6 rfl rfl)
theorem dX9_step_33 : decode cX9_step 33 = .ok (.aload_n 0, 1) := dk_42 (dk_at dksX9_step_1 9 rfl rfl)
theorem dX9_step_34 : decode cX9_step 34 = .ok (.getfield 26, 3) := dk_180 0 26 (dk_at dksX9_step_1 10 rfl rfl)
theorem dX9_step_37 : decode cX9_step 37 = .ok (.iconst 3, 1) := dk_6 (dk_at dksX9_step_1 13 rfl rfl)
theorem dX9_step_38 : decode cX9_step 38 = .ok (.bipush 12, 2) := dk_16 12 (dk_at dksX9_step_1 14 rfl rfl)
theorem dX9_step_40 : decode cX9_step 40 = .ok (.iload_n 1, 1) := dk_27 (dk_at dksX9_step_1 16 rfl rfl)
theorem dX9_step_41 : decode cX9_step 41 = .ok (.imul, 1) := dk_104 (dk_at dksX9_step_1 17 rfl rfl)
theorem dX9_step_42 : decode cX9_step 42 = .ok (.iload_n 2, 1) := dk_28 (dk_at dksX9_step_1 18 rfl rfl)
theorem dX9_step_43 : decode cX9_step 43 = .ok (.iadd, 1) := dk_96 (dk_at dksX9_step_1 19 rfl rfl)
theorem dX9_step_44 : decode cX9_step 44 = .ok (.imul, 1) := dk_104 (dk_at dksX9_step_1 20 rfl rfl)
theorem dX9_step_45 : decode cX9_step 45 = .ok (.iload_n 3, 1) := dk_29 (dk_at dksX9_step_1 21 rfl rfl)
theorem dX9_step_46 : decode cX9_step 46 = .ok (.iadd, 1) := dk_96 (dk_at dksX9_step_1 22 rfl rfl)
theorem dX9_step_47 : decode cX9_step 47 = .ok (.iaload, 1) := dk_46 (dk_at dksX9_step_1 23 rfl rfl)
theorem dX9_step_48 : decode cX9_step 48 = .ok (.goto 5, 3) := dk_167 0 5 (dk_at dksX9_step_2 0 rfl rfl)
theorem dX9_step_51 : decode cX9_step 51 = .ok (.ldc 240, 2) := dk_18 240 (dk_at dksX9_step_2 3 rfl rfl)
theorem dX9_step_53 : decode cX9_step 53 = .ok (.ireturn, 1) := dk_172 (dk_at dksX9_step_2 5 rfl rfl)
def dkwX9_isScript_0 : List UInt8 := [27, 3, 42, 180, 1, 19, 4, 100, 184, 0, 103, 172]
abbrev dktX9_isScript_0 : List UInt8 := dkwX9_isScript_0 ++ []
theorem dksX9_isScript_0 : cX9_isScript.data.toList.drop 0 = dktX9_isScript_0 := by decide +kernel
theorem dX9_isScript_0 : decode cX9_isScript 0 = .ok (.iload_n 1, 1) := dk_27 (dk_at dksX9_isScript_0 0 rfl rfl)
theorem dX9_isScript_1 : decode cX9_isScript 1 = .ok (.iconst 0, 1) := dk_3 (dk_at dksX9_isScript_0 1 rfl rfl)
theorem dX9_isScript_2 : decode cX9_isScript 2 = .ok (.aload_n 0, 1) := dk_42 (dk_at dksX9_isScript_0 2 rfl rfl)
theorem dX9_isScript_3 : decode cX9_isScript 3 = .ok (.getfield 275, 3) := dk_180 1 19 (dk_at dksX9_isScript_0 3 rfl rfl)
theorem dX9_isScript_6 : decode cX9_isScript 6 = .ok (.iconst 1, 1) := dk_4 (dk_at dksX9_isScript_0 6 rfl rfl)
theorem dX9_isScript_7 : decode cX9_isScript 7 = .ok (.isub, 1) := dk_100 (dk_at dksX9_isScript_0 7 rfl rfl)
theorem dX9_isScript_8 : decode cX9_isScript 8 = .ok (.invokestatic 103, 3) := dk_184 0 103 (dk_at dksX9_isScript_0 8 rfl rfl)
theorem dX9_isScript_11 : decode cX9_isScript 11 = .ok (.ireturn, 1) := dk_172 (dk_at dksX9_isScript_0 11 rfl rfl)
def dkwX9_run_3 : List UInt8 := [29, 172]
abbrev dktX9_run_3 : List UInt8 := dkwX9_run_3 ++ []
def dkwX9_run_2 : List UInt8 := [28, 4, 160, 0, 8, 21, 4, 167, 0, 18, 29, 42, 180, 0, 29, 27, 46, 160, 0, 7, 2, 167, 0, 4]
abbrev dktX9_run_2 : List UInt8 := dkwX9_run_2 ++ dktX9_run_3
def dkwX9_run_1 : List UInt8 := [18, 240, 172, 42, 182, 1, 194, 42, 27, 3, 182, 1, 224, 62, 42, 182, 1, 117, 54, 4, 42, 182, 1, 197]
abbrev dktX9_run_1 : List UInt8 := dkwX9_run_1 ++ dktX9_run_2
def dkwX9_run_0 : List UInt8 := [42, 27, 182, 1, 221, 153, 0, 19, 42, 180, 0, 254, 153, 0, 12, 28, 3, 4, 184, 0, 103, 154, 0, 6]
abbrev dktX9_run_0 : List UInt8 := dkwX9_run_0 ++ dktX9_run_1
theorem dksX9_run_0 : cX9_run.data.toList.drop 0 = dktX9_run_0 := by decide +kernel
theorem dksX9_run_1 : cX9_run.data.toList.drop 24 = dktX9_run_1 := dk_seg dksX9_run_0 24 rfl rfl
theorem dksX9_run_2 : cX9_run.data.toList.drop 48 = dktX9_run_2 := dk_seg dksX9_run_1 24 rfl rfl
theorem dksX9_run_3 : cX9_run.data.toList.drop 72 = dktX9_run_3 := dk_seg dksX9_run_2 24 rfl rfl
theorem dX9_run_0 : decode cX9_run 0 = .ok (.aload_n 0, 1) := dk_42 (dk_at dksX9_run_0 0 rfl rfl)
theorem dX9_run_1 : decode cX9_run 1 = .ok (.iload_n 1, 1) := dk_27 (dk_at dksX9_run_0 1 rfl rfl)
theorem dX9_run_2 : decode cX9_run 2 = .ok (.invokevirtual 477, 3) := dk_182 1 221 (dk_at dksX9_run_0 2 rfl rfl)
theorem dX9_run_5 : decode cX9_run 5 = .ok (.ifCond .eq 19, 3) := dk_153 0 19 (dk_at dksX9_run_0 5 rfl rfl)
theorem dX9_run_8 : decode cX9_run 8 = .ok (.aload_n 0, 1) := dk_42 (dk_at dksX9_run_0 8 rfl rfl)
theorem dX9_run_9 : decode cX9_run 9 = .ok (.getfield 254, 3) := dk_180 0 254 (dk_at dksX9_run_0 9 rfl rfl)
theorem dX9_run_12 : decode cX9_run 12 = .ok (.ifCond .eq 12, 3) := dk_153 0 12 (dk_at dksX9_run_0 12 rfl rfl)
theorem dX9_run_15 : decode cX9_run 15 = .ok (.iload_n 2, 1) := dk_28 (dk_at dksX9_run_0 15 rfl rfl)
theorem dX9_run_16 : decode cX9_run 16 = .ok (.iconst 0, 1) := dk_3 (dk_at dksX9_run_0 16 rfl rfl)
theorem dX9_run_17 : decode cX9_run 17 = .ok (.iconst 1, 1) := dk_4 (dk_at dksX9_run_0 17 rfl rfl)
theorem dX9_run_18 : decode cX9_run 18 = .ok (.invokestatic 103, 3) := dk_184 0 103 (dk_at dksX9_run_0 18 rfl rfl)
theorem dX9_run_21 : decode cX9_run 21 = .ok (.ifCond .ne 6, 3) := dk_154 0 6 (dk_at dksX9_run_0 21 rfl rfl)
theorem dX9_run_24 : decode cX9_run 24 = .ok (.ldc 240, 2) := dk_18 240 (dk_at dksX9_run_1 0 rfl rfl)
theorem dX9_run_26 : decode cX9_run 26 = .ok (.ireturn, 1) := dk_172 (dk_at dksX9_run_1 2 rfl rfl)
theorem dX9_run_27 : decode cX9_run 27 = .ok (.aload_n 0, 1) := dk_42 (dk_at dksX9_run_1 3 rfl rfl)
theorem dX9_run_28 : decode cX9_run 28 = .ok (.invokevirtual 450, 3) := dk_182 1 194 (dk_at dksX9_run_1 4 rfl rfl)
theorem dX9_run_31 : decode cX9_run 31 = .ok (.aload_n 0, 1) := dk_42 (dk_at dksX9_run_1 7 rfl rfl)
theorem dX9_run_32 : decode cX9_run 32 = .ok (.iload_n 1, 1) := dk_27 (dk_at dksX9_run_1 8 rfl rfl)
theorem dX9_run_33 : decode cX9_run 33 = .ok (.iconst 0, 1) := dk_3 (dk_at dksX9_run_1 9 rfl rfl)
theorem dX9_run_34 : decode cX9_run 34 = .ok (.invokevirtual 480, 3) := dk_182 1 224 (dk_at dksX9_run_1 10 rfl rfl)
theorem dX9_run_37 : decode cX9_run 37 = .ok (.istore_n 3, 1) := dk_62 (dk_at dksX9_run_1 13 rfl rfl)
theorem dX9_run_38 : decode cX9_run 38 = .ok (.aload_n 0, 1) := dk_42 (dk_at dksX9_run_1 14 rfl rfl)
theorem dX9_run_39 : decode cX9_run 39 = .ok (.invokevirtual 373, 3) := dk_182 1 117 (dk_at dksX9_run_1 15 rfl rfl)
theorem dX9_run_42 : decode cX9_run 42 = .ok (.istore 4, 2) := dk_54 4 (dk_at dksX9_run_1 18 rfl rfl)
theorem dX9_run_44 : decode cX9_run 44 = .ok (.aload_n 0, 1) := dk_42 (dk_at dksX9_run_1 20 rfl rfl)
theorem dX9_run_45 : decode cX9_run 45 = .ok (.invokevirtual 453, 3) := dk_182 1 197 (dk_at dksX9_run_1 21 rfl rfl)
theorem dX9_run_48 : decode cX9_run 48 = .ok (.iload_n 2, 1) := dk_28 (dk_at dksX9_run_2 0 rfl rfl)
theorem dX9_run_49 : decode cX9_run 49 = .ok (.iconst 1, 1) := dk_4 (dk_at dksX9_run_2 1 rfl rfl)
theorem dX9_run_50 : decode cX9_run 50 = .ok (.if_icmp .ne 8, 3) := dk_160 0 8 (dk_at dksX9_run_2 2 rfl rfl)
theorem dX9_run_53 : decode cX9_run 53 = .ok (.iload 4, 2) := dk_21 4 (dk_at dksX9_run_2 5 rfl rfl)
theorem dX9_run_55 : decode cX9_run 55 = .ok (.goto 18, 3) := dk_167 0 18 (dk_at dksX9_run_2 7 rfl rfl)
theorem dX9_run_58 : decode cX9_run 58 = .ok (.iload_n 3, 1) := dk_29 (dk_at dksX9_run_2 10 rfl rfl)
theorem dX9_run_59 : decode cX9_run 59 = .ok (.aload_n 0, 1) := dk_42 (dk_at dksX9_run_2 11 rfl rfl)
theorem dX9_run_60 : decode cX9_run 60 = .ok (.getfield 29, 3) := dk_180 0 29 (dk_at dksX9_run_2 12 rfl rfl)
theorem dX9_run_63 : decode cX9_run 63 = .ok (.iload_n 1, 1) := dk_27 (dk_at dksX9_run_2 15 rfl rfl)
theorem dX9_run_64 : decode cX9_run 64 = .ok (.iaload, 1) := dk_46 (dk_at dksX9_run_2 16 rfl rfl)
theorem dX9_run_65 : decode cX9_run 65 = .ok (.if_icmp .ne 7, 3) := dk_160 0 7 (dk_at dksX9_run_2 17 rfl rfl)
theorem dX9_run_68 : decode cX9_run 68 = .ok (.iconst (-1), 1) := dk_2 (dk_at dksX9_run_2 20 rfl rfl)
theorem dX9_run_69 : decode cX9_run 69 = .ok (.goto 4, 3) := dk_167 0 4 (dk_at dksX9_run_2 21 rfl rfl)
theorem dX9_run_72 : decode cX9_run 72 = .ok (.iload_n 3, 1) := dk_29 (dk_at dksX9_run_3 0 rfl rfl)
theorem dX9_run_73 : decode cX9_run 73 = .ok (.ireturn, 1) := dk_172 (dk_at dksX9_run_3 1 rfl rfl)
def dkwX9_goSteps_5 : List UInt8 := [96, 46, 182, 1, 144, 87, 132, 3, 1, 167, 255, 131, 42, 180, 0, 29, 27, 46, 172]
abbrev dktX9_goSteps_5 : List UInt8 := dkwX9_goSteps_5 ++ []
def dkwX9_goSteps_4 : List UInt8 := [42, 42, 180, 0, 26, 21, 4, 46, 42, 180, 0, 26, 21, 4, 4, 96, 46, 42, 180, 0, 26, 21, 4, 5]
abbrev dktX9_goSteps_4 : List UInt8 := dkwX9_goSteps_4 ++ dktX9_goSteps_5
def dkwX9_goSteps_3 : List UInt8 := [180, 0, 26, 21, 4, 4, 96, 46, 42, 180, 0, 26, 21, 4, 5, 96, 46, 182, 1, 154, 87, 167, 0, 33]
abbrev dktX9_goSteps_3 : List UInt8 := dkwX9_goSteps_3 ++ dktX9_goSteps_4
def dkwX9_goSteps_2 : List UInt8 := [182, 1, 151, 2, 159, 0, 5, 29, 172, 28, 153, 0, 36, 42, 42, 180, 0, 26, 21, 4, 46, 42]
abbrev dktX9_goSteps_2 : List UInt8 := dkwX9_goSteps_2 ++ dktX9_goSteps_3
def dkwX9_goSteps_1 : List UInt8 := [180, 0, 26, 21, 4, 46, 42, 180, 0, 26, 21, 4, 4, 96, 46, 42, 180, 0, 26, 21, 4, 5, 96, 46]
abbrev dktX9_goSteps_1 : List UInt8 := dkwX9_goSteps_1 ++ dktX9_goSteps_2
def dkwX9_goSteps_0 : List UInt8 := [3, 62, 29, 42, 180, 0, 29, 27, 46, 162, 0, 121, 6, 16, 12, 27, 104, 29, 96, 104, 54, 4, 42, 42]
abbrev dktX9_goSteps_0 : List UInt8 := dkwX9_goSteps_0 ++ dktX9_goSteps_1
theorem dksX9_goSteps_0 : cX9_goSteps.data.toList.drop 0 = dktX9_goSteps_0 := by decide +kernel
theorem dksX9_goSteps_1 : cX9_goSteps.data.toList.drop 24 = dktX9_goSteps_1 := dk_seg dksX9_goSteps_0 24 rfl rfl
theorem dksX9_goSteps_2 : cX9_goSteps.data.toList.drop 48 = dktX9_goSteps_2 := dk_seg dksX9_goSteps_1 24 rfl rfl
theorem dksX9_goSteps_3 : cX9_goSteps.data.toList.drop 70 = dktX9_goSteps_3 := dk_seg dksX9_goSteps_2 22 rfl rfl
theorem dksX9_goSteps_4 : cX9_goSteps.data.toList.drop 94 = dktX9_goSteps_4 := dk_seg dksX9_goSteps_3 24 rfl rfl
theorem dksX9_goSteps_5 : cX9_goSteps.data.toList.drop 118 = dktX9_goSteps_5 := dk_seg dksX9_goSteps_4 24 rfl rfl
theorem dX9_goSteps_0 : decode cX9_goSteps 0 = .ok (.iconst 0, 1) := dk_3 (dk_at dksX9_goSteps_0 0 rfl rfl)
theorem dX9_goSteps_1 : decode cX9_goSteps 1 = .ok (.istore_n 3, 1) := dk_62 (dk_at dksX9_goSteps_0 1 rfl rfl)
theorem dX9_goSteps_2 : decode cX9_goSteps 2 = .ok (.iload_n 3, 1) := dk_29 (dk_at dksX9_goSteps_0 2 rfl rfl)
theorem dX9_goSteps_3 : decode cX9_goSteps 3 = .ok (.aload_n 0, 1) := dk_42 (dk_at dksX9_goSteps_0 3 rfl rfl)
theorem dX9_goSteps_4 : decode cX9_goSteps 4 = .ok (.getfield 29, 3) := dk_180 0 29 (dk_at dksX9_goSteps_0 4 rfl rfl)
theorem dX9_goSteps_7 : decode cX9_goSteps 7 = .ok (.iload_n 1, 1) := dk_27 (dk_at dksX9_goSteps_0 7 rfl rfl)
theorem dX9_goSteps_8 : decode cX9_goSteps 8 = .ok (.iaload, 1) := dk_46 (dk_at dksX9_goSteps_0 8 rfl rfl)
theorem dX9_goSteps_9 : decode cX9_goSteps 9 = .ok (.if_icmp .ge 121, 3) := dk_162 0 121 (dk_at dksX9_goSteps_0 9 rfl rfl)
theorem dX9_goSteps_12 : decode cX9_goSteps 12 = .ok (.iconst 3, 1) := dk_6 (dk_at dksX9_goSteps_0 12 rfl rfl)
theorem dX9_goSteps_13 : decode cX9_goSteps 13 = .ok (.bipush 12, 2) := dk_16 12 (dk_at dksX9_goSteps_0 13 rfl rfl)
theorem dX9_goSteps_15 : decode cX9_goSteps 15 = .ok (.iload_n 1, 1) := dk_27 (dk_at dksX9_goSteps_0 15 rfl rfl)
theorem dX9_goSteps_16 : decode cX9_goSteps 16 = .ok (.imul, 1) := dk_104 (dk_at dksX9_goSteps_0 16 rfl rfl)
theorem dX9_goSteps_17 : decode cX9_goSteps 17 = .ok (.iload_n 3, 1) := dk_29 (dk_at dksX9_goSteps_0 17 rfl rfl)
theorem dX9_goSteps_18 : decode cX9_goSteps 18 = .ok (.iadd, 1) := dk_96 (dk_at dksX9_goSteps_0 18 rfl rfl)
theorem dX9_goSteps_19 : decode cX9_goSteps 19 = .ok (.imul, 1) := dk_104 (dk_at dksX9_goSteps_0 19 rfl rfl)
theorem dX9_goSteps_20 : decode cX9_goSteps 20 = .ok (.istore 4, 2) := dk_54 4 (dk_at dksX9_goSteps_0 20 rfl rfl)
theorem dX9_goSteps_22 : decode cX9_goSteps 22 = .ok (.aload_n 0, 1) := dk_42 (dk_at dksX9_goSteps_0 22 rfl rfl)
theorem dX9_goSteps_23 : decode cX9_goSteps 23 = .ok (.aload_n 0, 1) := dk_42 (dk_at dksX9_goSteps_0 23 rfl rfl)
theorem dX9_goSteps_24 : decode cX9_goSteps 24 = .ok (.getfield 26, 3) := dk_180 0 26 (dk_at dksX9_goSteps_1 0 rfl rfl)
theorem dX9_goSteps_27 : decode cX9_goSteps 27 = .ok (.iload 4, 2) := dk_21 4 (dk_at dksX9_goSteps_1 3 rfl rfl)
theorem dX9_goSteps_29 : decode cX9_goSteps 29 = .ok (.iaload, 1) := dk_46 (dk_at dksX9_goSteps_1 5 rfl rfl)
theorem dX9_goSteps_30 : decode cX9_goSteps 30 = .ok (.aload_n 0, 1) := dk_42 (dk_at dksX9_goSteps_1 6 rfl rfl)
theorem dX9_goSteps_31 : decode cX9_goSteps 31 = .ok (.getfield 26, 3) := dk_180 0 26 (dk_at dksX9_goSteps_1 7 rfl rfl)
theorem dX9_goSteps_34 : decode cX9_goSteps 34 = .ok (.iload 4, 2) := dk_21 4 (dk_at dksX9_goSteps_1 10 rfl rfl)
theorem dX9_goSteps_36 : decode cX9_goSteps 36 = .ok (.iconst 1, 1) := dk_4 (dk_at dksX9_goSteps_1 12 rfl rfl)
theorem dX9_goSteps_37 : decode cX9_goSteps 37 = .ok (.iadd, 1) := dk_96 (dk_at dksX9_goSteps_1 13 rfl rfl)
theorem dX9_goSteps_38 : decode cX9_goSteps 38 = .ok (.iaload, 1) := dk_46 (dk_at dksX9_goSteps_1 14 rfl rfl)
theorem dX9_goSteps_39 : decode cX9_goSteps 39 = .ok (.aload_n 0, 1) := dk_42 (dk_at dksX9_goSteps_1 15 rfl rfl)
theorem dX9_goSteps_40 : decode cX9_goSteps 40 = .ok (.getfield 26, 3) := dk_180 0 26 (dk_at dksX9_goSteps_1 16 rfl rfl)
theorem dX9_goSteps_43 : decode cX9_goSteps 43 = .ok (.iload 4, 2) := dk_21 4 (dk_at dksX9_goSteps_1 19 rfl rfl)
theorem dX9_goSteps_45 : decode cX9_goSteps 45 = .ok (.iconst 2, 1) := dk_5 (dk_at dksX9_goSteps_1 21 rfl rfl)
theorem dX9_goSteps_46 : decode cX9_goSteps 46 = .ok (.iadd, 1) := dk_96 (dk_at dksX9_goSteps_1 22 rfl rfl)
theorem dX9_goSteps_47 : decode cX9_goSteps 47 = .ok (.iaload, 1) := dk_46 (dk_at dksX9_goSteps_1 23 rfl rfl)
theorem dX9_goSteps_48 : decode cX9_goSteps 48 = .ok (.invokevirtual 407, 3) := dk_182 1 151 (dk_at dksX9_goSteps_2 0 rfl rfl)
theorem dX9_goSteps_51 : decode cX9_goSteps 51 = .ok (.iconst (-1), 1) := dk_2 (dk_at dksX9_goSteps_2 3 rfl rfl)
theorem dX9_goSteps_52 : decode cX9_goSteps 52 = .ok (.if_icmp .eq 5, 3) := dk_159 0 5 (dk_at dksX9_goSteps_2 4 rfl rfl)
theorem dX9_goSteps_55 : decode cX9_goSteps 55 = .ok (.iload_n 3, 1) := dk_29 (dk_at dksX9_goSteps_2 7 rfl rfl)
theorem dX9_goSteps_56 : decode cX9_goSteps 56 = .ok (.ireturn, 1) := dk_172 (dk_at dksX9_goSteps_2 8 rfl rfl)
theorem dX9_goSteps_57 : decode cX9_goSteps 57 = .ok (.iload_n 2, 1) := dk_28 (dk_at dksX9_goSteps_2 9 rfl rfl)
theorem dX9_goSteps_58 : decode cX9_goSteps 58 = .ok (.ifCond .eq 36, 3) := dk_153 0 36 (dk_at dksX9_goSteps_2 10 rfl rfl)
theorem dX9_goSteps_61 : decode cX9_goSteps 61 = .ok (.aload_n 0, 1) := dk_42 (dk_at dksX9_goSteps_2 13 rfl rfl)
theorem dX9_goSteps_62 : decode cX9_goSteps 62 = .ok (.aload_n 0, 1) := dk_42 (dk_at dksX9_goSteps_2 14 rfl rfl)
theorem dX9_goSteps_63 : decode cX9_goSteps 63 = .ok (.getfield 26, 3) := dk_180 0 26 (dk_at dksX9_goSteps_2 15 rfl rfl)
theorem dX9_goSteps_66 : decode cX9_goSteps 66 = .ok (.iload 4, 2) := dk_21 4 (dk_at dksX9_goSteps_2 18 rfl rfl)
theorem dX9_goSteps_68 : decode cX9_goSteps 68 = .ok (.iaload, 1) := dk_46 (dk_at dksX9_goSteps_2 20 rfl rfl)
theorem dX9_goSteps_69 : decode cX9_goSteps 69 = .ok (.aload_n 0, 1) := dk_42 (dk_at dksX9_goSteps_2 21 rfl rfl)
theorem dX9_goSteps_70 : decode cX9_goSteps 70 = .ok (.getfield 26, 3) := dk_180 0 26 (dk_at dksX9_goSteps_3 0 rfl rfl)
theorem dX9_goSteps_73 : decode cX9_goSteps 73 = .ok (.iload 4, 2) := dk_21 4 (dk_at dksX9_goSteps_3 3 rfl rfl)
theorem dX9_goSteps_75 : decode cX9_goSteps 75 = .ok (.iconst 1, 1) := dk_4 (dk_at dksX9_goSteps_3 5 rfl rfl)
theorem dX9_goSteps_76 : decode cX9_goSteps 76 = .ok (.iadd, 1) := dk_96 (dk_at dksX9_goSteps_3 6 rfl rfl)
theorem dX9_goSteps_77 : decode cX9_goSteps 77 = .ok (.iaload, 1) := dk_46 (dk_at dksX9_goSteps_3 7 rfl rfl)
theorem dX9_goSteps_78 : decode cX9_goSteps 78 = .ok (.aload_n 0, 1) := dk_42 (dk_at dksX9_goSteps_3 8 rfl rfl)
theorem dX9_goSteps_79 : decode cX9_goSteps 79 = .ok (.getfield 26, 3) := dk_180 0 26 (dk_at dksX9_goSteps_3 9 rfl rfl)
theorem dX9_goSteps_82 : decode cX9_goSteps 82 = .ok (.iload 4, 2) := dk_21 4 (dk_at dksX9_goSteps_3 12 rfl rfl)
theorem dX9_goSteps_84 : decode cX9_goSteps 84 = .ok (.iconst 2, 1) := dk_5 (dk_at dksX9_goSteps_3 14 rfl rfl)
theorem dX9_goSteps_85 : decode cX9_goSteps 85 = .ok (.iadd, 1) := dk_96 (dk_at dksX9_goSteps_3 15 rfl rfl)
theorem dX9_goSteps_86 : decode cX9_goSteps 86 = .ok (.iaload, 1) := dk_46 (dk_at dksX9_goSteps_3 16 rfl rfl)
theorem dX9_goSteps_87 : decode cX9_goSteps 87 = .ok (.invokevirtual 410, 3) := dk_182 1 154 (dk_at dksX9_goSteps_3 17 rfl rfl)
theorem dX9_goSteps_90 : decode cX9_goSteps 90 = .ok (.pop, 1) := dk_87 (dk_at dksX9_goSteps_3 20 rfl rfl)
theorem dX9_goSteps_91 : decode cX9_goSteps 91 = .ok (.goto 33, 3) := dk_167 0 33 (dk_at dksX9_goSteps_3 21 rfl rfl)
theorem dX9_goSteps_94 : decode cX9_goSteps 94 = .ok (.aload_n 0, 1) := dk_42 (dk_at dksX9_goSteps_4 0 rfl rfl)
theorem dX9_goSteps_95 : decode cX9_goSteps 95 = .ok (.aload_n 0, 1) := dk_42 (dk_at dksX9_goSteps_4 1 rfl rfl)
theorem dX9_goSteps_96 : decode cX9_goSteps 96 = .ok (.getfield 26, 3) := dk_180 0 26 (dk_at dksX9_goSteps_4 2 rfl rfl)
theorem dX9_goSteps_99 : decode cX9_goSteps 99 = .ok (.iload 4, 2) := dk_21 4 (dk_at dksX9_goSteps_4 5 rfl rfl)
theorem dX9_goSteps_101 : decode cX9_goSteps 101 = .ok (.iaload, 1) := dk_46 (dk_at dksX9_goSteps_4 7 rfl rfl)
theorem dX9_goSteps_102 : decode cX9_goSteps 102 = .ok (.aload_n 0, 1) := dk_42 (dk_at dksX9_goSteps_4 8 rfl rfl)
theorem dX9_goSteps_103 : decode cX9_goSteps 103 = .ok (.getfield 26, 3) := dk_180 0 26 (dk_at dksX9_goSteps_4 9 rfl rfl)
theorem dX9_goSteps_106 : decode cX9_goSteps 106 = .ok (.iload 4, 2) := dk_21 4 (dk_at dksX9_goSteps_4 12 rfl rfl)
theorem dX9_goSteps_108 : decode cX9_goSteps 108 = .ok (.iconst 1, 1) := dk_4 (dk_at dksX9_goSteps_4 14 rfl rfl)
theorem dX9_goSteps_109 : decode cX9_goSteps 109 = .ok (.iadd, 1) := dk_96 (dk_at dksX9_goSteps_4 15 rfl rfl)
theorem dX9_goSteps_110 : decode cX9_goSteps 110 = .ok (.iaload, 1) := dk_46 (dk_at dksX9_goSteps_4 16 rfl rfl)
theorem dX9_goSteps_111 : decode cX9_goSteps 111 = .ok (.aload_n 0, 1) := dk_42 (dk_at dksX9_goSteps_4 17 rfl rfl)
theorem dX9_goSteps_112 : decode cX9_goSteps 112 = .ok (.getfield 26, 3) := dk_180 0 26 (dk_at dksX9_goSteps_4 18 rfl rfl)
theorem dX9_goSteps_115 : decode cX9_goSteps 115 = .ok (.iload 4, 2) := dk_21 4 (dk_at dksX9_goSteps_4 21 rfl rfl)
theorem dX9_goSteps_117 : decode cX9_goSteps 117 = .ok (.iconst 2, 1) := dk_5 (dk_at dksX9_goSteps_4 23 rfl rfl)
theorem dX9_goSteps_118 : decode cX9_goSteps 118 = .ok (.iadd, 1) := dk_96 (dk_at dksX9_goSteps_5 0 rfl rfl)
theorem dX9_goSteps_119 : decode cX9_goSteps 119 = .ok (.iaload, 1) := dk_46 (dk_at dksX9_goSteps_5 1 rfl rfl)
theorem dX9_goSteps_120 : decode cX9_goSteps 120 = .ok (.invokevirtual 400, 3) := dk_182 1 144 (dk_at dksX9_goSteps_5 2 rfl rfl)
theorem dX9_goSteps_123 : decode cX9_goSteps 123 = .ok (.pop, 1) := dk_87 (dk_at dksX9_goSteps_5 5 rfl rfl)
theorem dX9_goSteps_124 : decode cX9_goSteps 124 = .ok (.iinc 3 1, 3) := dk_132 3 1 (dk_at dksX9_goSteps_5 6 rfl rfl)
theorem dX9_goSteps_127 : decode cX9_goSteps 127 = .ok (.goto (-125), 3) := dk_167 255 131 (dk_at dksX9_goSteps_5 9 rfl rfl)
theorem dX9_goSteps_130 : decode cX9_goSteps 130 = .ok (.aload_n 0, 1) := dk_42 (dk_at dksX9_goSteps_5 12 rfl rfl)
theorem dX9_goSteps_131 : decode cX9_goSteps 131 = .ok (.getfield 29, 3) := dk_180 0 29 (dk_at dksX9_goSteps_5 13 rfl rfl)
theorem dX9_goSteps_134 : decode cX9_goSteps 134 = .ok (.iload_n 1, 1) := dk_27 (dk_at dksX9_goSteps_5 16 rfl rfl)
theorem dX9_goSteps_135 : decode cX9_goSteps 135 = .ok (.iaload, 1) := dk_46 (dk_at dksX9_goSteps_5 17 rfl rfl)
theorem dX9_goSteps_136 : decode cX9_goSteps 136 = .ok (.ireturn, 1) := dk_172 (dk_at dksX9_goSteps_5 18 rfl rfl)
def dkwX9_perform_1 : List UInt8 := [2, 172]
abbrev dktX9_perform_1 : List UInt8 := dkwX9_perform_1 ++ []
def dkwX9_perform_0 : List UInt8 := [42, 27, 182, 1, 221, 153, 0, 19, 42, 180, 0, 254, 153, 0, 12, 42, 27, 4, 182, 1, 224, 167, 0, 4]
abbrev dktX9_perform_0 : List UInt8 := dkwX9_perform_0 ++ dktX9_perform_1
theorem dksX9_perform_0 : cX9_perform.data.toList.drop 0 = dktX9_perform_0 := by decide +kernel
theorem dksX9_perform_1 : cX9_perform.data.toList.drop 24 = dktX9_perform_1 := dk_seg dksX9_perform_0 24 rfl rfl
theorem dX9_perform_0 : decode cX9_perform 0 = .ok (.aload_n 0, 1) := dk_42 (dk_at dksX9_perform_0 0 rfl rfl)
theorem dX9_perform_1 : decode cX9_perform 1 = .ok (.iload_n 1, 1) := dk_27 (dk_at dksX9_perform_0 1 rfl rfl)
theorem dX9_perform_2 : decode cX9_perform 2 = .ok (.invokevirtual 477, 3) := dk_182 1 221 (dk_at dksX9_perform_0 2 rfl rfl)
theorem dX9_perform_5 : decode cX9_perform 5 = .ok (.ifCond .eq 19, 3) := dk_153 0 19 (dk_at dksX9_perform_0 5 rfl rfl)
theorem dX9_perform_8 : decode cX9_perform 8 = .ok (.aload_n 0, 1) := dk_42 (dk_at dksX9_perform_0 8 rfl rfl)
theorem dX9_perform_9 : decode cX9_perform 9 = .ok (.getfield 254, 3) := dk_180 0 254 (dk_at dksX9_perform_0 9 rfl rfl)
theorem dX9_perform_12 : decode cX9_perform 12 = .ok (.ifCond .eq 12, 3) := dk_153 0 12 (dk_at dksX9_perform_0 12 rfl rfl)
theorem dX9_perform_15 : decode cX9_perform 15 = .ok (.aload_n 0, 1) := dk_42 (dk_at dksX9_perform_0 15 rfl rfl)
theorem dX9_perform_16 : decode cX9_perform 16 = .ok (.iload_n 1, 1) := dk_27 (dk_at dksX9_perform_0 16 rfl rfl)
theorem dX9_perform_17 : decode cX9_perform 17 = .ok (.iconst 1, 1) := dk_4 (dk_at dksX9_perform_0 17 rfl rfl)
theorem dX9_perform_18 : decode cX9_perform 18 = .ok (.invokevirtual 480, 3) := dk_182 1 224 (dk_at dksX9_perform_0 18 rfl rfl)
theorem dX9_perform_21 : decode cX9_perform 21 = .ok (.goto 4, 3) := dk_167 0 4 (dk_at dksX9_perform_0 21 rfl rfl)
theorem dX9_perform_24 : decode cX9_perform 24 = .ok (.iconst (-1), 1) := dk_2 (dk_at dksX9_perform_1 0 rfl rfl)
theorem dX9_perform_25 : decode cX9_perform 25 = .ok (.ireturn, 1) := dk_172 (dk_at dksX9_perform_1 1 rfl rfl)
def dkwX9_most_4 : List UInt8 := [182, 1, 237, 172]
abbrev dktX9_most_4 : List UInt8 := dkwX9_most_4 ++ []
def dkwX9_most_3 : List UInt8 := [42, 182, 1, 231, 172, 42, 182, 1, 200, 172, 42, 182, 1, 234, 172, 42, 182, 1, 107, 172, 42, 27]
abbrev dktX9_most_3 : List UInt8 := dkwX9_most_3 ++ dktX9_most_4
def dkwX9_most_2 : List UInt8 := [170, 0, 0, 0, 0, 0, 51, 0, 0, 0, 4, 0, 0, 0, 7, 0, 0, 0, 31, 0, 0, 0, 36, 0, 0, 0, 41, 0, 0, 0, 46]
abbrev dktX9_most_2 : List UInt8 := dkwX9_most_2 ++ dktX9_most_3
def dkwX9_most_1 : List UInt8 := [27]
abbrev dktX9_most_1 : List UInt8 := dkwX9_most_1 ++ dktX9_most_2
def dkwX9_most_0 : List UInt8 := [42, 180, 0, 254, 153, 0, 13, 27, 3, 16, 7, 184, 0, 103, 154, 0, 6, 18, 240, 172, 42, 182, 1, 101]
abbrev dktX9_most_0 : List UInt8 := dkwX9_most_0 ++ dktX9_most_1
theorem dksX9_most_0 : cX9_most.data.toList.drop 0 = dktX9_most_0 := by decide +kernel
theorem dksX9_most_1 : cX9_most.data.toList.drop 24 = dktX9_most_1 := dk_seg dksX9_most_0 24 rfl rfl
theorem dksX9_most_2 : cX9_most.data.toList.drop 25 = dktX9_most_2 := dk_seg dksX9_most_1 1 rfl rfl
theorem dksX9_most_3 : cX9_most.data.toList.drop 56 = dktX9_most_3 := dk_seg dksX9_most_2 31 rfl rfl
theorem dksX9_most_4 : cX9_most.data.toList.drop 78 = dktX9_most_4 := dk_seg dksX9_most_3 22 rfl rfl
theorem dX9_most_0 : decode cX9_most 0 = .ok (.aload_n 0, 1) := dk_42 (dk_at dksX9_most_0 0 rfl rfl)
theorem dX9_most_1 : decode cX9_most 1 = .ok (.getfield 254, 3) := dk_180 0 254 (dk_at dksX9_most_0 1 rfl rfl)
theorem dX9_most_4 : decode cX9_most 4 = .ok (.ifCond .eq 13, 3) := dk_153 0 13 (dk_at dksX9_most_0 4 rfl rfl)
theorem dX9_most_7 : decode cX9_most 7 = .ok (.iload_n 1, 1) := dk_27 (dk_at dksX9_most_0 7 rfl rfl)
theorem dX9_most_8 : decode cX9_most 8 = .ok (.iconst 0, 1) := dk_3 (dk_at dksX9_most_0 8 rfl rfl)
theorem dX9_most_9 : decode cX9_most 9 = .ok (.bipush 7, 2) := dk_16 7 (dk_at dksX9_most_0 9 rfl rfl)
theorem dX9_most_11 : decode cX9_most 11 = .ok (.invokestatic 103, 3) := dk_184 0 103 (dk_at dksX9_most_0 11 rfl rfl)
theorem dX9_most_14 : decode cX9_most 14 = .ok (.ifCond .ne 6, 3) := dk_154 0 6 (dk_at dksX9_most_0 14 rfl rfl)
theorem dX9_most_17 : decode cX9_most 17 = .ok (.ldc 240, 2) := dk_18 240 (dk_at dksX9_most_0 17 rfl rfl)
theorem dX9_most_19 : decode cX9_most 19 = .ok (.ireturn, 1) := dk_172 (dk_at dksX9_most_0 19 rfl rfl)
theorem dX9_most_20 : decode cX9_most 20 = .ok (.aload_n 0, 1) := dk_42 (dk_at dksX9_most_0 20 rfl rfl)
theorem dX9_most_21 : decode cX9_most 21 = .ok (.invokevirtual 357, 3) := dk_182 1 101 (dk_at dksX9_most_0 21 rfl rfl)
theorem dX9_most_24 : decode cX9_most 24 = .ok (.iload_n 1, 1) := dk_27 (dk_at dksX9_most_1 0 rfl rfl)
theorem dX9_most_25 : decode cX9_most 25 = .ok (.tableswitch 51 4 7 #[31, 36, 41, 46], 31) := by decide +kernel
theorem dX9_most_56 : decode cX9_most 56 = .ok (.aload_n 0, 1) := dk_42 (dk_at dksX9_most_3 0 rfl rfl)
theorem dX9_most_57 : decode cX9_most 57 = .ok (.invokevirtual 487, 3) := dk_182 1 231 (dk_at dksX9_most_3 1 rfl rfl)
theorem dX9_most_60 : decode cX9_most 60 = .ok (.ireturn, 1) := dk_172 (dk_at dksX9_most_3 4 rfl rfl)
theorem dX9_most_61 : decode cX9_most 61 = .ok (.aload_n 0, 1) := dk_42 (dk_at dksX9_most_3 5 rfl rfl)
theorem dX9_most_62 : decode cX9_most 62 = .ok (.invokevirtual 456, 3) := dk_182 1 200 (dk_at dksX9_most_3 6 rfl rfl)
theorem dX9_most_65 : decode cX9_most 65 = .ok (.ireturn, 1) := dk_172 (dk_at dksX9_most_3 9 rfl rfl)
theorem dX9_most_66 : decode cX9_most 66 = .ok (.aload_n 0, 1) := dk_42 (dk_at dksX9_most_3 10 rfl rfl)
theorem dX9_most_67 : decode cX9_most 67 = .ok (.invokevirtual 490, 3) := dk_182 1 234 (dk_at dksX9_most_3 11 rfl rfl)
theorem dX9_most_70 : decode cX9_most 70 = .ok (.ireturn, 1) := dk_172 (dk_at dksX9_most_3 14 rfl rfl)
theorem dX9_most_71 : decode cX9_most 71 = .ok (.aload_n 0, 1) := dk_42 (dk_at dksX9_most_3 15 rfl rfl)
theorem dX9_most_72 : decode cX9_most 72 = .ok (.invokevirtual 363, 3) := dk_182 1 107 (dk_at dksX9_most_3 16 rfl rfl)
theorem dX9_most_75 : decode cX9_most 75 = .ok (.ireturn, 1) := dk_172 (dk_at dksX9_most_3 19 rfl rfl)
theorem dX9_most_76 : decode cX9_most 76 = .ok (.aload_n 0, 1) := dk_42 (dk_at dksX9_most_3 20 rfl rfl)
theorem dX9_most_77 : decode cX9_most 77 = .ok (.iload_n 1, 1) := dk_27 (dk_at dksX9_most_3 21 rfl rfl)
theorem dX9_most_78 : decode cX9_most 78 = .ok (.invokevirtual 493, 3) := dk_182 1 237 (dk_at dksX9_most_4 0 rfl rfl)
theorem dX9_most_81 : decode cX9_most 81 = .ok (.ireturn, 1) := dk_172 (dk_at dksX9_most_4 3 rfl rfl)
def dkwX9_lastGeneration_1 : List UInt8 := [132, 2, 1, 167, 255, 235, 27, 172]
abbrev dktX9_lastGeneration_1 : List UInt8 := dkwX9_lastGeneration_1 ++ []
def dkwX9_lastGeneration_0 : List UInt8 := [3, 60, 3, 61, 28, 42, 180, 1, 25, 162, 0, 19, 27, 42, 28, 182, 1, 182, 184, 1, 33, 60]
abbrev dktX9_lastGeneration_0 : List UInt8 := dkwX9_lastGeneration_0 ++ dktX9_lastGeneration_1
theorem dksX9_lastGeneration_0 : cX9_lastGeneration.data.toList.drop 0 = dktX9_lastGeneration_0 := by decide +kernel
theorem dksX9_lastGeneration_1 : cX9_lastGeneration.data.toList.drop 22 = dktX9_lastGeneration_1 := dk_seg dksX9_lastGeneration_0 22 rfl rfl
theorem dX9_lastGeneration_0 : decode cX9_lastGeneration 0 = .ok (.iconst 0, 1) := dk_3 (dk_at dksX9_lastGeneration_0 0 rfl rfl)
theorem dX9_lastGeneration_1 : decode cX9_lastGeneration 1 = .ok (.istore_n 1, 1) := dk_60 (dk_at dksX9_lastGeneration_0 1 rfl rfl)
theorem dX9_lastGeneration_2 : decode cX9_lastGeneration 2 = .ok (.iconst 0, 1) := dk_3 (dk_at dksX9_lastGeneration_0 2 rfl rfl)
theorem dX9_lastGeneration_3 : decode cX9_lastGeneration 3 = .ok (.istore_n 2, 1) := dk_61 (dk_at dksX9_lastGeneration_0 3 rfl rfl)
theorem dX9_lastGeneration_4 : decode cX9_lastGeneration 4 = .ok (.iload_n 2, 1) := dk_28 (dk_at dksX9_lastGeneration_0 4 rfl rfl)
theorem dX9_lastGeneration_5 : decode cX9_lastGeneration 5 = .ok (.aload_n 0, 1) := dk_42 (dk_at dksX9_lastGeneration_0 5 rfl rfl)
theorem dX9_lastGeneration_6 : decode cX9_lastGeneration 6 = .ok (.getfield 281, 3) := dk_180 1 25 (dk_at dksX9_lastGeneration_0 6 rfl rfl)
theorem dX9_lastGeneration_9 : decode cX9_lastGeneration 9 = .ok (.if_icmp .ge 19, 3) := dk_162 0 19 (dk_at dksX9_lastGeneration_0 9 rfl rfl)
theorem dX9_lastGeneration_12 : decode cX9_lastGeneration 12 = .ok (.iload_n 1, 1) := dk_27 (dk_at dksX9_lastGeneration_0 12 rfl rfl)
theorem dX9_lastGeneration_13 : decode cX9_lastGeneration 13 = .ok (.aload_n 0, 1) := dk_42 (dk_at dksX9_lastGeneration_0 13 rfl rfl)
theorem dX9_lastGeneration_14 : decode cX9_lastGeneration 14 = .ok (.iload_n 2, 1) := dk_28 (dk_at dksX9_lastGeneration_0 14 rfl rfl)
theorem dX9_lastGeneration_15 : decode cX9_lastGeneration 15 = .ok (.invokevirtual 438, 3) := dk_182 1 182 (dk_at dksX9_lastGeneration_0 15 rfl rfl)
theorem dX9_lastGeneration_18 : decode cX9_lastGeneration 18 = .ok (.invokestatic 289, 3) := dk_184 1 33 (dk_at dksX9_lastGeneration_0 18 rfl rfl)
theorem dX9_lastGeneration_21 : decode cX9_lastGeneration 21 = .ok (.istore_n 1, 1) := dk_60 (dk_at dksX9_lastGeneration_0 21 rfl rfl)
theorem dX9_lastGeneration_22 : decode cX9_lastGeneration 22 = .ok (.iinc 2 1, 3) := dk_132 2 1 (dk_at dksX9_lastGeneration_1 0 rfl rfl)
theorem dX9_lastGeneration_25 : decode cX9_lastGeneration 25 = .ok (.goto (-21), 3) := dk_167 255 235 (dk_at dksX9_lastGeneration_1 3 rfl rfl)
theorem dX9_lastGeneration_28 : decode cX9_lastGeneration 28 = .ok (.iload_n 1, 1) := dk_27 (dk_at dksX9_lastGeneration_1 6 rfl rfl)
theorem dX9_lastGeneration_29 : decode cX9_lastGeneration 29 = .ok (.ireturn, 1) := dk_172 (dk_at dksX9_lastGeneration_1 7 rfl rfl)
def dkwX9_widest_1 : List UInt8 := [164, 0, 7, 28, 167, 0, 4, 27, 60, 132, 2, 1, 167, 255, 226, 27, 172]
abbrev dktX9_widest_1 : List UInt8 := dkwX9_widest_1 ++ []
def dkwX9_widest_0 : List UInt8 := [3, 60, 4, 61, 28, 42, 180, 1, 58, 162, 0, 28, 42, 28, 182, 1, 188, 42, 27, 182, 1, 188]
abbrev dktX9_widest_0 : List UInt8 := dkwX9_widest_0 ++ dktX9_widest_1
theorem dksX9_widest_0 : cX9_widest.data.toList.drop 0 = dktX9_widest_0 := by decide +kernel
theorem dksX9_widest_1 : cX9_widest.data.toList.drop 22 = dktX9_widest_1 := dk_seg dksX9_widest_0 22 rfl rfl
theorem dX9_widest_0 : decode cX9_widest 0 = .ok (.iconst 0, 1) := dk_3 (dk_at dksX9_widest_0 0 rfl rfl)
theorem dX9_widest_1 : decode cX9_widest 1 = .ok (.istore_n 1, 1) := dk_60 (dk_at dksX9_widest_0 1 rfl rfl)
theorem dX9_widest_2 : decode cX9_widest 2 = .ok (.iconst 1, 1) := dk_4 (dk_at dksX9_widest_0 2 rfl rfl)
theorem dX9_widest_3 : decode cX9_widest 3 = .ok (.istore_n 2, 1) := dk_61 (dk_at dksX9_widest_0 3 rfl rfl)
theorem dX9_widest_4 : decode cX9_widest 4 = .ok (.iload_n 2, 1) := dk_28 (dk_at dksX9_widest_0 4 rfl rfl)
theorem dX9_widest_5 : decode cX9_widest 5 = .ok (.aload_n 0, 1) := dk_42 (dk_at dksX9_widest_0 5 rfl rfl)
theorem dX9_widest_6 : decode cX9_widest 6 = .ok (.getfield 314, 3) := dk_180 1 58 (dk_at dksX9_widest_0 6 rfl rfl)
theorem dX9_widest_9 : decode cX9_widest 9 = .ok (.if_icmp .ge 28, 3) := dk_162 0 28 (dk_at dksX9_widest_0 9 rfl rfl)
theorem dX9_widest_12 : decode cX9_widest 12 = .ok (.aload_n 0, 1) := dk_42 (dk_at dksX9_widest_0 12 rfl rfl)
theorem dX9_widest_13 : decode cX9_widest 13 = .ok (.iload_n 2, 1) := dk_28 (dk_at dksX9_widest_0 13 rfl rfl)
theorem dX9_widest_14 : decode cX9_widest 14 = .ok (.invokevirtual 444, 3) := dk_182 1 188 (dk_at dksX9_widest_0 14 rfl rfl)
theorem dX9_widest_17 : decode cX9_widest 17 = .ok (.aload_n 0, 1) := dk_42 (dk_at dksX9_widest_0 17 rfl rfl)
theorem dX9_widest_18 : decode cX9_widest 18 = .ok (.iload_n 1, 1) := dk_27 (dk_at dksX9_widest_0 18 rfl rfl)
theorem dX9_widest_19 : decode cX9_widest 19 = .ok (.invokevirtual 444, 3) := dk_182 1 188 (dk_at dksX9_widest_0 19 rfl rfl)
theorem dX9_widest_22 : decode cX9_widest 22 = .ok (.if_icmp .le 7, 3) := dk_164 0 7 (dk_at dksX9_widest_1 0 rfl rfl)
theorem dX9_widest_25 : decode cX9_widest 25 = .ok (.iload_n 2, 1) := dk_28 (dk_at dksX9_widest_1 3 rfl rfl)
theorem dX9_widest_26 : decode cX9_widest 26 = .ok (.goto 4, 3) := dk_167 0 4 (dk_at dksX9_widest_1 4 rfl rfl)
theorem dX9_widest_29 : decode cX9_widest 29 = .ok (.iload_n 1, 1) := dk_27 (dk_at dksX9_widest_1 7 rfl rfl)
theorem dX9_widest_30 : decode cX9_widest 30 = .ok (.istore_n 1, 1) := dk_60 (dk_at dksX9_widest_1 8 rfl rfl)
theorem dX9_widest_31 : decode cX9_widest 31 = .ok (.iinc 2 1, 3) := dk_132 2 1 (dk_at dksX9_widest_1 9 rfl rfl)
theorem dX9_widest_34 : decode cX9_widest 34 = .ok (.goto (-30), 3) := dk_167 255 226 (dk_at dksX9_widest_1 12 rfl rfl)
theorem dX9_widest_37 : decode cX9_widest 37 = .ok (.iload_n 1, 1) := dk_27 (dk_at dksX9_widest_1 15 rfl rfl)
theorem dX9_widest_38 : decode cX9_widest 38 = .ok (.ireturn, 1) := dk_172 (dk_at dksX9_widest_1 16 rfl rfl)
def dkwX9_added_1 : List UInt8 := [167, 255, 236, 28, 172]
abbrev dktX9_added_1 : List UInt8 := dkwX9_added_1 ++ []
def dkwX9_added_0 : List UInt8 := [3, 61, 3, 62, 29, 42, 180, 1, 25, 162, 0, 18, 28, 42, 29, 27, 182, 1, 228, 96, 61, 132, 3, 1]
abbrev dktX9_added_0 : List UInt8 := dkwX9_added_0 ++ dktX9_added_1
theorem dksX9_added_0 : cX9_added.data.toList.drop 0 = dktX9_added_0 := by decide +kernel
theorem dksX9_added_1 : cX9_added.data.toList.drop 24 = dktX9_added_1 := dk_seg dksX9_added_0 24 rfl rfl
theorem dX9_added_0 : decode cX9_added 0 = .ok (.iconst 0, 1) := dk_3 (dk_at dksX9_added_0 0 rfl rfl)
theorem dX9_added_1 : decode cX9_added 1 = .ok (.istore_n 2, 1) := dk_61 (dk_at dksX9_added_0 1 rfl rfl)
theorem dX9_added_2 : decode cX9_added 2 = .ok (.iconst 0, 1) := dk_3 (dk_at dksX9_added_0 2 rfl rfl)
theorem dX9_added_3 : decode cX9_added 3 = .ok (.istore_n 3, 1) := dk_62 (dk_at dksX9_added_0 3 rfl rfl)
theorem dX9_added_4 : decode cX9_added 4 = .ok (.iload_n 3, 1) := dk_29 (dk_at dksX9_added_0 4 rfl rfl)
theorem dX9_added_5 : decode cX9_added 5 = .ok (.aload_n 0, 1) := dk_42 (dk_at dksX9_added_0 5 rfl rfl)
theorem dX9_added_6 : decode cX9_added 6 = .ok (.getfield 281, 3) := dk_180 1 25 (dk_at dksX9_added_0 6 rfl rfl)
theorem dX9_added_9 : decode cX9_added 9 = .ok (.if_icmp .ge 18, 3) := dk_162 0 18 (dk_at dksX9_added_0 9 rfl rfl)
theorem dX9_added_12 : decode cX9_added 12 = .ok (.iload_n 2, 1) := dk_28 (dk_at dksX9_added_0 12 rfl rfl)
theorem dX9_added_13 : decode cX9_added 13 = .ok (.aload_n 0, 1) := dk_42 (dk_at dksX9_added_0 13 rfl rfl)
theorem dX9_added_14 : decode cX9_added 14 = .ok (.iload_n 3, 1) := dk_29 (dk_at dksX9_added_0 14 rfl rfl)
theorem dX9_added_15 : decode cX9_added 15 = .ok (.iload_n 1, 1) := dk_27 (dk_at dksX9_added_0 15 rfl rfl)
theorem dX9_added_16 : decode cX9_added 16 = .ok (.invokevirtual 484, 3) := dk_182 1 228 (dk_at dksX9_added_0 16 rfl rfl)
theorem dX9_added_19 : decode cX9_added 19 = .ok (.iadd, 1) := dk_96 (dk_at dksX9_added_0 19 rfl rfl)
theorem dX9_added_20 : decode cX9_added 20 = .ok (.istore_n 2, 1) := dk_61 (dk_at dksX9_added_0 20 rfl rfl)
theorem dX9_added_21 : decode cX9_added 21 = .ok (.iinc 3 1, 3) := dk_132 3 1 (dk_at dksX9_added_0 21 rfl rfl)
theorem dX9_added_24 : decode cX9_added 24 = .ok (.goto (-20), 3) := dk_167 255 236 (dk_at dksX9_added_1 0 rfl rfl)
theorem dX9_added_27 : decode cX9_added 27 = .ok (.iload_n 2, 1) := dk_28 (dk_at dksX9_added_1 3 rfl rfl)
theorem dX9_added_28 : decode cX9_added 28 = .ok (.ireturn, 1) := dk_172 (dk_at dksX9_added_1 4 rfl rfl)
def dkwX9_ofPeak_4 : List UInt8 := [153, 0, 11, 42, 27, 182, 1, 185, 167, 0, 4, 3, 172]
abbrev dktX9_ofPeak_4 : List UInt8 := dkwX9_ofPeak_4 ++ []
def dkwX9_ofPeak_3 : List UInt8 := [42, 27, 182, 1, 179, 153, 0, 11, 42, 27, 182, 1, 88, 167, 0, 4, 3, 172, 42, 27, 182, 1, 179]
abbrev dktX9_ofPeak_3 : List UInt8 := dkwX9_ofPeak_3 ++ dktX9_ofPeak_4
def dkwX9_ofPeak_2 : List UInt8 := [42, 27, 182, 1, 179, 153, 0, 11, 42, 27, 182, 1, 64, 167, 0, 4, 3, 172, 42, 27, 182, 1, 88, 172]
abbrev dktX9_ofPeak_2 : List UInt8 := dkwX9_ofPeak_2 ++ dktX9_ofPeak_3
def dkwX9_ofPeak_1 : List UInt8 := [170, 0, 0, 0, 0, 0, 69, 0, 0, 0, 0, 0, 0, 0, 2, 0, 0, 0, 27, 0, 0, 0, 45, 0, 0, 0, 51]
abbrev dktX9_ofPeak_1 : List UInt8 := dkwX9_ofPeak_1 ++ dktX9_ofPeak_2
def dkwX9_ofPeak_0 : List UInt8 := [28]
abbrev dktX9_ofPeak_0 : List UInt8 := dkwX9_ofPeak_0 ++ dktX9_ofPeak_1
theorem dksX9_ofPeak_0 : cX9_ofPeak.data.toList.drop 0 = dktX9_ofPeak_0 := by decide +kernel
theorem dksX9_ofPeak_1 : cX9_ofPeak.data.toList.drop 1 = dktX9_ofPeak_1 := dk_seg dksX9_ofPeak_0 1 rfl rfl
theorem dksX9_ofPeak_2 : cX9_ofPeak.data.toList.drop 28 = dktX9_ofPeak_2 := dk_seg dksX9_ofPeak_1 27 rfl rfl
theorem dksX9_ofPeak_3 : cX9_ofPeak.data.toList.drop 52 = dktX9_ofPeak_3 := dk_seg dksX9_ofPeak_2 24 rfl rfl
theorem dksX9_ofPeak_4 : cX9_ofPeak.data.toList.drop 75 = dktX9_ofPeak_4 := dk_seg dksX9_ofPeak_3 23 rfl rfl
theorem dX9_ofPeak_0 : decode cX9_ofPeak 0 = .ok (.iload_n 2, 1) := dk_28 (dk_at dksX9_ofPeak_0 0 rfl rfl)
theorem dX9_ofPeak_1 : decode cX9_ofPeak 1 = .ok (.tableswitch 69 0 2 #[27, 45, 51], 27) := by decide +kernel
theorem dX9_ofPeak_28 : decode cX9_ofPeak 28 = .ok (.aload_n 0, 1) := dk_42 (dk_at dksX9_ofPeak_2 0 rfl rfl)
theorem dX9_ofPeak_29 : decode cX9_ofPeak 29 = .ok (.iload_n 1, 1) := dk_27 (dk_at dksX9_ofPeak_2 1 rfl rfl)
theorem dX9_ofPeak_30 : decode cX9_ofPeak 30 = .ok (.invokevirtual 435, 3) := dk_182 1 179 (dk_at dksX9_ofPeak_2 2 rfl rfl)
theorem dX9_ofPeak_33 : decode cX9_ofPeak 33 = .ok (.ifCond .eq 11, 3) := dk_153 0 11 (dk_at dksX9_ofPeak_2 5 rfl rfl)
theorem dX9_ofPeak_36 : decode cX9_ofPeak 36 = .ok (.aload_n 0, 1) := dk_42 (dk_at dksX9_ofPeak_2 8 rfl rfl)
theorem dX9_ofPeak_37 : decode cX9_ofPeak 37 = .ok (.iload_n 1, 1) := dk_27 (dk_at dksX9_ofPeak_2 9 rfl rfl)
theorem dX9_ofPeak_38 : decode cX9_ofPeak 38 = .ok (.invokevirtual 320, 3) := dk_182 1 64 (dk_at dksX9_ofPeak_2 10 rfl rfl)
theorem dX9_ofPeak_41 : decode cX9_ofPeak 41 = .ok (.goto 4, 3) := dk_167 0 4 (dk_at dksX9_ofPeak_2 13 rfl rfl)
theorem dX9_ofPeak_44 : decode cX9_ofPeak 44 = .ok (.iconst 0, 1) := dk_3 (dk_at dksX9_ofPeak_2 16 rfl rfl)
theorem dX9_ofPeak_45 : decode cX9_ofPeak 45 = .ok (.ireturn, 1) := dk_172 (dk_at dksX9_ofPeak_2 17 rfl rfl)
theorem dX9_ofPeak_46 : decode cX9_ofPeak 46 = .ok (.aload_n 0, 1) := dk_42 (dk_at dksX9_ofPeak_2 18 rfl rfl)
theorem dX9_ofPeak_47 : decode cX9_ofPeak 47 = .ok (.iload_n 1, 1) := dk_27 (dk_at dksX9_ofPeak_2 19 rfl rfl)
theorem dX9_ofPeak_48 : decode cX9_ofPeak 48 = .ok (.invokevirtual 344, 3) := dk_182 1 88 (dk_at dksX9_ofPeak_2 20 rfl rfl)
theorem dX9_ofPeak_51 : decode cX9_ofPeak 51 = .ok (.ireturn, 1) := dk_172 (dk_at dksX9_ofPeak_2 23 rfl rfl)
theorem dX9_ofPeak_52 : decode cX9_ofPeak 52 = .ok (.aload_n 0, 1) := dk_42 (dk_at dksX9_ofPeak_3 0 rfl rfl)
theorem dX9_ofPeak_53 : decode cX9_ofPeak 53 = .ok (.iload_n 1, 1) := dk_27 (dk_at dksX9_ofPeak_3 1 rfl rfl)
theorem dX9_ofPeak_54 : decode cX9_ofPeak 54 = .ok (.invokevirtual 435, 3) := dk_182 1 179 (dk_at dksX9_ofPeak_3 2 rfl rfl)
theorem dX9_ofPeak_57 : decode cX9_ofPeak 57 = .ok (.ifCond .eq 11, 3) := dk_153 0 11 (dk_at dksX9_ofPeak_3 5 rfl rfl)
theorem dX9_ofPeak_60 : decode cX9_ofPeak 60 = .ok (.aload_n 0, 1) := dk_42 (dk_at dksX9_ofPeak_3 8 rfl rfl)
theorem dX9_ofPeak_61 : decode cX9_ofPeak 61 = .ok (.iload_n 1, 1) := dk_27 (dk_at dksX9_ofPeak_3 9 rfl rfl)
theorem dX9_ofPeak_62 : decode cX9_ofPeak 62 = .ok (.invokevirtual 344, 3) := dk_182 1 88 (dk_at dksX9_ofPeak_3 10 rfl rfl)
theorem dX9_ofPeak_65 : decode cX9_ofPeak 65 = .ok (.goto 4, 3) := dk_167 0 4 (dk_at dksX9_ofPeak_3 13 rfl rfl)
theorem dX9_ofPeak_68 : decode cX9_ofPeak 68 = .ok (.iconst 0, 1) := dk_3 (dk_at dksX9_ofPeak_3 16 rfl rfl)
theorem dX9_ofPeak_69 : decode cX9_ofPeak 69 = .ok (.ireturn, 1) := dk_172 (dk_at dksX9_ofPeak_3 17 rfl rfl)
theorem dX9_ofPeak_70 : decode cX9_ofPeak 70 = .ok (.aload_n 0, 1) := dk_42 (dk_at dksX9_ofPeak_3 18 rfl rfl)
theorem dX9_ofPeak_71 : decode cX9_ofPeak 71 = .ok (.iload_n 1, 1) := dk_27 (dk_at dksX9_ofPeak_3 19 rfl rfl)
theorem dX9_ofPeak_72 : decode cX9_ofPeak 72 = .ok (.invokevirtual 435, 3) := dk_182 1 179 (dk_at dksX9_ofPeak_3 20 rfl rfl)
theorem dX9_ofPeak_75 : decode cX9_ofPeak 75 = .ok (.ifCond .eq 11, 3) := dk_153 0 11 (dk_at dksX9_ofPeak_4 0 rfl rfl)
theorem dX9_ofPeak_78 : decode cX9_ofPeak 78 = .ok (.aload_n 0, 1) := dk_42 (dk_at dksX9_ofPeak_4 3 rfl rfl)
theorem dX9_ofPeak_79 : decode cX9_ofPeak 79 = .ok (.iload_n 1, 1) := dk_27 (dk_at dksX9_ofPeak_4 4 rfl rfl)
theorem dX9_ofPeak_80 : decode cX9_ofPeak 80 = .ok (.invokevirtual 441, 3) := dk_182 1 185 (dk_at dksX9_ofPeak_4 5 rfl rfl)
theorem dX9_ofPeak_83 : decode cX9_ofPeak 83 = .ok (.goto 4, 3) := dk_167 0 4 (dk_at dksX9_ofPeak_4 8 rfl rfl)
theorem dX9_ofPeak_86 : decode cX9_ofPeak 86 = .ok (.iconst 0, 1) := dk_3 (dk_at dksX9_ofPeak_4 11 rfl rfl)
theorem dX9_ofPeak_87 : decode cX9_ofPeak 87 = .ok (.ireturn, 1) := dk_172 (dk_at dksX9_ofPeak_4 12 rfl rfl)
def dkwX9_held_3 : List UInt8 := [180, 1, 10, 172, 18, 240, 172]
abbrev dktX9_held_3 : List UInt8 := dkwX9_held_3 ++ []
def dkwX9_held_2 : List UInt8 := [42, 182, 1, 1, 172, 42, 180, 1, 19, 172, 42, 180, 0, 100, 172, 42, 180, 0, 32, 16, 50, 46, 172, 42]
abbrev dktX9_held_2 : List UInt8 := dkwX9_held_2 ++ dktX9_held_3
def dkwX9_held_1 : List UInt8 := [170, 0, 0, 0, 0, 0, 63, 0, 0, 0, 0, 0, 0, 0, 4, 0, 0, 0, 35, 0, 0, 0, 40, 0, 0, 0, 45, 0, 0, 0, 50, 0, 0, 0, 58]
abbrev dktX9_held_1 : List UInt8 := dkwX9_held_1 ++ dktX9_held_2
def dkwX9_held_0 : List UInt8 := [27]
abbrev dktX9_held_0 : List UInt8 := dkwX9_held_0 ++ dktX9_held_1
theorem dksX9_held_0 : cX9_held.data.toList.drop 0 = dktX9_held_0 := by decide +kernel
theorem dksX9_held_1 : cX9_held.data.toList.drop 1 = dktX9_held_1 := dk_seg dksX9_held_0 1 rfl rfl
theorem dksX9_held_2 : cX9_held.data.toList.drop 36 = dktX9_held_2 := dk_seg dksX9_held_1 35 rfl rfl
theorem dksX9_held_3 : cX9_held.data.toList.drop 60 = dktX9_held_3 := dk_seg dksX9_held_2 24 rfl rfl
theorem dX9_held_0 : decode cX9_held 0 = .ok (.iload_n 1, 1) := dk_27 (dk_at dksX9_held_0 0 rfl rfl)
theorem dX9_held_1 : decode cX9_held 1 = .ok (.tableswitch 63 0 4 #[35, 40, 45, 50, 58], 35) := by decide +kernel
theorem dX9_held_36 : decode cX9_held 36 = .ok (.aload_n 0, 1) := dk_42 (dk_at dksX9_held_2 0 rfl rfl)
theorem dX9_held_37 : decode cX9_held 37 = .ok (.invokevirtual 257, 3) := dk_182 1 1 (dk_at dksX9_held_2 1 rfl rfl)
theorem dX9_held_40 : decode cX9_held 40 = .ok (.ireturn, 1) := dk_172 (dk_at dksX9_held_2 4 rfl rfl)
theorem dX9_held_41 : decode cX9_held 41 = .ok (.aload_n 0, 1) := dk_42 (dk_at dksX9_held_2 5 rfl rfl)
theorem dX9_held_42 : decode cX9_held 42 = .ok (.getfield 275, 3) := dk_180 1 19 (dk_at dksX9_held_2 6 rfl rfl)
theorem dX9_held_45 : decode cX9_held 45 = .ok (.ireturn, 1) := dk_172 (dk_at dksX9_held_2 9 rfl rfl)
theorem dX9_held_46 : decode cX9_held 46 = .ok (.aload_n 0, 1) := dk_42 (dk_at dksX9_held_2 10 rfl rfl)
theorem dX9_held_47 : decode cX9_held 47 = .ok (.getfield 100, 3) := dk_180 0 100 (dk_at dksX9_held_2 11 rfl rfl)
theorem dX9_held_50 : decode cX9_held 50 = .ok (.ireturn, 1) := dk_172 (dk_at dksX9_held_2 14 rfl rfl)
theorem dX9_held_51 : decode cX9_held 51 = .ok (.aload_n 0, 1) := dk_42 (dk_at dksX9_held_2 15 rfl rfl)
theorem dX9_held_52 : decode cX9_held 52 = .ok (.getfield 32, 3) := dk_180 0 32 (dk_at dksX9_held_2 16 rfl rfl)
theorem dX9_held_55 : decode cX9_held 55 = .ok (.bipush 50, 2) := dk_16 50 (dk_at dksX9_held_2 19 rfl rfl)
theorem dX9_held_57 : decode cX9_held 57 = .ok (.iaload, 1) := dk_46 (dk_at dksX9_held_2 21 rfl rfl)
theorem dX9_held_58 : decode cX9_held 58 = .ok (.ireturn, 1) := dk_172 (dk_at dksX9_held_2 22 rfl rfl)
theorem dX9_held_59 : decode cX9_held 59 = .ok (.aload_n 0, 1) := dk_42 (dk_at dksX9_held_2 23 rfl rfl)
theorem dX9_held_60 : decode cX9_held 60 = .ok (.getfield 266, 3) := dk_180 1 10 (dk_at dksX9_held_3 0 rfl rfl)
theorem dX9_held_63 : decode cX9_held 63 = .ok (.ireturn, 1) := dk_172 (dk_at dksX9_held_3 3 rfl rfl)
theorem dX9_held_64 : decode cX9_held 64 = .ok (.ldc 240, 2) := dk_18 240 (dk_at dksX9_held_3 4 rfl rfl)
theorem dX9_held_66 : decode cX9_held 66 = .ok (.ireturn, 1) := dk_172 (dk_at dksX9_held_3 6 rfl rfl)
