set_option maxRecDepth 100000
def dkwJ0_min_0 : List UInt8 := [26, 27, 163, 0, 7, 26, 167, 0, 4, 27, 172]
abbrev dktJ0_min_0 : List UInt8 := dkwJ0_min_0 ++ []
theorem dksJ0_min_0 : cJ0_min.data.toList.drop 0 = dktJ0_min_0 := by decide +kernel
theorem dJ0_min_0 : decode cJ0_min 0 = .ok (.iload_n 0, 1) := dk_26 (dk_at dksJ0_min_0 0 rfl rfl)
theorem dJ0_min_1 : decode cJ0_min 1 = .ok (.iload_n 1, 1) := dk_27 (dk_at dksJ0_min_0 1 rfl rfl)
theorem dJ0_min_2 : decode cJ0_min 2 = .ok (.if_icmp .gt 7, 3) := dk_163 0 7 (dk_at dksJ0_min_0 2 rfl rfl)
theorem dJ0_min_5 : decode cJ0_min 5 = .ok (.iload_n 0, 1) := dk_26 (dk_at dksJ0_min_0 5 rfl rfl)
theorem dJ0_min_6 : decode cJ0_min 6 = .ok (.goto 4, 3) := dk_167 0 4 (dk_at dksJ0_min_0 6 rfl rfl)
theorem dJ0_min_9 : decode cJ0_min 9 = .ok (.iload_n 1, 1) := dk_27 (dk_at dksJ0_min_0 9 rfl rfl)
theorem dJ0_min_10 : decode cJ0_min 10 = .ok (.ireturn, 1) := dk_172 (dk_at dksJ0_min_0 10 rfl rfl)
def dkwJ0_max_0 : List UInt8 := [26, 27, 161, 0, 7, 26, 167, 0, 4, 27, 172]
abbrev dktJ0_max_0 : List UInt8 := dkwJ0_max_0 ++ []
theorem dksJ0_max_0 : cJ0_max.data.toList.drop 0 = dktJ0_max_0 := by decide +kernel
theorem dJ0_max_0 : decode cJ0_max 0 = .ok (.iload_n 0, 1) := dk_26 (dk_at dksJ0_max_0 0 rfl rfl)
theorem dJ0_max_1 : decode cJ0_max 1 = .ok (.iload_n 1, 1) := dk_27 (dk_at dksJ0_max_0 1 rfl rfl)
theorem dJ0_max_2 : decode cJ0_max 2 = .ok (.if_icmp .lt 7, 3) := dk_161 0 7 (dk_at dksJ0_max_0 2 rfl rfl)
theorem dJ0_max_5 : decode cJ0_max 5 = .ok (.iload_n 0, 1) := dk_26 (dk_at dksJ0_max_0 5 rfl rfl)
theorem dJ0_max_6 : decode cJ0_max 6 = .ok (.goto 4, 3) := dk_167 0 4 (dk_at dksJ0_max_0 6 rfl rfl)
theorem dJ0_max_9 : decode cJ0_max 9 = .ok (.iload_n 1, 1) := dk_27 (dk_at dksJ0_max_0 9 rfl rfl)
theorem dJ0_max_10 : decode cJ0_max 10 = .ok (.ireturn, 1) := dk_172 (dk_at dksJ0_max_0 10 rfl rfl)
def dkwJ0_abs_0 : List UInt8 := [26, 156, 0, 8, 26, 116, 167, 0, 4, 26, 172]
abbrev dktJ0_abs_0 : List UInt8 := dkwJ0_abs_0 ++ []
theorem dksJ0_abs_0 : cJ0_abs.data.toList.drop 0 = dktJ0_abs_0 := by decide +kernel
theorem dJ0_abs_0 : decode cJ0_abs 0 = .ok (.iload_n 0, 1) := dk_26 (dk_at dksJ0_abs_0 0 rfl rfl)
theorem dJ0_abs_1 : decode cJ0_abs 1 = .ok (.ifCond .ge 8, 3) := dk_156 0 8 (dk_at dksJ0_abs_0 1 rfl rfl)
theorem dJ0_abs_4 : decode cJ0_abs 4 = .ok (.iload_n 0, 1) := dk_26 (dk_at dksJ0_abs_0 4 rfl rfl)
theorem dJ0_abs_5 : decode cJ0_abs 5 = .ok (.ineg, 1) := dk_116 (dk_at dksJ0_abs_0 5 rfl rfl)
theorem dJ0_abs_6 : decode cJ0_abs 6 = .ok (.goto 4, 3) := dk_167 0 4 (dk_at dksJ0_abs_0 6 rfl rfl)
theorem dJ0_abs_9 : decode cJ0_abs 9 = .ok (.iload_n 0, 1) := dk_26 (dk_at dksJ0_abs_0 9 rfl rfl)
theorem dJ0_abs_10 : decode cJ0_abs 10 = .ok (.ireturn, 1) := dk_172 (dk_at dksJ0_abs_0 10 rfl rfl)
def dkwJ1_init_1 : List UInt8 := [167, 0, 16, 42, 27, 184, 0, 26, 181, 0, 15, 42, 4, 181, 0, 22, 177]
abbrev dktJ1_init_1 : List UInt8 := dkwJ1_init_1 ++ []
def dkwJ1_init_0 : List UInt8 := [42, 183, 0, 3, 178, 0, 18, 153, 0, 18, 42, 27, 188, 8, 181, 0, 15, 42, 3, 181, 0, 22]
abbrev dktJ1_init_0 : List UInt8 := dkwJ1_init_0 ++ dktJ1_init_1
theorem dksJ1_init_0 : cJ1_init.data.toList.drop 0 = dktJ1_init_0 := by decide +kernel
theorem dksJ1_init_1 : cJ1_init.data.toList.drop 22 = dktJ1_init_1 := dk_seg dksJ1_init_0 22 rfl rfl
theorem dJ1_init_0 : decode cJ1_init 0 = .ok (.aload_n 0, 1) := dk_42 (dk_at dksJ1_init_0 0 rfl rfl)
theorem dJ1_init_1 : decode cJ1_init 1 = .ok (.invokespecial 3, 3) := dk_183 0 3 (dk_at dksJ1_init_0 1 rfl rfl)
theorem dJ1_init_4 : decode cJ1_init 4 = .ok (.getstatic 18, 3) := dk_178 0 18 (dk_at dksJ1_init_0 4 rfl rfl)
theorem dJ1_init_7 : decode cJ1_init 7 = .ok (.ifCond .eq 18, 3) := dk_153 0 18 (dk_at dksJ1_init_0 7 rfl rfl)
theorem dJ1_init_10 : decode cJ1_init 10 = .ok (.aload_n 0, 1) := dk_42 (dk_at dksJ1_init_0 10 rfl rfl)
theorem dJ1_init_11 : decode cJ1_init 11 = .ok (.iload_n 1, 1) := dk_27 (dk_at dksJ1_init_0 11 rfl rfl)
theorem dJ1_init_12 : decode cJ1_init 12 = .ok (.newarray .byte, 2) := dk_188_8 (dk_at dksJ1_init_0 12 rfl rfl)
theorem dJ1_init_14 : decode cJ1_init 14 = .ok (.putfield 15, 3) := dk_181 0 15 (dk_at dksJ1_init_0 14 rfl rfl)
theorem dJ1_init_17 : decode cJ1_init 17 = .ok (.aload_n 0, 1) := dk_42 (dk_at dksJ1_init_0 17 rfl rfl)
theorem dJ1_init_18 : decode cJ1_init 18 = .ok (.iconst 0, 1) := dk_3 (dk_at dksJ1_init_0 18 rfl rfl)
theorem dJ1_init_19 : decode cJ1_init 19 = .ok (.putfield 22, 3) := dk_181 0 22 (dk_at dksJ1_init_0 19 rfl rfl)
theorem dJ1_init_22 : decode cJ1_init 22 = .ok (.goto 16, 3) := dk_167 0 16 (dk_at dksJ1_init_1 0 rfl rfl)
theorem dJ1_init_25 : decode cJ1_init 25 = .ok (.aload_n 0, 1) := dk_42 (dk_at dksJ1_init_1 3 rfl rfl)
theorem dJ1_init_26 : decode cJ1_init 26 = .ok (.iload_n 1, 1) := dk_27 (dk_at dksJ1_init_1 4 rfl rfl)
theorem dJ1_init_27 : decode cJ1_init 27 = .ok (.invokestatic 26, 3) := dk_184 0 26 (dk_at dksJ1_init_1 5 rfl rfl)
theorem dJ1_init_30 : decode cJ1_init 30 = .ok (.putfield 15, 3) := dk_181 0 15 (dk_at dksJ1_init_1 8 rfl rfl)
theorem dJ1_init_33 : decode cJ1_init 33 = .ok (.aload_n 0, 1) := dk_42 (dk_at dksJ1_init_1 11 rfl rfl)
theorem dJ1_init_34 : decode cJ1_init 34 = .ok (.iconst 1, 1) := dk_4 (dk_at dksJ1_init_1 12 rfl rfl)
theorem dJ1_init_35 : decode cJ1_init 35 = .ok (.putfield 22, 3) := dk_181 0 22 (dk_at dksJ1_init_1 13 rfl rfl)
theorem dJ1_init_38 : decode cJ1_init 38 = .ok (.return_, 1) := dk_177 (dk_at dksJ1_init_1 16 rfl rfl)
def dkwJ1_append_3 : List UInt8 := [181, 0, 79, 27, 184, 0, 197, 42, 176]
abbrev dktJ1_append_3 : List UInt8 := dkwJ1_append_3 ++ []
def dkwJ1_append_2 : List UInt8 := [182, 0, 83, 153, 0, 7, 42, 182, 0, 195, 42, 180, 0, 15, 42, 89, 180, 0, 79, 90, 4, 96]
abbrev dktJ1_append_2 : List UInt8 := dkwJ1_append_2 ++ dktJ1_append_3
def dkwJ1_append_1 : List UInt8 := [42, 180, 0, 15, 42, 89, 180, 0, 79, 90, 4, 96, 181, 0, 79, 27, 145, 84, 167, 0, 33, 42]
abbrev dktJ1_append_1 : List UInt8 := dkwJ1_append_1 ++ dktJ1_append_2
def dkwJ1_append_0 : List UInt8 := [42, 42, 180, 0, 79, 4, 96, 182, 0, 100, 42, 182, 0, 83, 153, 0, 31, 27, 184, 0, 191, 153, 0, 24]
abbrev dktJ1_append_0 : List UInt8 := dkwJ1_append_0 ++ dktJ1_append_1
theorem dksJ1_append_0 : cJ1_append.data.toList.drop 0 = dktJ1_append_0 := by decide +kernel
theorem dksJ1_append_1 : cJ1_append.data.toList.drop 24 = dktJ1_append_1 := dk_seg dksJ1_append_0 24 rfl rfl
theorem dksJ1_append_2 : cJ1_append.data.toList.drop 46 = dktJ1_append_2 := dk_seg dksJ1_append_1 22 rfl rfl
theorem dksJ1_append_3 : cJ1_append.data.toList.drop 68 = dktJ1_append_3 := dk_seg dksJ1_append_2 22 rfl rfl
theorem dJ1_append_0 : decode cJ1_append 0 = .ok (.aload_n 0, 1) := dk_42 (dk_at dksJ1_append_0 0 rfl rfl)
theorem dJ1_append_1 : decode cJ1_append 1 = .ok (.aload_n 0, 1) := dk_42 (dk_at dksJ1_append_0 1 rfl rfl)
theorem dJ1_append_2 : decode cJ1_append 2 = .ok (.getfield 79, 3) := dk_180 0 79 (dk_at dksJ1_append_0 2 rfl rfl)
theorem dJ1_append_5 : decode cJ1_append 5 = .ok (.iconst 1, 1) := dk_4 (dk_at dksJ1_append_0 5 rfl rfl)
theorem dJ1_append_6 : decode cJ1_append 6 = .ok (.iadd, 1) := dk_96 (dk_at dksJ1_append_0 6 rfl rfl)
theorem dJ1_append_7 : decode cJ1_append 7 = .ok (.invokevirtual 100, 3) := dk_182 0 100 (dk_at dksJ1_append_0 7 rfl rfl)
theorem dJ1_append_10 : decode cJ1_append 10 = .ok (.aload_n 0, 1) := dk_42 (dk_at dksJ1_append_0 10 rfl rfl)
theorem dJ1_append_11 : decode cJ1_append 11 = .ok (.invokevirtual 83, 3) := dk_182 0 83 (dk_at dksJ1_append_0 11 rfl rfl)
theorem dJ1_append_14 : decode cJ1_append 14 = .ok (.ifCond .eq 31, 3) := dk_153 0 31 (dk_at dksJ1_append_0 14 rfl rfl)
theorem dJ1_append_17 : decode cJ1_append 17 = .ok (.iload_n 1, 1) := dk_27 (dk_at dksJ1_append_0 17 rfl rfl)
theorem dJ1_append_18 : decode cJ1_append 18 = .ok (.invokestatic 191, 3) := dk_184 0 191 (dk_at dksJ1_append_0 18 rfl rfl)
theorem dJ1_append_21 : decode cJ1_append 21 = .ok (.ifCond .eq 24, 3) := dk_153 0 24 (dk_at dksJ1_append_0 21 rfl rfl)
theorem dJ1_append_24 : decode cJ1_append 24 = .ok (.aload_n 0, 1) := dk_42 (dk_at dksJ1_append_1 0 rfl rfl)
theorem dJ1_append_25 : decode cJ1_append 25 = .ok (.getfield 15, 3) := dk_180 0 15 (dk_at dksJ1_append_1 1 rfl rfl)
theorem dJ1_append_28 : decode cJ1_append 28 = .ok (.aload_n 0, 1) := dk_42 (dk_at dksJ1_append_1 4 rfl rfl)
theorem dJ1_append_29 : decode cJ1_append 29 = .ok (.dup, 1) := dk_89 (dk_at dksJ1_append_1 5 rfl rfl)
theorem dJ1_append_30 : decode cJ1_append 30 = .ok (.getfield 79, 3) := dk_180 0 79 (dk_at dksJ1_append_1 6 rfl rfl)
theorem dJ1_append_33 : decode cJ1_append 33 = .ok (.dup_x1, 1) := dk_90 (dk_at dksJ1_append_1 9 rfl rfl)
theorem dJ1_append_34 : decode cJ1_append 34 = .ok (.iconst 1, 1) := dk_4 (dk_at dksJ1_append_1 10 rfl rfl)
theorem dJ1_append_35 : decode cJ1_append 35 = .ok (.iadd, 1) := dk_96 (dk_at dksJ1_append_1 11 rfl rfl)
theorem dJ1_append_36 : decode cJ1_append 36 = .ok (.putfield 79, 3) := dk_181 0 79 (dk_at dksJ1_append_1 12 rfl rfl)
theorem dJ1_append_39 : decode cJ1_append 39 = .ok (.iload_n 1, 1) := dk_27 (dk_at dksJ1_append_1 15 rfl rfl)
theorem dJ1_append_40 : decode cJ1_append 40 = .ok (.i2b, 1) := dk_145 (dk_at dksJ1_append_1 16 rfl rfl)
theorem dJ1_append_41 : decode cJ1_append 41 = .ok (.bastore, 1) := dk_84 (dk_at dksJ1_append_1 17 rfl rfl)
theorem dJ1_append_42 : decode cJ1_append 42 = .ok (.goto 33, 3) := dk_167 0 33 (dk_at dksJ1_append_1 18 rfl rfl)
theorem dJ1_append_45 : decode cJ1_append 45 = .ok (.aload_n 0, 1) := dk_42 (dk_at dksJ1_append_1 21 rfl rfl)
theorem dJ1_append_46 : decode cJ1_append 46 = .ok (.invokevirtual 83, 3) := dk_182 0 83 (dk_at dksJ1_append_2 0 rfl rfl)
theorem dJ1_append_49 : decode cJ1_append 49 = .ok (.ifCond .eq 7, 3) := dk_153 0 7 (dk_at dksJ1_append_2 3 rfl rfl)
theorem dJ1_append_52 : decode cJ1_append 52 = .ok (.aload_n 0, 1) := dk_42 (dk_at dksJ1_append_2 6 rfl rfl)
theorem dJ1_append_53 : decode cJ1_append 53 = .ok (.invokevirtual 195, 3) := dk_182 0 195 (dk_at dksJ1_append_2 7 rfl rfl)
theorem dJ1_append_56 : decode cJ1_append 56 = .ok (.aload_n 0, 1) := dk_42 (dk_at dksJ1_append_2 10 rfl rfl)
theorem dJ1_append_57 : decode cJ1_append 57 = .ok (.getfield 15, 3) := dk_180 0 15 (dk_at dksJ1_append_2 11 rfl rfl)
theorem dJ1_append_60 : decode cJ1_append 60 = .ok (.aload_n 0, 1) := dk_42 (dk_at dksJ1_append_2 14 rfl rfl)
theorem dJ1_append_61 : decode cJ1_append 61 = .ok (.dup, 1) := dk_89 (dk_at dksJ1_append_2 15 rfl rfl)
theorem dJ1_append_62 : decode cJ1_append 62 = .ok (.getfield 79, 3) := dk_180 0 79 (dk_at dksJ1_append_2 16 rfl rfl)
theorem dJ1_append_65 : decode cJ1_append 65 = .ok (.dup_x1, 1) := dk_90 (dk_at dksJ1_append_2 19 rfl rfl)
theorem dJ1_append_66 : decode cJ1_append 66 = .ok (.iconst 1, 1) := dk_4 (dk_at dksJ1_append_2 20 rfl rfl)
theorem dJ1_append_67 : decode cJ1_append 67 = .ok (.iadd, 1) := dk_96 (dk_at dksJ1_append_2 21 rfl rfl)
theorem dJ1_append_68 : decode cJ1_append 68 = .ok (.putfield 79, 3) := dk_181 0 79 (dk_at dksJ1_append_3 0 rfl rfl)
theorem dJ1_append_71 : decode cJ1_append 71 = .ok (.iload_n 1, 1) := dk_27 (dk_at dksJ1_append_3 3 rfl rfl)
theorem dJ1_append_72 : decode cJ1_append 72 = .ok (.invokestatic 197, 3) := dk_184 0 197 (dk_at dksJ1_append_3 4 rfl rfl)
theorem dJ1_append_75 : decode cJ1_append 75 = .ok (.aload_n 0, 1) := dk_42 (dk_at dksJ1_append_3 7 rfl rfl)
theorem dJ1_append_76 : decode cJ1_append 76 = .ok (.areturn, 1) := dk_176 (dk_at dksJ1_append_3 8 rfl rfl)
def dkwJ1_ensureCapacityInternal_1 : List UInt8 := [182, 0, 104, 42, 180, 0, 22, 120, 184, 0, 108, 181, 0, 15, 177]
abbrev dktJ1_ensureCapacityInternal_1 : List UInt8 := dkwJ1_ensureCapacityInternal_1 ++ []
def dkwJ1_ensureCapacityInternal_0 : List UInt8 := [42, 180, 0, 15, 190, 42, 180, 0, 22, 122, 61, 27, 28, 100, 158, 0, 24, 42, 42, 180, 0, 15, 42, 27]
abbrev dktJ1_ensureCapacityInternal_0 : List UInt8 := dkwJ1_ensureCapacityInternal_0 ++ dktJ1_ensureCapacityInternal_1
theorem dksJ1_ensureCapacityInternal_0 : cJ1_ensureCapacityInternal.data.toList.drop 0 = dktJ1_ensureCapacityInternal_0 := by decide +kernel
theorem dksJ1_ensureCapacityInternal_1 : cJ1_ensureCapacityInternal.data.toList.drop 24 = dktJ1_ensureCapacityInternal_1 := dk_seg dksJ1_ensureCapacityInternal_0 24 rfl rfl
theorem dJ1_ensureCapacityInternal_0 : decode cJ1_ensureCapacityInternal 0 = .ok (.aload_n 0, 1) := dk_42 (dk_at dksJ1_ensureCapacityInternal_0 0 rfl rfl)
theorem dJ1_ensureCapacityInternal_1 : decode cJ1_ensureCapacityInternal 1 = .ok (.getfield 15, 3) := dk_180 0 15 (dk_at dksJ1_ensureCapacityInternal_0 1 rfl rfl)
theorem dJ1_ensureCapacityInternal_4 : decode cJ1_ensureCapacityInternal 4 = .ok (.arraylength, 1) := dk_190 (dk_at dksJ1_ensureCapacityInternal_0 4 rfl rfl)
theorem dJ1_ensureCapacityInternal_5 : decode cJ1_ensureCapacityInternal 5 = .ok (.aload_n 0, 1) := dk_42 (dk_at dksJ1_ensureCapacityInternal_0 5 rfl rfl)
theorem dJ1_ensureCapacityInternal_6 : decode cJ1_ensureCapacityInternal 6 = .ok (.getfield 22, 3) := dk_180 0 22 (dk_at dksJ1_ensureCapacityInternal_0 6 rfl rfl)
theorem dJ1_ensureCapacityInternal_9 : decode cJ1_ensureCapacityInternal 9 = .ok (.ishr, 1) := dk_122 (dk_at dksJ1_ensureCapacityInternal_0 9 rfl rfl)
theorem dJ1_ensureCapacityInternal_10 : decode cJ1_ensureCapacityInternal 10 = .ok (.istore_n 2, 1) := dk_61 (dk_at dksJ1_ensureCapacityInternal_0 10 rfl rfl)
theorem dJ1_ensureCapacityInternal_11 : decode cJ1_ensureCapacityInternal 11 = .ok (.iload_n 1, 1) := dk_27 (dk_at dksJ1_ensureCapacityInternal_0 11 rfl rfl)
theorem dJ1_ensureCapacityInternal_12 : decode cJ1_ensureCapacityInternal 12 = .ok (.iload_n 2, 1) := dk_28 (dk_at dksJ1_ensureCapacityInternal_0 12 rfl rfl)
theorem dJ1_ensureCapacityInternal_13 : decode cJ1_ensureCapacityInternal 13 = .ok (.isub, 1) := dk_100 (dk_at dksJ1_ensureCapacityInternal_0 13 rfl rfl)
theorem dJ1_ensureCapacityInternal_14 : decode cJ1_ensureCapacityInternal 14 = .ok (.ifCond .le 24, 3) := dk_158 0 24 (dk_at dksJ1_ensureCapacityInternal_0 14 rfl rfl)
theorem dJ1_ensureCapacityInternal_17 : decode cJ1_ensureCapacityInternal 17 = .ok (.aload_n 0, 1) := dk_42 (dk_at dksJ1_ensureCapacityInternal_0 17 rfl rfl)
theorem dJ1_ensureCapacityInternal_18 : decode cJ1_ensureCapacityInternal 18 = .ok (.aload_n 0, 1) := dk_42 (dk_at dksJ1_ensureCapacityInternal_0 18 rfl rfl)
theorem dJ1_ensureCapacityInternal_19 : decode cJ1_ensureCapacityInternal 19 = .ok (.getfield 15, 3) := dk_180 0 15 (dk_at dksJ1_ensureCapacityInternal_0 19 rfl rfl)
theorem dJ1_ensureCapacityInternal_22 : decode cJ1_ensureCapacityInternal 22 = .ok (.aload_n 0, 1) := dk_42 (dk_at dksJ1_ensureCapacityInternal_0 22 rfl rfl)
theorem dJ1_ensureCapacityInternal_23 : decode cJ1_ensureCapacityInternal 23 = .ok (.iload_n 1, 1) := dk_27 (dk_at dksJ1_ensureCapacityInternal_0 23 rfl rfl)
theorem dJ1_ensureCapacityInternal_24 : decode cJ1_ensureCapacityInternal 24 = .ok (.invokevirtual 104, 3) := dk_182 0 104 (dk_at dksJ1_ensureCapacityInternal_1 0 rfl rfl)
theorem dJ1_ensureCapacityInternal_27 : decode cJ1_ensureCapacityInternal 27 = .ok (.aload_n 0, 1) := dk_42 (dk_at dksJ1_ensureCapacityInternal_1 3 rfl rfl)
theorem dJ1_ensureCapacityInternal_28 : decode cJ1_ensureCapacityInternal 28 = .ok (.getfield 22, 3) := dk_180 0 22 (dk_at dksJ1_ensureCapacityInternal_1 4 rfl rfl)
theorem dJ1_ensureCapacityInternal_31 : decode cJ1_ensureCapacityInternal 31 = .ok (.ishl, 1) := dk_120 (dk_at dksJ1_ensureCapacityInternal_1 7 rfl rfl)
theorem dJ1_ensureCapacityInternal_32 : decode cJ1_ensureCapacityInternal 32 = .ok (.invokestatic 108, 3) := dk_184 0 108 (dk_at dksJ1_ensureCapacityInternal_1 8 rfl rfl)
theorem dJ1_ensureCapacityInternal_35 : decode cJ1_ensureCapacityInternal 35 = .ok (.putfield 15, 3) := dk_181 0 15 (dk_at dksJ1_ensureCapacityInternal_1 11 rfl rfl)
theorem dJ1_ensureCapacityInternal_38 : decode cJ1_ensureCapacityInternal 38 = .ok (.return_, 1) := dk_177 (dk_at dksJ1_ensureCapacityInternal_1 14 rfl rfl)
def dkwJ1_newCapacity_2 : List UInt8 := [183, 0, 124, 191, 21, 5, 42, 180, 0, 22, 122, 172]
abbrev dktJ1_newCapacity_2 : List UInt8 := dkwJ1_newCapacity_2 ++ []
def dkwJ1_newCapacity_1 : List UInt8 := [180, 0, 22, 120, 96, 184, 0, 114, 54, 5, 21, 5, 18, 39, 160, 0, 13, 187, 0, 120, 89, 18, 122]
abbrev dktJ1_newCapacity_1 : List UInt8 := dkwJ1_newCapacity_1 ++ dktJ1_newCapacity_2
def dkwJ1_newCapacity_0 : List UInt8 := [42, 180, 0, 15, 190, 61, 27, 42, 180, 0, 22, 120, 62, 29, 28, 100, 54, 4, 28, 21, 4, 28, 5, 42]
abbrev dktJ1_newCapacity_0 : List UInt8 := dkwJ1_newCapacity_0 ++ dktJ1_newCapacity_1
theorem dksJ1_newCapacity_0 : cJ1_newCapacity.data.toList.drop 0 = dktJ1_newCapacity_0 := by decide +kernel
theorem dksJ1_newCapacity_1 : cJ1_newCapacity.data.toList.drop 24 = dktJ1_newCapacity_1 := dk_seg dksJ1_newCapacity_0 24 rfl rfl
theorem dksJ1_newCapacity_2 : cJ1_newCapacity.data.toList.drop 47 = dktJ1_newCapacity_2 := dk_seg dksJ1_newCapacity_1 23 rfl rfl
theorem dJ1_newCapacity_0 : decode cJ1_newCapacity 0 = .ok (.aload_n 0, 1) := dk_42 (dk_at dksJ1_newCapacity_0 0 rfl rfl)
theorem dJ1_newCapacity_1 : decode cJ1_newCapacity 1 = .ok (.getfield 15, 3) := dk_180 0 15 (dk_at dksJ1_newCapacity_0 1 rfl rfl)
theorem dJ1_newCapacity_4 : decode cJ1_newCapacity 4 = .ok (.arraylength, 1) := dk_190 (dk_at dksJ1_newCapacity_0 4 rfl rfl)
theorem dJ1_newCapacity_5 : decode cJ1_newCapacity 5 = .ok (.istore_n 2, 1) := dk_61 (dk_at dksJ1_newCapacity_0 5 rfl rfl)
theorem dJ1_newCapacity_6 : decode cJ1_newCapacity 6 = .ok (.iload_n 1, 1) := dk_27 (dk_at dksJ1_newCapacity_0 6 rfl rfl)
theorem dJ1_newCapacity_7 : decode cJ1_newCapacity 7 = .ok (.aload_n 0, 1) := dk_42 (dk_at dksJ1_newCapacity_0 7 rfl rfl)
theorem dJ1_newCapacity_8 : decode cJ1_newCapacity 8 = .ok (.getfield 22, 3) := dk_180 0 22 (dk_at dksJ1_newCapacity_0 8 rfl rfl)
theorem dJ1_newCapacity_11 : decode cJ1_newCapacity 11 = .ok (.ishl, 1) := dk_120 (dk_at dksJ1_newCapacity_0 11 rfl rfl)
theorem dJ1_newCapacity_12 : decode cJ1_newCapacity 12 = .ok (.istore_n 3, 1) := dk_62 (dk_at dksJ1_newCapacity_0 12 rfl rfl)
theorem dJ1_newCapacity_13 : decode cJ1_newCapacity 13 = .ok (.iload_n 3, 1) := dk_29 (dk_at dksJ1_newCapacity_0 13 rfl rfl)
theorem dJ1_newCapacity_14 : decode cJ1_newCapacity 14 = .ok (.iload_n 2, 1) := dk_28 (dk_at dksJ1_newCapacity_0 14 rfl rfl)
theorem dJ1_newCapacity_15 : decode cJ1_newCapacity 15 = .ok (.isub, 1) := dk_100 (dk_at dksJ1_newCapacity_0 15 rfl rfl)
theorem dJ1_newCapacity_16 : decode cJ1_newCapacity 16 = .ok (.istore 4, 2) := dk_54 4 (dk_at dksJ1_newCapacity_0 16 rfl rfl)
theorem dJ1_newCapacity_18 : decode cJ1_newCapacity 18 = .ok (.iload_n 2, 1) := dk_28 (dk_at dksJ1_newCapacity_0 18 rfl rfl)
theorem dJ1_newCapacity_19 : decode cJ1_newCapacity 19 = .ok (.iload 4, 2) := dk_21 4 (dk_at dksJ1_newCapacity_0 19 rfl rfl)
theorem dJ1_newCapacity_21 : decode cJ1_newCapacity 21 = .ok (.iload_n 2, 1) := dk_28 (dk_at dksJ1_newCapacity_0 21 rfl rfl)
theorem dJ1_newCapacity_22 : decode cJ1_newCapacity 22 = .ok (.iconst 2, 1) := dk_5 (dk_at dksJ1_newCapacity_0 22 rfl rfl)
theorem dJ1_newCapacity_23 : decode cJ1_newCapacity 23 = .ok (.aload_n 0, 1) := dk_42 (dk_at dksJ1_newCapacity_0 23 rfl rfl)
theorem dJ1_newCapacity_24 : decode cJ1_newCapacity 24 = .ok (.getfield 22, 3) := dk_180 0 22 (dk_at dksJ1_newCapacity_1 0 rfl rfl)
theorem dJ1_newCapacity_27 : decode cJ1_newCapacity 27 = .ok (.ishl, 1) := dk_120 (dk_at dksJ1_newCapacity_1 3 rfl rfl)
theorem dJ1_newCapacity_28 : decode cJ1_newCapacity 28 = .ok (.iadd, 1) := dk_96 (dk_at dksJ1_newCapacity_1 4 rfl rfl)
theorem dJ1_newCapacity_29 : decode cJ1_newCapacity 29 = .ok (.invokestatic 114, 3) := dk_184 0 114 (dk_at dksJ1_newCapacity_1 5 rfl rfl)
theorem dJ1_newCapacity_32 : decode cJ1_newCapacity 32 = .ok (.istore 5, 2) := dk_54 5 (dk_at dksJ1_newCapacity_1 8 rfl rfl)
theorem dJ1_newCapacity_34 : decode cJ1_newCapacity 34 = .ok (.iload 5, 2) := dk_21 5 (dk_at dksJ1_newCapacity_1 10 rfl rfl)
theorem dJ1_newCapacity_36 : decode cJ1_newCapacity 36 = .ok (.ldc 39, 2) := dk_18 39 (dk_at dksJ1_newCapacity_1 12 rfl rfl)
theorem dJ1_newCapacity_38 : decode cJ1_newCapacity 38 = .ok (.if_icmp .ne 13, 3) := dk_160 0 13 (dk_at dksJ1_newCapacity_1 14 rfl rfl)
theorem dJ1_newCapacity_41 : decode cJ1_newCapacity 41 = .ok (.new 120, 3) := dk_187 0 120 (dk_at dksJ1_newCapacity_1 17 rfl rfl)
theorem dJ1_newCapacity_44 : decode cJ1_newCapacity 44 = .ok (.dup, 1) := dk_89 (dk_at dksJ1_newCapacity_1 20 rfl rfl)
theorem dJ1_newCapacity_45 : decode cJ1_newCapacity 45 = .ok (.ldc 122, 2) := dk_18 122 (dk_at dksJ1_newCapacity_1 21 rfl rfl)
theorem dJ1_newCapacity_47 : decode cJ1_newCapacity 47 = .ok (.invokespecial 124, 3) := dk_183 0 124 (dk_at dksJ1_newCapacity_2 0 rfl rfl)
theorem dJ1_newCapacity_50 : decode cJ1_newCapacity 50 = .ok (.athrow, 1) := dk_191 (dk_at dksJ1_newCapacity_2 3 rfl rfl)
theorem dJ1_newCapacity_51 : decode cJ1_newCapacity 51 = .ok (.iload 5, 2) := dk_21 5 (dk_at dksJ1_newCapacity_2 4 rfl rfl)
theorem dJ1_newCapacity_53 : decode cJ1_newCapacity 53 = .ok (.aload_n 0, 1) := dk_42 (dk_at dksJ1_newCapacity_2 6 rfl rfl)
theorem dJ1_newCapacity_54 : decode cJ1_newCapacity 54 = .ok (.getfield 22, 3) := dk_180 0 22 (dk_at dksJ1_newCapacity_2 7 rfl rfl)
theorem dJ1_newCapacity_57 : decode cJ1_newCapacity 57 = .ok (.ishr, 1) := dk_122 (dk_at dksJ1_newCapacity_2 10 rfl rfl)
theorem dJ1_newCapacity_58 : decode cJ1_newCapacity 58 = .ok (.ireturn, 1) := dk_172 (dk_at dksJ1_newCapacity_2 11 rfl rfl)
def dkwJ1_isLatin1_0 : List UInt8 := [178, 0, 18, 153, 0, 14, 42, 180, 0, 22, 154, 0, 7, 4, 167, 0, 4, 3, 172]
abbrev dktJ1_isLatin1_0 : List UInt8 := dkwJ1_isLatin1_0 ++ []
theorem dksJ1_isLatin1_0 : cJ1_isLatin1.data.toList.drop 0 = dktJ1_isLatin1_0 := by decide +kernel
theorem dJ1_isLatin1_0 : decode cJ1_isLatin1 0 = .ok (.getstatic 18, 3) := dk_178 0 18 (dk_at dksJ1_isLatin1_0 0 rfl rfl)
theorem dJ1_isLatin1_3 : decode cJ1_isLatin1 3 = .ok (.ifCond .eq 14, 3) := dk_153 0 14 (dk_at dksJ1_isLatin1_0 3 rfl rfl)
theorem dJ1_isLatin1_6 : decode cJ1_isLatin1 6 = .ok (.aload_n 0, 1) := dk_42 (dk_at dksJ1_isLatin1_0 6 rfl rfl)
theorem dJ1_isLatin1_7 : decode cJ1_isLatin1 7 = .ok (.getfield 22, 3) := dk_180 0 22 (dk_at dksJ1_isLatin1_0 7 rfl rfl)
theorem dJ1_isLatin1_10 : decode cJ1_isLatin1 10 = .ok (.ifCond .ne 7, 3) := dk_154 0 7 (dk_at dksJ1_isLatin1_0 10 rfl rfl)
theorem dJ1_isLatin1_13 : decode cJ1_isLatin1 13 = .ok (.iconst 1, 1) := dk_4 (dk_at dksJ1_isLatin1_0 13 rfl rfl)
theorem dJ1_isLatin1_14 : decode cJ1_isLatin1 14 = .ok (.goto 4, 3) := dk_167 0 4 (dk_at dksJ1_isLatin1_0 14 rfl rfl)
theorem dJ1_isLatin1_17 : decode cJ1_isLatin1 17 = .ok (.iconst 0, 1) := dk_3 (dk_at dksJ1_isLatin1_0 17 rfl rfl)
theorem dJ1_isLatin1_18 : decode cJ1_isLatin1 18 = .ok (.ireturn, 1) := dk_172 (dk_at dksJ1_isLatin1_0 18 rfl rfl)
def dkwJ1_inflate_1 : List UInt8 := [42, 180, 0, 79, 184, 0, 125, 42, 43, 181, 0, 15, 42, 4, 181, 0, 22, 177]
abbrev dktJ1_inflate_1 : List UInt8 := dkwJ1_inflate_1 ++ []
def dkwJ1_inflate_0 : List UInt8 := [42, 182, 0, 83, 154, 0, 4, 177, 42, 180, 0, 15, 190, 184, 0, 26, 76, 42, 180, 0, 15, 3, 43, 3]
abbrev dktJ1_inflate_0 : List UInt8 := dkwJ1_inflate_0 ++ dktJ1_inflate_1
theorem dksJ1_inflate_0 : cJ1_inflate.data.toList.drop 0 = dktJ1_inflate_0 := by decide +kernel
theorem dksJ1_inflate_1 : cJ1_inflate.data.toList.drop 24 = dktJ1_inflate_1 := dk_seg dksJ1_inflate_0 24 rfl rfl
theorem dJ1_inflate_0 : decode cJ1_inflate 0 = .ok (.aload_n 0, 1) := dk_42 (dk_at dksJ1_inflate_0 0 rfl rfl)
theorem dJ1_inflate_1 : decode cJ1_inflate 1 = .ok (.invokevirtual 83, 3) := dk_182 0 83 (dk_at dksJ1_inflate_0 1 rfl rfl)
theorem dJ1_inflate_4 : decode cJ1_inflate 4 = .ok (.ifCond .ne 4, 3) := dk_154 0 4 (dk_at dksJ1_inflate_0 4 rfl rfl)
theorem dJ1_inflate_7 : decode cJ1_inflate 7 = .ok (.return_, 1) := dk_177 (dk_at dksJ1_inflate_0 7 rfl rfl)
theorem dJ1_inflate_8 : decode cJ1_inflate 8 = .ok (.aload_n 0, 1) := dk_42 (dk_at dksJ1_inflate_0 8 rfl rfl)
theorem dJ1_inflate_9 : decode cJ1_inflate 9 = .ok (.getfield 15, 3) := dk_180 0 15 (dk_at dksJ1_inflate_0 9 rfl rfl)
theorem dJ1_inflate_12 : decode cJ1_inflate 12 = .ok (.arraylength, 1) := dk_190 (dk_at dksJ1_inflate_0 12 rfl rfl)
theorem dJ1_inflate_13 : decode cJ1_inflate 13 = .ok (.invokestatic 26, 3) := dk_184 0 26 (dk_at dksJ1_inflate_0 13 rfl rfl)
theorem dJ1_inflate_16 : decode cJ1_inflate 16 = .ok (.astore_n 1, 1) := dk_76 (dk_at dksJ1_inflate_0 16 rfl rfl)
theorem dJ1_inflate_17 : decode cJ1_inflate 17 = .ok (.aload_n 0, 1) := dk_42 (dk_at dksJ1_inflate_0 17 rfl rfl)
theorem dJ1_inflate_18 : decode cJ1_inflate 18 = .ok (.getfield 15, 3) := dk_180 0 15 (dk_at dksJ1_inflate_0 18 rfl rfl)
theorem dJ1_inflate_21 : decode cJ1_inflate 21 = .ok (.iconst 0, 1) := dk_3 (dk_at dksJ1_inflate_0 21 rfl rfl)
theorem dJ1_inflate_22 : decode cJ1_inflate 22 = .ok (.aload_n 1, 1) := dk_43 (dk_at dksJ1_inflate_0 22 rfl rfl)
theorem dJ1_inflate_23 : decode cJ1_inflate 23 = .ok (.iconst 0, 1) := dk_3 (dk_at dksJ1_inflate_0 23 rfl rfl)
theorem dJ1_inflate_24 : decode cJ1_inflate 24 = .ok (.aload_n 0, 1) := dk_42 (dk_at dksJ1_inflate_1 0 rfl rfl)
theorem dJ1_inflate_25 : decode cJ1_inflate 25 = .ok (.getfield 79, 3) := dk_180 0 79 (dk_at dksJ1_inflate_1 1 rfl rfl)
theorem dJ1_inflate_28 : decode cJ1_inflate 28 = .ok (.invokestatic 125, 3) := dk_184 0 125 (dk_at dksJ1_inflate_1 4 rfl rfl)
theorem dJ1_inflate_31 : decode cJ1_inflate 31 = .ok (.aload_n 0, 1) := dk_42 (dk_at dksJ1_inflate_1 7 rfl rfl)
theorem dJ1_inflate_32 : decode cJ1_inflate 32 = .ok (.aload_n 1, 1) := dk_43 (dk_at dksJ1_inflate_1 8 rfl rfl)
theorem dJ1_inflate_33 : decode cJ1_inflate 33 = .ok (.putfield 15, 3) := dk_181 0 15 (dk_at dksJ1_inflate_1 9 rfl rfl)
theorem dJ1_inflate_36 : decode cJ1_inflate 36 = .ok (.aload_n 0, 1) := dk_42 (dk_at dksJ1_inflate_1 12 rfl rfl)
theorem dJ1_inflate_37 : decode cJ1_inflate 37 = .ok (.iconst 1, 1) := dk_4 (dk_at dksJ1_inflate_1 13 rfl rfl)
theorem dJ1_inflate_38 : decode cJ1_inflate 38 = .ok (.putfield 22, 3) := dk_181 0 22 (dk_at dksJ1_inflate_1 14 rfl rfl)
theorem dJ1_inflate_41 : decode cJ1_inflate 41 = .ok (.return_, 1) := dk_177 (dk_at dksJ1_inflate_1 17 rfl rfl)
theorem dJ1_getValue_0 : decode cJ1_getValue 0 = .ok (.aload_n 0, 1) := by decide +kernel
theorem dJ1_getValue_1 : decode cJ1_getValue 1 = .ok (.getfield 15, 3) := by decide +kernel
theorem dJ1_getValue_4 : decode cJ1_getValue 4 = .ok (.areturn, 1) := by decide +kernel
theorem dJ1_length_0 : decode cJ1_length 0 = .ok (.aload_n 0, 1) := by decide +kernel
theorem dJ1_length_1 : decode cJ1_length 1 = .ok (.getfield 79, 3) := by decide +kernel
theorem dJ1_length_4 : decode cJ1_length 4 = .ok (.ireturn, 1) := by decide +kernel
def dkwJ1_append_2_1 : List UInt8 := [42, 42, 180, 0, 79, 43, 182, 0, 208, 42, 89, 180, 0, 79, 28, 96, 181, 0, 79, 42, 176]
abbrev dktJ1_append_2_1 : List UInt8 := dkwJ1_append_2_1 ++ []
def dkwJ1_append_2_0 : List UInt8 := [43, 199, 0, 8, 42, 182, 0, 204, 176, 43, 182, 0, 32, 61, 42, 42, 180, 0, 79, 28, 96, 182, 0, 100]
abbrev dktJ1_append_2_0 : List UInt8 := dkwJ1_append_2_0 ++ dktJ1_append_2_1
theorem dksJ1_append_2_0 : cJ1_append_2.data.toList.drop 0 = dktJ1_append_2_0 := by decide +kernel
theorem dksJ1_append_2_1 : cJ1_append_2.data.toList.drop 24 = dktJ1_append_2_1 := dk_seg dksJ1_append_2_0 24 rfl rfl
theorem dJ1_append_2_0 : decode cJ1_append_2 0 = .ok (.aload_n 1, 1) := dk_43 (dk_at dksJ1_append_2_0 0 rfl rfl)
theorem dJ1_append_2_1 : decode cJ1_append_2 1 = .ok (.ifnonnull 8, 3) := dk_199 0 8 (dk_at dksJ1_append_2_0 1 rfl rfl)
theorem dJ1_append_2_4 : decode cJ1_append_2 4 = .ok (.aload_n 0, 1) := dk_42 (dk_at dksJ1_append_2_0 4 rfl rfl)
theorem dJ1_append_2_5 : decode cJ1_append_2 5 = .ok (.invokevirtual 204, 3) := dk_182 0 204 (dk_at dksJ1_append_2_0 5 rfl rfl)
theorem dJ1_append_2_8 : decode cJ1_append_2 8 = .ok (.areturn, 1) := dk_176 (dk_at dksJ1_append_2_0 8 rfl rfl)
theorem dJ1_append_2_9 : decode cJ1_append_2 9 = .ok (.aload_n 1, 1) := dk_43 (dk_at dksJ1_append_2_0 9 rfl rfl)
theorem dJ1_append_2_10 : decode cJ1_append_2 10 = .ok (.invokevirtual 32, 3) := dk_182 0 32 (dk_at dksJ1_append_2_0 10 rfl rfl)
theorem dJ1_append_2_13 : decode cJ1_append_2 13 = .ok (.istore_n 2, 1) := dk_61 (dk_at dksJ1_append_2_0 13 rfl rfl)
theorem dJ1_append_2_14 : decode cJ1_append_2 14 = .ok (.aload_n 0, 1) := dk_42 (dk_at dksJ1_append_2_0 14 rfl rfl)
theorem dJ1_append_2_15 : decode cJ1_append_2 15 = .ok (.aload_n 0, 1) := dk_42 (dk_at dksJ1_append_2_0 15 rfl rfl)
theorem dJ1_append_2_16 : decode cJ1_append_2 16 = .ok (.getfield 79, 3) := dk_180 0 79 (dk_at dksJ1_append_2_0 16 rfl rfl)
theorem dJ1_append_2_19 : decode cJ1_append_2 19 = .ok (.iload_n 2, 1) := dk_28 (dk_at dksJ1_append_2_0 19 rfl rfl)
theorem dJ1_append_2_20 : decode cJ1_append_2 20 = .ok (.iadd, 1) := dk_96 (dk_at dksJ1_append_2_0 20 rfl rfl)
theorem dJ1_append_2_21 : decode cJ1_append_2 21 = .ok (.invokevirtual 100, 3) := dk_182 0 100 (dk_at dksJ1_append_2_0 21 rfl rfl)
theorem dJ1_append_2_24 : decode cJ1_append_2 24 = .ok (.aload_n 0, 1) := dk_42 (dk_at dksJ1_append_2_1 0 rfl rfl)
theorem dJ1_append_2_25 : decode cJ1_append_2 25 = .ok (.aload_n 0, 1) := dk_42 (dk_at dksJ1_append_2_1 1 rfl rfl)
theorem dJ1_append_2_26 : decode cJ1_append_2 26 = .ok (.getfield 79, 3) := dk_180 0 79 (dk_at dksJ1_append_2_1 2 rfl rfl)
theorem dJ1_append_2_29 : decode cJ1_append_2 29 = .ok (.aload_n 1, 1) := dk_43 (dk_at dksJ1_append_2_1 5 rfl rfl)
theorem dJ1_append_2_30 : decode cJ1_append_2 30 = .ok (.invokevirtual 208, 3) := dk_182 0 208 (dk_at dksJ1_append_2_1 6 rfl rfl)
theorem dJ1_append_2_33 : decode cJ1_append_2 33 = .ok (.aload_n 0, 1) := dk_42 (dk_at dksJ1_append_2_1 9 rfl rfl)
theorem dJ1_append_2_34 : decode cJ1_append_2 34 = .ok (.dup, 1) := dk_89 (dk_at dksJ1_append_2_1 10 rfl rfl)
theorem dJ1_append_2_35 : decode cJ1_append_2 35 = .ok (.getfield 79, 3) := dk_180 0 79 (dk_at dksJ1_append_2_1 11 rfl rfl)
theorem dJ1_append_2_38 : decode cJ1_append_2 38 = .ok (.iload_n 2, 1) := dk_28 (dk_at dksJ1_append_2_1 14 rfl rfl)
theorem dJ1_append_2_39 : decode cJ1_append_2 39 = .ok (.iadd, 1) := dk_96 (dk_at dksJ1_append_2_1 15 rfl rfl)
theorem dJ1_append_2_40 : decode cJ1_append_2 40 = .ok (.putfield 79, 3) := dk_181 0 79 (dk_at dksJ1_append_2_1 16 rfl rfl)
theorem dJ1_append_2_43 : decode cJ1_append_2 43 = .ok (.aload_n 0, 1) := dk_42 (dk_at dksJ1_append_2_1 19 rfl rfl)
theorem dJ1_append_2_44 : decode cJ1_append_2 44 = .ok (.areturn, 1) := dk_176 (dk_at dksJ1_append_2_1 20 rfl rfl)
def dkwJ1_appendNull_3 : List UInt8 := [184, 0, 226, 60, 42, 27, 181, 0, 79, 42, 176]
abbrev dktJ1_appendNull_3 : List UInt8 := dkwJ1_appendNull_3 ++ []
def dkwJ1_appendNull_2 : List UInt8 := [16, 108, 84, 44, 27, 132, 1, 1, 16, 108, 84, 167, 0, 17, 44, 27, 16, 110, 16, 117, 16, 108, 16, 108]
abbrev dktJ1_appendNull_2 : List UInt8 := dkwJ1_appendNull_2 ++ dktJ1_appendNull_3
def dkwJ1_appendNull_1 : List UInt8 := [153, 0, 38, 44, 27, 132, 1, 1, 16, 110, 84, 44, 27, 132, 1, 1, 16, 117, 84, 44, 27, 132, 1, 1]
abbrev dktJ1_appendNull_1 : List UInt8 := dkwJ1_appendNull_1 ++ dktJ1_appendNull_2
def dkwJ1_appendNull_0 : List UInt8 := [42, 42, 180, 0, 79, 7, 96, 182, 0, 100, 42, 180, 0, 79, 60, 42, 180, 0, 15, 77, 42, 182, 0, 83]
abbrev dktJ1_appendNull_0 : List UInt8 := dkwJ1_appendNull_0 ++ dktJ1_appendNull_1
theorem dksJ1_appendNull_0 : cJ1_appendNull.data.toList.drop 0 = dktJ1_appendNull_0 := by decide +kernel
theorem dksJ1_appendNull_1 : cJ1_appendNull.data.toList.drop 24 = dktJ1_appendNull_1 := dk_seg dksJ1_appendNull_0 24 rfl rfl
theorem dksJ1_appendNull_2 : cJ1_appendNull.data.toList.drop 48 = dktJ1_appendNull_2 := dk_seg dksJ1_appendNull_1 24 rfl rfl
theorem dksJ1_appendNull_3 : cJ1_appendNull.data.toList.drop 72 = dktJ1_appendNull_3 := dk_seg dksJ1_appendNull_2 24 rfl rfl
theorem dJ1_appendNull_0 : decode cJ1_appendNull 0 = .ok (.aload_n 0, 1) := dk_42 (dk_at dksJ1_appendNull_0 0 rfl rfl)
theorem dJ1_appendNull_1 : decode cJ1_appendNull 1 = .ok (.aload_n 0, 1) := dk_42 (dk_at dksJ1_appendNull_0 1 rfl rfl)
theorem dJ1_appendNull_2 : decode cJ1_appendNull 2 = .ok (.getfield 79, 3) := dk_180 0 79 (dk_at dksJ1_appendNull_0 2 rfl rfl)
theorem dJ1_appendNull_5 : decode cJ1_appendNull 5 = .ok (.iconst 4, 1) := dk_7 (dk_at dksJ1_appendNull_0 5 rfl rfl)
theorem dJ1_appendNull_6 : decode cJ1_appendNull 6 = .ok (.iadd, 1) := dk_96 (dk_at dksJ1_appendNull_0 6 rfl rfl)
theorem dJ1_appendNull_7 : decode cJ1_appendNull 7 = .ok (.invokevirtual 100, 3) := dk_182 0 100 (dk_at dksJ1_appendNull_0 7 rfl rfl)
theorem dJ1_appendNull_10 : decode cJ1_appendNull 10 = .ok (.aload_n 0, 1) := dk_42 (dk_at dksJ1_appendNull_0 10 rfl rfl)
theorem dJ1_appendNull_11 : decode cJ1_appendNull 11 = .ok (.getfield 79, 3) := dk_180 0 79 (dk_at dksJ1_appendNull_0 11 rfl rfl)
theorem dJ1_appendNull_14 : decode cJ1_appendNull 14 = .ok (.istore_n 1, 1) := dk_60 (dk_at dksJ1_appendNull_0 14 rfl rfl)
theorem dJ1_appendNull_15 : decode cJ1_appendNull 15 = .ok (.aload_n 0, 1) := dk_42 (dk_at dksJ1_appendNull_0 15 rfl rfl)
theorem dJ1_appendNull_16 : decode cJ1_appendNull 16 = .ok (.getfield 15, 3) := dk_180 0 15 (dk_at dksJ1_appendNull_0 16 rfl rfl)
theorem dJ1_appendNull_19 : decode cJ1_appendNull 19 = .ok (.astore_n 2, 1) := dk_77 (dk_at dksJ1_appendNull_0 19 rfl rfl)
theorem dJ1_appendNull_20 : decode cJ1_appendNull 20 = .ok (.aload_n 0, 1) := dk_42 (dk_at dksJ1_appendNull_0 20 rfl rfl)
theorem dJ1_appendNull_21 : decode cJ1_appendNull 21 = .ok (.invokevirtual 83, 3) := dk_182 0 83 (dk_at dksJ1_appendNull_0 21 rfl rfl)
theorem dJ1_appendNull_24 : decode cJ1_appendNull 24 = .ok (.ifCond .eq 38, 3) := dk_153 0 38 (dk_at dksJ1_appendNull_1 0 rfl rfl)
theorem dJ1_appendNull_27 : decode cJ1_appendNull 27 = .ok (.aload_n 2, 1) := dk_44 (dk_at dksJ1_appendNull_1 3 rfl rfl)
theorem dJ1_appendNull_28 : decode cJ1_appendNull 28 = .ok (.iload_n 1, 1) := dk_27 (dk_at dksJ1_appendNull_1 4 rfl rfl)
theorem dJ1_appendNull_29 : decode cJ1_appendNull 29 = .ok (.iinc 1 1, 3) := dk_132 1 1 (dk_at dksJ1_appendNull_1 5 rfl rfl)
theorem dJ1_appendNull_32 : decode cJ1_appendNull 32 = .ok (.bipush 110, 2) := dk_16 110 (dk_at dksJ1_appendNull_1 8 rfl rfl)
theorem dJ1_appendNull_34 : decode cJ1_appendNull 34 = .ok (.bastore, 1) := dk_84 (dk_at dksJ1_appendNull_1 10 rfl rfl)
theorem dJ1_appendNull_35 : decode cJ1_appendNull 35 = .ok (.aload_n 2, 1) := dk_44 (dk_at dksJ1_appendNull_1 11 rfl rfl)
theorem dJ1_appendNull_36 : decode cJ1_appendNull 36 = .ok (.iload_n 1, 1) := dk_27 (dk_at dksJ1_appendNull_1 12 rfl rfl)
theorem dJ1_appendNull_37 : decode cJ1_appendNull 37 = .ok (.iinc 1 1, 3) := dk_132 1 1 (dk_at dksJ1_appendNull_1 13 rfl rfl)
theorem dJ1_appendNull_40 : decode cJ1_appendNull 40 = .ok (.bipush 117, 2) := dk_16 117 (dk_at dksJ1_appendNull_1 16 rfl rfl)
theorem dJ1_appendNull_42 : decode cJ1_appendNull 42 = .ok (.bastore, 1) := dk_84 (dk_at dksJ1_appendNull_1 18 rfl rfl)
theorem dJ1_appendNull_43 : decode cJ1_appendNull 43 = .ok (.aload_n 2, 1) := dk_44 (dk_at dksJ1_appendNull_1 19 rfl rfl)
theorem dJ1_appendNull_44 : decode cJ1_appendNull 44 = .ok (.iload_n 1, 1) := dk_27 (dk_at dksJ1_appendNull_1 20 rfl rfl)
theorem dJ1_appendNull_45 : decode cJ1_appendNull 45 = .ok (.iinc 1 1, 3) := dk_132 1 1 (dk_at dksJ1_appendNull_1 21 rfl rfl)
theorem dJ1_appendNull_48 : decode cJ1_appendNull 48 = .ok (.bipush 108, 2) := dk_16 108 (dk_at dksJ1_appendNull_2 0 rfl rfl)
theorem dJ1_appendNull_50 : decode cJ1_appendNull 50 = .ok (.bastore, 1) := dk_84 (dk_at dksJ1_appendNull_2 2 rfl rfl)
theorem dJ1_appendNull_51 : decode cJ1_appendNull 51 = .ok (.aload_n 2, 1) := dk_44 (dk_at dksJ1_appendNull_2 3 rfl rfl)
theorem dJ1_appendNull_52 : decode cJ1_appendNull 52 = .ok (.iload_n 1, 1) := dk_27 (dk_at dksJ1_appendNull_2 4 rfl rfl)
theorem dJ1_appendNull_53 : decode cJ1_appendNull 53 = .ok (.iinc 1 1, 3) := dk_132 1 1 (dk_at dksJ1_appendNull_2 5 rfl rfl)
theorem dJ1_appendNull_56 : decode cJ1_appendNull 56 = .ok (.bipush 108, 2) := dk_16 108 (dk_at dksJ1_appendNull_2 8 rfl rfl)
theorem dJ1_appendNull_58 : decode cJ1_appendNull 58 = .ok (.bastore, 1) := dk_84 (dk_at dksJ1_appendNull_2 10 rfl rfl)
theorem dJ1_appendNull_59 : decode cJ1_appendNull 59 = .ok (.goto 17, 3) := dk_167 0 17 (dk_at dksJ1_appendNull_2 11 rfl rfl)
theorem dJ1_appendNull_62 : decode cJ1_appendNull 62 = .ok (.aload_n 2, 1) := dk_44 (dk_at dksJ1_appendNull_2 14 rfl rfl)
theorem dJ1_appendNull_63 : decode cJ1_appendNull 63 = .ok (.iload_n 1, 1) := dk_27 (dk_at dksJ1_appendNull_2 15 rfl rfl)
theorem dJ1_appendNull_64 : decode cJ1_appendNull 64 = .ok (.bipush 110, 2) := dk_16 110 (dk_at dksJ1_appendNull_2 16 rfl rfl)
theorem dJ1_appendNull_66 : decode cJ1_appendNull 66 = .ok (.bipush 117, 2) := dk_16 117 (dk_at dksJ1_appendNull_2 18 rfl rfl)
theorem dJ1_appendNull_68 : decode cJ1_appendNull 68 = .ok (.bipush 108, 2) := dk_16 108 (dk_at dksJ1_appendNull_2 20 rfl rfl)
theorem dJ1_appendNull_70 : decode cJ1_appendNull 70 = .ok (.bipush 108, 2) := dk_16 108 (dk_at dksJ1_appendNull_2 22 rfl rfl)
theorem dJ1_appendNull_72 : decode cJ1_appendNull 72 = .ok (.invokestatic 226, 3) := dk_184 0 226 (dk_at dksJ1_appendNull_3 0 rfl rfl)
theorem dJ1_appendNull_75 : decode cJ1_appendNull 75 = .ok (.istore_n 1, 1) := dk_60 (dk_at dksJ1_appendNull_3 3 rfl rfl)
theorem dJ1_appendNull_76 : decode cJ1_appendNull 76 = .ok (.aload_n 0, 1) := dk_42 (dk_at dksJ1_appendNull_3 4 rfl rfl)
theorem dJ1_appendNull_77 : decode cJ1_appendNull 77 = .ok (.iload_n 1, 1) := dk_27 (dk_at dksJ1_appendNull_3 5 rfl rfl)
theorem dJ1_appendNull_78 : decode cJ1_appendNull 78 = .ok (.putfield 79, 3) := dk_181 0 79 (dk_at dksJ1_appendNull_3 6 rfl rfl)
theorem dJ1_appendNull_81 : decode cJ1_appendNull 81 = .ok (.aload_n 0, 1) := dk_42 (dk_at dksJ1_appendNull_3 9 rfl rfl)
theorem dJ1_appendNull_82 : decode cJ1_appendNull 82 = .ok (.areturn, 1) := dk_176 (dk_at dksJ1_appendNull_3 10 rfl rfl)
def dkwJ1_putStringAt_0 : List UInt8 := [42, 44, 182, 1, 141, 44, 42, 180, 0, 15, 27, 42, 180, 0, 22, 182, 1, 143, 177]
abbrev dktJ1_putStringAt_0 : List UInt8 := dkwJ1_putStringAt_0 ++ []
theorem dksJ1_putStringAt_0 : cJ1_putStringAt.data.toList.drop 0 = dktJ1_putStringAt_0 := by decide +kernel
theorem dJ1_putStringAt_0 : decode cJ1_putStringAt 0 = .ok (.aload_n 0, 1) := dk_42 (dk_at dksJ1_putStringAt_0 0 rfl rfl)
theorem dJ1_putStringAt_1 : decode cJ1_putStringAt 1 = .ok (.aload_n 2, 1) := dk_44 (dk_at dksJ1_putStringAt_0 1 rfl rfl)
theorem dJ1_putStringAt_2 : decode cJ1_putStringAt 2 = .ok (.invokevirtual 397, 3) := dk_182 1 141 (dk_at dksJ1_putStringAt_0 2 rfl rfl)
theorem dJ1_putStringAt_5 : decode cJ1_putStringAt 5 = .ok (.aload_n 2, 1) := dk_44 (dk_at dksJ1_putStringAt_0 5 rfl rfl)
theorem dJ1_putStringAt_6 : decode cJ1_putStringAt 6 = .ok (.aload_n 0, 1) := dk_42 (dk_at dksJ1_putStringAt_0 6 rfl rfl)
theorem dJ1_putStringAt_7 : decode cJ1_putStringAt 7 = .ok (.getfield 15, 3) := dk_180 0 15 (dk_at dksJ1_putStringAt_0 7 rfl rfl)
theorem dJ1_putStringAt_10 : decode cJ1_putStringAt 10 = .ok (.iload_n 1, 1) := dk_27 (dk_at dksJ1_putStringAt_0 10 rfl rfl)
theorem dJ1_putStringAt_11 : decode cJ1_putStringAt 11 = .ok (.aload_n 0, 1) := dk_42 (dk_at dksJ1_putStringAt_0 11 rfl rfl)
theorem dJ1_putStringAt_12 : decode cJ1_putStringAt 12 = .ok (.getfield 22, 3) := dk_180 0 22 (dk_at dksJ1_putStringAt_0 12 rfl rfl)
theorem dJ1_putStringAt_15 : decode cJ1_putStringAt 15 = .ok (.invokevirtual 399, 3) := dk_182 1 143 (dk_at dksJ1_putStringAt_0 15 rfl rfl)
theorem dJ1_putStringAt_18 : decode cJ1_putStringAt 18 = .ok (.return_, 1) := dk_177 (dk_at dksJ1_putStringAt_0 18 rfl rfl)
def dkwJ1_inflateIfNeededFor_0 : List UInt8 := [178, 0, 18, 153, 0, 18, 42, 180, 0, 22, 43, 182, 0, 40, 159, 0, 7, 42, 182, 0, 195, 177]
abbrev dktJ1_inflateIfNeededFor_0 : List UInt8 := dkwJ1_inflateIfNeededFor_0 ++ []
theorem dksJ1_inflateIfNeededFor_0 : cJ1_inflateIfNeededFor.data.toList.drop 0 = dktJ1_inflateIfNeededFor_0 := by decide +kernel
theorem dJ1_inflateIfNeededFor_0 : decode cJ1_inflateIfNeededFor 0 = .ok (.getstatic 18, 3) := dk_178 0 18 (dk_at dksJ1_inflateIfNeededFor_0 0 rfl rfl)
theorem dJ1_inflateIfNeededFor_3 : decode cJ1_inflateIfNeededFor 3 = .ok (.ifCond .eq 18, 3) := dk_153 0 18 (dk_at dksJ1_inflateIfNeededFor_0 3 rfl rfl)
theorem dJ1_inflateIfNeededFor_6 : decode cJ1_inflateIfNeededFor 6 = .ok (.aload_n 0, 1) := dk_42 (dk_at dksJ1_inflateIfNeededFor_0 6 rfl rfl)
theorem dJ1_inflateIfNeededFor_7 : decode cJ1_inflateIfNeededFor 7 = .ok (.getfield 22, 3) := dk_180 0 22 (dk_at dksJ1_inflateIfNeededFor_0 7 rfl rfl)
theorem dJ1_inflateIfNeededFor_10 : decode cJ1_inflateIfNeededFor 10 = .ok (.aload_n 1, 1) := dk_43 (dk_at dksJ1_inflateIfNeededFor_0 10 rfl rfl)
theorem dJ1_inflateIfNeededFor_11 : decode cJ1_inflateIfNeededFor 11 = .ok (.invokevirtual 40, 3) := dk_182 0 40 (dk_at dksJ1_inflateIfNeededFor_0 11 rfl rfl)
theorem dJ1_inflateIfNeededFor_14 : decode cJ1_inflateIfNeededFor 14 = .ok (.if_icmp .eq 7, 3) := dk_159 0 7 (dk_at dksJ1_inflateIfNeededFor_0 14 rfl rfl)
theorem dJ1_inflateIfNeededFor_17 : decode cJ1_inflateIfNeededFor 17 = .ok (.aload_n 0, 1) := dk_42 (dk_at dksJ1_inflateIfNeededFor_0 17 rfl rfl)
theorem dJ1_inflateIfNeededFor_18 : decode cJ1_inflateIfNeededFor 18 = .ok (.invokevirtual 195, 3) := dk_182 0 195 (dk_at dksJ1_inflateIfNeededFor_0 18 rfl rfl)
theorem dJ1_inflateIfNeededFor_21 : decode cJ1_inflateIfNeededFor 21 = .ok (.return_, 1) := dk_177 (dk_at dksJ1_inflateIfNeededFor_0 21 rfl rfl)
def dkwJ1_append_3_2 : List UInt8 := [42, 29, 181, 0, 79, 42, 176]
abbrev dktJ1_append_3_2 : List UInt8 := dkwJ1_append_3_2 ++ []
def dkwJ1_append_3_1 : List UInt8 := [27, 29, 42, 180, 0, 15, 184, 0, 248, 87, 167, 0, 14, 27, 28, 29, 42, 180, 0, 15, 184, 0, 251, 87]
abbrev dktJ1_append_3_1 : List UInt8 := dkwJ1_append_3_1 ++ dktJ1_append_3_2
def dkwJ1_append_3_0 : List UInt8 := [42, 180, 0, 79, 61, 28, 27, 184, 0, 245, 96, 62, 42, 29, 182, 0, 100, 42, 182, 0, 83, 153, 0, 16]
abbrev dktJ1_append_3_0 : List UInt8 := dkwJ1_append_3_0 ++ dktJ1_append_3_1
theorem dksJ1_append_3_0 : cJ1_append_3.data.toList.drop 0 = dktJ1_append_3_0 := by decide +kernel
theorem dksJ1_append_3_1 : cJ1_append_3.data.toList.drop 24 = dktJ1_append_3_1 := dk_seg dksJ1_append_3_0 24 rfl rfl
theorem dksJ1_append_3_2 : cJ1_append_3.data.toList.drop 48 = dktJ1_append_3_2 := dk_seg dksJ1_append_3_1 24 rfl rfl
theorem dJ1_append_3_0 : decode cJ1_append_3 0 = .ok (.aload_n 0, 1) := dk_42 (dk_at dksJ1_append_3_0 0 rfl rfl)
theorem dJ1_append_3_1 : decode cJ1_append_3 1 = .ok (.getfield 79, 3) := dk_180 0 79 (dk_at dksJ1_append_3_0 1 rfl rfl)
theorem dJ1_append_3_4 : decode cJ1_append_3 4 = .ok (.istore_n 2, 1) := dk_61 (dk_at dksJ1_append_3_0 4 rfl rfl)
theorem dJ1_append_3_5 : decode cJ1_append_3 5 = .ok (.iload_n 2, 1) := dk_28 (dk_at dksJ1_append_3_0 5 rfl rfl)
theorem dJ1_append_3_6 : decode cJ1_append_3 6 = .ok (.iload_n 1, 1) := dk_27 (dk_at dksJ1_append_3_0 6 rfl rfl)
theorem dJ1_append_3_7 : decode cJ1_append_3 7 = .ok (.invokestatic 245, 3) := dk_184 0 245 (dk_at dksJ1_append_3_0 7 rfl rfl)
theorem dJ1_append_3_10 : decode cJ1_append_3 10 = .ok (.iadd, 1) := dk_96 (dk_at dksJ1_append_3_0 10 rfl rfl)
theorem dJ1_append_3_11 : decode cJ1_append_3 11 = .ok (.istore_n 3, 1) := dk_62 (dk_at dksJ1_append_3_0 11 rfl rfl)
theorem dJ1_append_3_12 : decode cJ1_append_3 12 = .ok (.aload_n 0, 1) := dk_42 (dk_at dksJ1_append_3_0 12 rfl rfl)
theorem dJ1_append_3_13 : decode cJ1_append_3 13 = .ok (.iload_n 3, 1) := dk_29 (dk_at dksJ1_append_3_0 13 rfl rfl)
theorem dJ1_append_3_14 : decode cJ1_append_3 14 = .ok (.invokevirtual 100, 3) := dk_182 0 100 (dk_at dksJ1_append_3_0 14 rfl rfl)
theorem dJ1_append_3_17 : decode cJ1_append_3 17 = .ok (.aload_n 0, 1) := dk_42 (dk_at dksJ1_append_3_0 17 rfl rfl)
theorem dJ1_append_3_18 : decode cJ1_append_3 18 = .ok (.invokevirtual 83, 3) := dk_182 0 83 (dk_at dksJ1_append_3_0 18 rfl rfl)
theorem dJ1_append_3_21 : decode cJ1_append_3 21 = .ok (.ifCond .eq 16, 3) := dk_153 0 16 (dk_at dksJ1_append_3_0 21 rfl rfl)
theorem dJ1_append_3_24 : decode cJ1_append_3 24 = .ok (.iload_n 1, 1) := dk_27 (dk_at dksJ1_append_3_1 0 rfl rfl)
theorem dJ1_append_3_25 : decode cJ1_append_3 25 = .ok (.iload_n 3, 1) := dk_29 (dk_at dksJ1_append_3_1 1 rfl rfl)
theorem dJ1_append_3_26 : decode cJ1_append_3 26 = .ok (.aload_n 0, 1) := dk_42 (dk_at dksJ1_append_3_1 2 rfl rfl)
theorem dJ1_append_3_27 : decode cJ1_append_3 27 = .ok (.getfield 15, 3) := dk_180 0 15 (dk_at dksJ1_append_3_1 3 rfl rfl)
theorem dJ1_append_3_30 : decode cJ1_append_3 30 = .ok (.invokestatic 248, 3) := dk_184 0 248 (dk_at dksJ1_append_3_1 6 rfl rfl)
theorem dJ1_append_3_33 : decode cJ1_append_3 33 = .ok (.pop, 1) := dk_87 (dk_at dksJ1_append_3_1 9 rfl rfl)
theorem dJ1_append_3_34 : decode cJ1_append_3 34 = .ok (.goto 14, 3) := dk_167 0 14 (dk_at dksJ1_append_3_1 10 rfl rfl)
theorem dJ1_append_3_37 : decode cJ1_append_3 37 = .ok (.iload_n 1, 1) := dk_27 (dk_at dksJ1_append_3_1 13 rfl rfl)
theorem dJ1_append_3_38 : decode cJ1_append_3 38 = .ok (.iload_n 2, 1) := dk_28 (dk_at dksJ1_append_3_1 14 rfl rfl)
theorem dJ1_append_3_39 : decode cJ1_append_3 39 = .ok (.iload_n 3, 1) := dk_29 (dk_at dksJ1_append_3_1 15 rfl rfl)
theorem dJ1_append_3_40 : decode cJ1_append_3 40 = .ok (.aload_n 0, 1) := dk_42 (dk_at dksJ1_append_3_1 16 rfl rfl)
theorem dJ1_append_3_41 : decode cJ1_append_3 41 = .ok (.getfield 15, 3) := dk_180 0 15 (dk_at dksJ1_append_3_1 17 rfl rfl)
theorem dJ1_append_3_44 : decode cJ1_append_3 44 = .ok (.invokestatic 251, 3) := dk_184 0 251 (dk_at dksJ1_append_3_1 20 rfl rfl)
theorem dJ1_append_3_47 : decode cJ1_append_3 47 = .ok (.pop, 1) := dk_87 (dk_at dksJ1_append_3_1 23 rfl rfl)
theorem dJ1_append_3_48 : decode cJ1_append_3 48 = .ok (.aload_n 0, 1) := dk_42 (dk_at dksJ1_append_3_2 0 rfl rfl)
theorem dJ1_append_3_49 : decode cJ1_append_3 49 = .ok (.iload_n 3, 1) := dk_29 (dk_at dksJ1_append_3_2 1 rfl rfl)
theorem dJ1_append_3_50 : decode cJ1_append_3 50 = .ok (.putfield 79, 3) := dk_181 0 79 (dk_at dksJ1_append_3_2 2 rfl rfl)
theorem dJ1_append_3_53 : decode cJ1_append_3 53 = .ok (.aload_n 0, 1) := dk_42 (dk_at dksJ1_append_3_2 5 rfl rfl)
theorem dJ1_append_3_54 : decode cJ1_append_3 54 = .ok (.areturn, 1) := dk_176 (dk_at dksJ1_append_3_2 6 rfl rfl)
def dkwJ1_charAt_1 : List UInt8 := [21, 4, 184, 0, 144, 28, 154, 0, 12, 45, 27, 51, 17, 0, 255, 126, 146, 172, 45, 27, 184, 0, 148, 172]
abbrev dktJ1_charAt_1 : List UInt8 := dkwJ1_charAt_1 ++ []
def dkwJ1_charAt_0 : List UInt8 := [42, 180, 0, 22, 61, 42, 180, 0, 15, 78, 42, 180, 0, 79, 45, 190, 28, 122, 184, 0, 138, 54, 4, 27]
abbrev dktJ1_charAt_0 : List UInt8 := dkwJ1_charAt_0 ++ dktJ1_charAt_1
theorem dksJ1_charAt_0 : cJ1_charAt.data.toList.drop 0 = dktJ1_charAt_0 := by decide +kernel
theorem dksJ1_charAt_1 : cJ1_charAt.data.toList.drop 24 = dktJ1_charAt_1 := dk_seg dksJ1_charAt_0 24 rfl rfl
theorem dJ1_charAt_0 : decode cJ1_charAt 0 = .ok (.aload_n 0, 1) := dk_42 (dk_at dksJ1_charAt_0 0 rfl rfl)
theorem dJ1_charAt_1 : decode cJ1_charAt 1 = .ok (.getfield 22, 3) := dk_180 0 22 (dk_at dksJ1_charAt_0 1 rfl rfl)
theorem dJ1_charAt_4 : decode cJ1_charAt 4 = .ok (.istore_n 2, 1) := dk_61 (dk_at dksJ1_charAt_0 4 rfl rfl)
theorem dJ1_charAt_5 : decode cJ1_charAt 5 = .ok (.aload_n 0, 1) := dk_42 (dk_at dksJ1_charAt_0 5 rfl rfl)
theorem dJ1_charAt_6 : decode cJ1_charAt 6 = .ok (.getfield 15, 3) := dk_180 0 15 (dk_at dksJ1_charAt_0 6 rfl rfl)
theorem dJ1_charAt_9 : decode cJ1_charAt 9 = .ok (.astore_n 3, 1) := dk_78 (dk_at dksJ1_charAt_0 9 rfl rfl)
theorem dJ1_charAt_10 : decode cJ1_charAt 10 = .ok (.aload_n 0, 1) := dk_42 (dk_at dksJ1_charAt_0 10 rfl rfl)
theorem dJ1_charAt_11 : decode cJ1_charAt 11 = .ok (.getfield 79, 3) := dk_180 0 79 (dk_at dksJ1_charAt_0 11 rfl rfl)
theorem dJ1_charAt_14 : decode cJ1_charAt 14 = .ok (.aload_n 3, 1) := dk_45 (dk_at dksJ1_charAt_0 14 rfl rfl)
theorem dJ1_charAt_15 : decode cJ1_charAt 15 = .ok (.arraylength, 1) := dk_190 (dk_at dksJ1_charAt_0 15 rfl rfl)
theorem dJ1_charAt_16 : decode cJ1_charAt 16 = .ok (.iload_n 2, 1) := dk_28 (dk_at dksJ1_charAt_0 16 rfl rfl)
theorem dJ1_charAt_17 : decode cJ1_charAt 17 = .ok (.ishr, 1) := dk_122 (dk_at dksJ1_charAt_0 17 rfl rfl)
theorem dJ1_charAt_18 : decode cJ1_charAt 18 = .ok (.invokestatic 138, 3) := dk_184 0 138 (dk_at dksJ1_charAt_0 18 rfl rfl)
theorem dJ1_charAt_21 : decode cJ1_charAt 21 = .ok (.istore 4, 2) := dk_54 4 (dk_at dksJ1_charAt_0 21 rfl rfl)
theorem dJ1_charAt_23 : decode cJ1_charAt 23 = .ok (.iload_n 1, 1) := dk_27 (dk_at dksJ1_charAt_0 23 rfl rfl)
theorem dJ1_charAt_24 : decode cJ1_charAt 24 = .ok (.iload 4, 2) := dk_21 4 (dk_at dksJ1_charAt_1 0 rfl rfl)
theorem dJ1_charAt_26 : decode cJ1_charAt 26 = .ok (.invokestatic 144, 3) := dk_184 0 144 (dk_at dksJ1_charAt_1 2 rfl rfl)
theorem dJ1_charAt_29 : decode cJ1_charAt 29 = .ok (.iload_n 2, 1) := dk_28 (dk_at dksJ1_charAt_1 5 rfl rfl)
theorem dJ1_charAt_30 : decode cJ1_charAt 30 = .ok (.ifCond .ne 12, 3) := dk_154 0 12 (dk_at dksJ1_charAt_1 6 rfl rfl)
theorem dJ1_charAt_33 : decode cJ1_charAt 33 = .ok (.aload_n 3, 1) := dk_45 (dk_at dksJ1_charAt_1 9 rfl rfl)
theorem dJ1_charAt_34 : decode cJ1_charAt 34 = .ok (.iload_n 1, 1) := dk_27 (dk_at dksJ1_charAt_1 10 rfl rfl)
theorem dJ1_charAt_35 : decode cJ1_charAt 35 = .ok (.baload, 1) := dk_51 (dk_at dksJ1_charAt_1 11 rfl rfl)
theorem dJ1_charAt_36 : decode cJ1_charAt 36 = .ok (.sipush 255, 3) := dk_17 0 255 (dk_at dksJ1_charAt_1 12 rfl rfl)
theorem dJ1_charAt_39 : decode cJ1_charAt 39 = .ok (.iand, 1) := dk_126 (dk_at dksJ1_charAt_1 15 rfl rfl)
theorem dJ1_charAt_40 : decode cJ1_charAt 40 = .ok (.i2c, 1) := dk_146 (dk_at dksJ1_charAt_1 16 rfl rfl)
theorem dJ1_charAt_41 : decode cJ1_charAt 41 = .ok (.ireturn, 1) := dk_172 (dk_at dksJ1_charAt_1 17 rfl rfl)
theorem dJ1_charAt_42 : decode cJ1_charAt 42 = .ok (.aload_n 3, 1) := dk_45 (dk_at dksJ1_charAt_1 18 rfl rfl)
theorem dJ1_charAt_43 : decode cJ1_charAt 43 = .ok (.iload_n 1, 1) := dk_27 (dk_at dksJ1_charAt_1 19 rfl rfl)
theorem dJ1_charAt_44 : decode cJ1_charAt 44 = .ok (.invokestatic 148, 3) := dk_184 0 148 (dk_at dksJ1_charAt_1 20 rfl rfl)
theorem dJ1_charAt_47 : decode cJ1_charAt 47 = .ok (.ireturn, 1) := dk_172 (dk_at dksJ1_charAt_1 23 rfl rfl)
def dkwJ2_init_0 : List UInt8 := [42, 16, 16, 183, 0, 1, 177]
abbrev dktJ2_init_0 : List UInt8 := dkwJ2_init_0 ++ []
theorem dksJ2_init_0 : cJ2_init.data.toList.drop 0 = dktJ2_init_0 := by decide +kernel
theorem dJ2_init_0 : decode cJ2_init 0 = .ok (.aload_n 0, 1) := dk_42 (dk_at dksJ2_init_0 0 rfl rfl)
theorem dJ2_init_1 : decode cJ2_init 1 = .ok (.bipush 16, 2) := dk_16 16 (dk_at dksJ2_init_0 1 rfl rfl)
theorem dJ2_init_3 : decode cJ2_init 3 = .ok (.invokespecial 1, 3) := dk_183 0 1 (dk_at dksJ2_init_0 3 rfl rfl)
theorem dJ2_init_6 : decode cJ2_init 6 = .ok (.return_, 1) := dk_177 (dk_at dksJ2_init_0 6 rfl rfl)
def dkwJ2_append_0 : List UInt8 := [42, 27, 183, 0, 50, 87, 42, 176]
abbrev dktJ2_append_0 : List UInt8 := dkwJ2_append_0 ++ []
theorem dksJ2_append_0 : cJ2_append.data.toList.drop 0 = dktJ2_append_0 := by decide +kernel
theorem dJ2_append_0 : decode cJ2_append 0 = .ok (.aload_n 0, 1) := dk_42 (dk_at dksJ2_append_0 0 rfl rfl)
theorem dJ2_append_1 : decode cJ2_append 1 = .ok (.iload_n 1, 1) := dk_27 (dk_at dksJ2_append_0 1 rfl rfl)
theorem dJ2_append_2 : decode cJ2_append 2 = .ok (.invokespecial 50, 3) := dk_183 0 50 (dk_at dksJ2_append_0 2 rfl rfl)
theorem dJ2_append_5 : decode cJ2_append 5 = .ok (.pop, 1) := dk_87 (dk_at dksJ2_append_0 5 rfl rfl)
theorem dJ2_append_6 : decode cJ2_append 6 = .ok (.aload_n 0, 1) := dk_42 (dk_at dksJ2_append_0 6 rfl rfl)
theorem dJ2_append_7 : decode cJ2_append 7 = .ok (.areturn, 1) := dk_176 (dk_at dksJ2_append_0 7 rfl rfl)
def dkwJ2_toString_0 : List UInt8 := [187, 0, 18, 89, 42, 183, 0, 137, 176]
abbrev dktJ2_toString_0 : List UInt8 := dkwJ2_toString_0 ++ []
theorem dksJ2_toString_0 : cJ2_toString.data.toList.drop 0 = dktJ2_toString_0 := by decide +kernel
theorem dJ2_toString_0 : decode cJ2_toString 0 = .ok (.new 18, 3) := dk_187 0 18 (dk_at dksJ2_toString_0 0 rfl rfl)
theorem dJ2_toString_3 : decode cJ2_toString 3 = .ok (.dup, 1) := dk_89 (dk_at dksJ2_toString_0 3 rfl rfl)
theorem dJ2_toString_4 : decode cJ2_toString 4 = .ok (.aload_n 0, 1) := dk_42 (dk_at dksJ2_toString_0 4 rfl rfl)
theorem dJ2_toString_5 : decode cJ2_toString 5 = .ok (.invokespecial 137, 3) := dk_183 0 137 (dk_at dksJ2_toString_0 5 rfl rfl)
theorem dJ2_toString_8 : decode cJ2_toString 8 = .ok (.areturn, 1) := dk_176 (dk_at dksJ2_toString_0 8 rfl rfl)
theorem dJ2_length_0 : decode cJ2_length 0 = .ok (.aload_n 0, 1) := by decide +kernel
theorem dJ2_length_1 : decode cJ2_length 1 = .ok (.invokespecial 343, 3) := by decide +kernel
theorem dJ2_length_4 : decode cJ2_length 4 = .ok (.ireturn, 1) := by decide +kernel
def dkwJ2_append_2_0 : List UInt8 := [42, 43, 183, 0, 29, 87, 42, 176]
abbrev dktJ2_append_2_0 : List UInt8 := dkwJ2_append_2_0 ++ []
theorem dksJ2_append_2_0 : cJ2_append_2.data.toList.drop 0 = dktJ2_append_2_0 := by decide +kernel
theorem dJ2_append_2_0 : decode cJ2_append_2 0 = .ok (.aload_n 0, 1) := dk_42 (dk_at dksJ2_append_2_0 0 rfl rfl)
theorem dJ2_append_2_1 : decode cJ2_append_2 1 = .ok (.aload_n 1, 1) := dk_43 (dk_at dksJ2_append_2_0 1 rfl rfl)
theorem dJ2_append_2_2 : decode cJ2_append_2 2 = .ok (.invokespecial 29, 3) := dk_183 0 29 (dk_at dksJ2_append_2_0 2 rfl rfl)
theorem dJ2_append_2_5 : decode cJ2_append_2 5 = .ok (.pop, 1) := dk_87 (dk_at dksJ2_append_2_0 5 rfl rfl)
theorem dJ2_append_2_6 : decode cJ2_append_2 6 = .ok (.aload_n 0, 1) := dk_42 (dk_at dksJ2_append_2_0 6 rfl rfl)
theorem dJ2_append_2_7 : decode cJ2_append_2 7 = .ok (.areturn, 1) := dk_176 (dk_at dksJ2_append_2_0 7 rfl rfl)
def dkwJ2_append_3_0 : List UInt8 := [42, 43, 184, 0, 17, 182, 0, 23, 176]
abbrev dktJ2_append_3_0 : List UInt8 := dkwJ2_append_3_0 ++ []
theorem dksJ2_append_3_0 : cJ2_append_3.data.toList.drop 0 = dktJ2_append_3_0 := by decide +kernel
theorem dJ2_append_3_0 : decode cJ2_append_3 0 = .ok (.aload_n 0, 1) := dk_42 (dk_at dksJ2_append_3_0 0 rfl rfl)
theorem dJ2_append_3_1 : decode cJ2_append_3 1 = .ok (.aload_n 1, 1) := dk_43 (dk_at dksJ2_append_3_0 1 rfl rfl)
theorem dJ2_append_3_2 : decode cJ2_append_3 2 = .ok (.invokestatic 17, 3) := dk_184 0 17 (dk_at dksJ2_append_3_0 2 rfl rfl)
theorem dJ2_append_3_5 : decode cJ2_append_3 5 = .ok (.invokevirtual 23, 3) := dk_182 0 23 (dk_at dksJ2_append_3_0 5 rfl rfl)
theorem dJ2_append_3_8 : decode cJ2_append_3 8 = .ok (.areturn, 1) := dk_176 (dk_at dksJ2_append_3_0 8 rfl rfl)
def dkwJ2_append_4_0 : List UInt8 := [42, 27, 183, 0, 53, 87, 42, 176]
abbrev dktJ2_append_4_0 : List UInt8 := dkwJ2_append_4_0 ++ []
theorem dksJ2_append_4_0 : cJ2_append_4.data.toList.drop 0 = dktJ2_append_4_0 := by decide +kernel
theorem dJ2_append_4_0 : decode cJ2_append_4 0 = .ok (.aload_n 0, 1) := dk_42 (dk_at dksJ2_append_4_0 0 rfl rfl)
theorem dJ2_append_4_1 : decode cJ2_append_4 1 = .ok (.iload_n 1, 1) := dk_27 (dk_at dksJ2_append_4_0 1 rfl rfl)
theorem dJ2_append_4_2 : decode cJ2_append_4 2 = .ok (.invokespecial 53, 3) := dk_183 0 53 (dk_at dksJ2_append_4_0 2 rfl rfl)
theorem dJ2_append_4_5 : decode cJ2_append_4 5 = .ok (.pop, 1) := dk_87 (dk_at dksJ2_append_4_0 5 rfl rfl)
theorem dJ2_append_4_6 : decode cJ2_append_4 6 = .ok (.aload_n 0, 1) := dk_42 (dk_at dksJ2_append_4_0 6 rfl rfl)
theorem dJ2_append_4_7 : decode cJ2_append_4 7 = .ok (.areturn, 1) := dk_176 (dk_at dksJ2_append_4_0 7 rfl rfl)
def dkwJ2_charAt_0 : List UInt8 := [42, 27, 183, 1, 73, 172]
abbrev dktJ2_charAt_0 : List UInt8 := dkwJ2_charAt_0 ++ []
theorem dksJ2_charAt_0 : cJ2_charAt.data.toList.drop 0 = dktJ2_charAt_0 := by decide +kernel
theorem dJ2_charAt_0 : decode cJ2_charAt 0 = .ok (.aload_n 0, 1) := dk_42 (dk_at dksJ2_charAt_0 0 rfl rfl)
theorem dJ2_charAt_1 : decode cJ2_charAt 1 = .ok (.iload_n 1, 1) := dk_27 (dk_at dksJ2_charAt_0 1 rfl rfl)
theorem dJ2_charAt_2 : decode cJ2_charAt 2 = .ok (.invokespecial 329, 3) := dk_183 1 73 (dk_at dksJ2_charAt_0 2 rfl rfl)
theorem dJ2_charAt_5 : decode cJ2_charAt 5 = .ok (.ireturn, 1) := dk_172 (dk_at dksJ2_charAt_0 5 rfl rfl)
def dkwJ3_checkBoundsOffCount_0 : List UInt8 := [26, 27, 28, 178, 4, 29, 184, 4, 41, 172]
abbrev dktJ3_checkBoundsOffCount_0 : List UInt8 := dkwJ3_checkBoundsOffCount_0 ++ []
theorem dksJ3_checkBoundsOffCount_0 : cJ3_checkBoundsOffCount.data.toList.drop 0 = dktJ3_checkBoundsOffCount_0 := by decide +kernel
theorem dJ3_checkBoundsOffCount_0 : decode cJ3_checkBoundsOffCount 0 = .ok (.iload_n 0, 1) := dk_26 (dk_at dksJ3_checkBoundsOffCount_0 0 rfl rfl)
theorem dJ3_checkBoundsOffCount_1 : decode cJ3_checkBoundsOffCount 1 = .ok (.iload_n 1, 1) := dk_27 (dk_at dksJ3_checkBoundsOffCount_0 1 rfl rfl)
theorem dJ3_checkBoundsOffCount_2 : decode cJ3_checkBoundsOffCount 2 = .ok (.iload_n 2, 1) := dk_28 (dk_at dksJ3_checkBoundsOffCount_0 2 rfl rfl)
theorem dJ3_checkBoundsOffCount_3 : decode cJ3_checkBoundsOffCount 3 = .ok (.getstatic 1053, 3) := dk_178 4 29 (dk_at dksJ3_checkBoundsOffCount_0 3 rfl rfl)
theorem dJ3_checkBoundsOffCount_6 : decode cJ3_checkBoundsOffCount 6 = .ok (.invokestatic 1065, 3) := dk_184 4 41 (dk_at dksJ3_checkBoundsOffCount_0 6 rfl rfl)
theorem dJ3_checkBoundsOffCount_9 : decode cJ3_checkBoundsOffCount 9 = .ok (.ireturn, 1) := dk_172 (dk_at dksJ3_checkBoundsOffCount_0 9 rfl rfl)
def dkwJ3_checkIndex_0 : List UInt8 := [26, 27, 178, 4, 29, 184, 4, 35, 87, 177]
abbrev dktJ3_checkIndex_0 : List UInt8 := dkwJ3_checkIndex_0 ++ []
theorem dksJ3_checkIndex_0 : cJ3_checkIndex.data.toList.drop 0 = dktJ3_checkIndex_0 := by decide +kernel
theorem dJ3_checkIndex_0 : decode cJ3_checkIndex 0 = .ok (.iload_n 0, 1) := dk_26 (dk_at dksJ3_checkIndex_0 0 rfl rfl)
theorem dJ3_checkIndex_1 : decode cJ3_checkIndex 1 = .ok (.iload_n 1, 1) := dk_27 (dk_at dksJ3_checkIndex_0 1 rfl rfl)
theorem dJ3_checkIndex_2 : decode cJ3_checkIndex 2 = .ok (.getstatic 1053, 3) := dk_178 4 29 (dk_at dksJ3_checkIndex_0 2 rfl rfl)
theorem dJ3_checkIndex_5 : decode cJ3_checkIndex 5 = .ok (.invokestatic 1059, 3) := dk_184 4 35 (dk_at dksJ3_checkIndex_0 5 rfl rfl)
theorem dJ3_checkIndex_8 : decode cJ3_checkIndex 8 = .ok (.pop, 1) := dk_87 (dk_at dksJ3_checkIndex_0 8 rfl rfl)
theorem dJ3_checkIndex_9 : decode cJ3_checkIndex 9 = .ok (.return_, 1) := dk_177 (dk_at dksJ3_checkIndex_0 9 rfl rfl)
theorem dJ3_toString_0 : decode cJ3_toString 0 = .ok (.aload_n 0, 1) := by decide +kernel
theorem dJ3_toString_1 : decode cJ3_toString 1 = .ok (.areturn, 1) := by decide +kernel
def dkwJ3_init_0 : List UInt8 := [42, 43, 1, 183, 1, 233, 177]
abbrev dktJ3_init_0 : List UInt8 := dkwJ3_init_0 ++ []
theorem dksJ3_init_0 : cJ3_init.data.toList.drop 0 = dktJ3_init_0 := by decide +kernel
theorem dJ3_init_0 : decode cJ3_init 0 = .ok (.aload_n 0, 1) := dk_42 (dk_at dksJ3_init_0 0 rfl rfl)
theorem dJ3_init_1 : decode cJ3_init 1 = .ok (.aload_n 1, 1) := dk_43 (dk_at dksJ3_init_0 1 rfl rfl)
theorem dJ3_init_2 : decode cJ3_init 2 = .ok (.aconst_null, 1) := dk_1 (dk_at dksJ3_init_0 2 rfl rfl)
theorem dJ3_init_3 : decode cJ3_init 3 = .ok (.invokespecial 489, 3) := dk_183 1 233 (dk_at dksJ3_init_0 3 rfl rfl)
theorem dJ3_init_6 : decode cJ3_init 6 = .ok (.return_, 1) := dk_177 (dk_at dksJ3_init_0 6 rfl rfl)
def dkwJ3_init_2_4 : List UInt8 := [181, 0, 9, 177]
abbrev dktJ3_init_2_4 : List UInt8 := dkwJ3_init_2_4 ++ []
def dkwJ3_init_2_3 : List UInt8 := [184, 0, 47, 181, 0, 15, 177, 42, 4, 181, 0, 15, 42, 45, 3, 21, 4, 4, 120, 184, 0, 54]
abbrev dktJ3_init_2_3 : List UInt8 := dkwJ3_init_2_3 ++ dktJ3_init_2_4
def dkwJ3_init_2_2 : List UInt8 := [180, 4, 24, 153, 0, 28, 42, 45, 3, 21, 4, 184, 4, 27, 181, 0, 9, 42, 42, 180, 0, 9, 21, 4]
abbrev dktJ3_init_2_2 : List UInt8 := dkwJ3_init_2_2 ++ dktJ3_init_2_3
def dkwJ3_init_2_1 : List UInt8 := [181, 0, 15, 42, 45, 3, 21, 4, 184, 0, 54, 181, 0, 9, 167, 0, 59, 178, 0, 38, 153, 0, 35, 43]
abbrev dktJ3_init_2_1 : List UInt8 := dkwJ3_init_2_1 ++ dktJ3_init_2_2
def dkwJ3_init_2_0 : List UInt8 := [42, 183, 0, 1, 43, 182, 2, 40, 78, 43, 182, 2, 37, 54, 4, 43, 182, 4, 23, 153, 0, 22, 42, 3]
abbrev dktJ3_init_2_0 : List UInt8 := dkwJ3_init_2_0 ++ dktJ3_init_2_1
theorem dksJ3_init_2_0 : cJ3_init_2.data.toList.drop 0 = dktJ3_init_2_0 := by decide +kernel
theorem dksJ3_init_2_1 : cJ3_init_2.data.toList.drop 24 = dktJ3_init_2_1 := dk_seg dksJ3_init_2_0 24 rfl rfl
theorem dksJ3_init_2_2 : cJ3_init_2.data.toList.drop 48 = dktJ3_init_2_2 := dk_seg dksJ3_init_2_1 24 rfl rfl
theorem dksJ3_init_2_3 : cJ3_init_2.data.toList.drop 72 = dktJ3_init_2_3 := dk_seg dksJ3_init_2_2 24 rfl rfl
theorem dksJ3_init_2_4 : cJ3_init_2.data.toList.drop 94 = dktJ3_init_2_4 := dk_seg dksJ3_init_2_3 22 rfl rfl
theorem dJ3_init_2_0 : decode cJ3_init_2 0 = .ok (.aload_n 0, 1) := dk_42 (dk_at dksJ3_init_2_0 0 rfl rfl)
theorem dJ3_init_2_1 : decode cJ3_init_2 1 = .ok (.invokespecial 1, 3) := dk_183 0 1 (dk_at dksJ3_init_2_0 1 rfl rfl)
theorem dJ3_init_2_4 : decode cJ3_init_2 4 = .ok (.aload_n 1, 1) := dk_43 (dk_at dksJ3_init_2_0 4 rfl rfl)
theorem dJ3_init_2_5 : decode cJ3_init_2 5 = .ok (.invokevirtual 552, 3) := dk_182 2 40 (dk_at dksJ3_init_2_0 5 rfl rfl)
theorem dJ3_init_2_8 : decode cJ3_init_2 8 = .ok (.astore_n 3, 1) := dk_78 (dk_at dksJ3_init_2_0 8 rfl rfl)
theorem dJ3_init_2_9 : decode cJ3_init_2 9 = .ok (.aload_n 1, 1) := dk_43 (dk_at dksJ3_init_2_0 9 rfl rfl)
theorem dJ3_init_2_10 : decode cJ3_init_2 10 = .ok (.invokevirtual 549, 3) := dk_182 2 37 (dk_at dksJ3_init_2_0 10 rfl rfl)
theorem dJ3_init_2_13 : decode cJ3_init_2 13 = .ok (.istore 4, 2) := dk_54 4 (dk_at dksJ3_init_2_0 13 rfl rfl)
theorem dJ3_init_2_15 : decode cJ3_init_2 15 = .ok (.aload_n 1, 1) := dk_43 (dk_at dksJ3_init_2_0 15 rfl rfl)
theorem dJ3_init_2_16 : decode cJ3_init_2 16 = .ok (.invokevirtual 1047, 3) := dk_182 4 23 (dk_at dksJ3_init_2_0 16 rfl rfl)
theorem dJ3_init_2_19 : decode cJ3_init_2 19 = .ok (.ifCond .eq 22, 3) := dk_153 0 22 (dk_at dksJ3_init_2_0 19 rfl rfl)
theorem dJ3_init_2_22 : decode cJ3_init_2 22 = .ok (.aload_n 0, 1) := dk_42 (dk_at dksJ3_init_2_0 22 rfl rfl)
theorem dJ3_init_2_23 : decode cJ3_init_2 23 = .ok (.iconst 0, 1) := dk_3 (dk_at dksJ3_init_2_0 23 rfl rfl)
theorem dJ3_init_2_24 : decode cJ3_init_2 24 = .ok (.putfield 15, 3) := dk_181 0 15 (dk_at dksJ3_init_2_1 0 rfl rfl)
theorem dJ3_init_2_27 : decode cJ3_init_2 27 = .ok (.aload_n 0, 1) := dk_42 (dk_at dksJ3_init_2_1 3 rfl rfl)
theorem dJ3_init_2_28 : decode cJ3_init_2 28 = .ok (.aload_n 3, 1) := dk_45 (dk_at dksJ3_init_2_1 4 rfl rfl)
theorem dJ3_init_2_29 : decode cJ3_init_2 29 = .ok (.iconst 0, 1) := dk_3 (dk_at dksJ3_init_2_1 5 rfl rfl)
theorem dJ3_init_2_30 : decode cJ3_init_2 30 = .ok (.iload 4, 2) := dk_21 4 (dk_at dksJ3_init_2_1 6 rfl rfl)
theorem dJ3_init_2_32 : decode cJ3_init_2 32 = .ok (.invokestatic 54, 3) := dk_184 0 54 (dk_at dksJ3_init_2_1 8 rfl rfl)
theorem dJ3_init_2_35 : decode cJ3_init_2 35 = .ok (.putfield 9, 3) := dk_181 0 9 (dk_at dksJ3_init_2_1 11 rfl rfl)
theorem dJ3_init_2_38 : decode cJ3_init_2 38 = .ok (.goto 59, 3) := dk_167 0 59 (dk_at dksJ3_init_2_1 14 rfl rfl)
theorem dJ3_init_2_41 : decode cJ3_init_2 41 = .ok (.getstatic 38, 3) := dk_178 0 38 (dk_at dksJ3_init_2_1 17 rfl rfl)
theorem dJ3_init_2_44 : decode cJ3_init_2 44 = .ok (.ifCond .eq 35, 3) := dk_153 0 35 (dk_at dksJ3_init_2_1 20 rfl rfl)
theorem dJ3_init_2_47 : decode cJ3_init_2 47 = .ok (.aload_n 1, 1) := dk_43 (dk_at dksJ3_init_2_1 23 rfl rfl)
theorem dJ3_init_2_48 : decode cJ3_init_2 48 = .ok (.getfield 1048, 3) := dk_180 4 24 (dk_at dksJ3_init_2_2 0 rfl rfl)
theorem dJ3_init_2_51 : decode cJ3_init_2 51 = .ok (.ifCond .eq 28, 3) := dk_153 0 28 (dk_at dksJ3_init_2_2 3 rfl rfl)
theorem dJ3_init_2_54 : decode cJ3_init_2 54 = .ok (.aload_n 0, 1) := dk_42 (dk_at dksJ3_init_2_2 6 rfl rfl)
theorem dJ3_init_2_55 : decode cJ3_init_2 55 = .ok (.aload_n 3, 1) := dk_45 (dk_at dksJ3_init_2_2 7 rfl rfl)
theorem dJ3_init_2_56 : decode cJ3_init_2 56 = .ok (.iconst 0, 1) := dk_3 (dk_at dksJ3_init_2_2 8 rfl rfl)
theorem dJ3_init_2_57 : decode cJ3_init_2 57 = .ok (.iload 4, 2) := dk_21 4 (dk_at dksJ3_init_2_2 9 rfl rfl)
theorem dJ3_init_2_59 : decode cJ3_init_2 59 = .ok (.invokestatic 1051, 3) := dk_184 4 27 (dk_at dksJ3_init_2_2 11 rfl rfl)
theorem dJ3_init_2_62 : decode cJ3_init_2 62 = .ok (.putfield 9, 3) := dk_181 0 9 (dk_at dksJ3_init_2_2 14 rfl rfl)
theorem dJ3_init_2_65 : decode cJ3_init_2 65 = .ok (.aload_n 0, 1) := dk_42 (dk_at dksJ3_init_2_2 17 rfl rfl)
theorem dJ3_init_2_66 : decode cJ3_init_2 66 = .ok (.aload_n 0, 1) := dk_42 (dk_at dksJ3_init_2_2 18 rfl rfl)
theorem dJ3_init_2_67 : decode cJ3_init_2 67 = .ok (.getfield 9, 3) := dk_180 0 9 (dk_at dksJ3_init_2_2 19 rfl rfl)
theorem dJ3_init_2_70 : decode cJ3_init_2 70 = .ok (.iload 4, 2) := dk_21 4 (dk_at dksJ3_init_2_2 22 rfl rfl)
theorem dJ3_init_2_72 : decode cJ3_init_2 72 = .ok (.invokestatic 47, 3) := dk_184 0 47 (dk_at dksJ3_init_2_3 0 rfl rfl)
theorem dJ3_init_2_75 : decode cJ3_init_2 75 = .ok (.putfield 15, 3) := dk_181 0 15 (dk_at dksJ3_init_2_3 3 rfl rfl)
theorem dJ3_init_2_78 : decode cJ3_init_2 78 = .ok (.return_, 1) := dk_177 (dk_at dksJ3_init_2_3 6 rfl rfl)
theorem dJ3_init_2_79 : decode cJ3_init_2 79 = .ok (.aload_n 0, 1) := dk_42 (dk_at dksJ3_init_2_3 7 rfl rfl)
theorem dJ3_init_2_80 : decode cJ3_init_2 80 = .ok (.iconst 1, 1) := dk_4 (dk_at dksJ3_init_2_3 8 rfl rfl)
theorem dJ3_init_2_81 : decode cJ3_init_2 81 = .ok (.putfield 15, 3) := dk_181 0 15 (dk_at dksJ3_init_2_3 9 rfl rfl)
theorem dJ3_init_2_84 : decode cJ3_init_2 84 = .ok (.aload_n 0, 1) := dk_42 (dk_at dksJ3_init_2_3 12 rfl rfl)
theorem dJ3_init_2_85 : decode cJ3_init_2 85 = .ok (.aload_n 3, 1) := dk_45 (dk_at dksJ3_init_2_3 13 rfl rfl)
theorem dJ3_init_2_86 : decode cJ3_init_2 86 = .ok (.iconst 0, 1) := dk_3 (dk_at dksJ3_init_2_3 14 rfl rfl)
theorem dJ3_init_2_87 : decode cJ3_init_2 87 = .ok (.iload 4, 2) := dk_21 4 (dk_at dksJ3_init_2_3 15 rfl rfl)
theorem dJ3_init_2_89 : decode cJ3_init_2 89 = .ok (.iconst 1, 1) := dk_4 (dk_at dksJ3_init_2_3 17 rfl rfl)
theorem dJ3_init_2_90 : decode cJ3_init_2 90 = .ok (.ishl, 1) := dk_120 (dk_at dksJ3_init_2_3 18 rfl rfl)
theorem dJ3_init_2_91 : decode cJ3_init_2 91 = .ok (.invokestatic 54, 3) := dk_184 0 54 (dk_at dksJ3_init_2_3 19 rfl rfl)
theorem dJ3_init_2_94 : decode cJ3_init_2 94 = .ok (.putfield 9, 3) := dk_181 0 9 (dk_at dksJ3_init_2_4 0 rfl rfl)
theorem dJ3_init_2_97 : decode cJ3_init_2 97 = .ok (.return_, 1) := dk_177 (dk_at dksJ3_init_2_4 3 rfl rfl)
def dkwJ3_hashCode_2 : List UInt8 := [181, 0, 23, 167, 0, 8, 42, 27, 181, 0, 19, 27, 172]
abbrev dktJ3_hashCode_2 : List UInt8 := dkwJ3_hashCode_2 ++ []
def dkwJ3_hashCode_1 : List UInt8 := [180, 0, 9, 184, 2, 116, 167, 0, 10, 42, 180, 0, 9, 184, 2, 120, 60, 27, 154, 0, 11, 42, 4]
abbrev dktJ3_hashCode_1 : List UInt8 := dkwJ3_hashCode_1 ++ dktJ3_hashCode_2
def dkwJ3_hashCode_0 : List UInt8 := [42, 180, 0, 19, 60, 27, 154, 0, 52, 42, 180, 0, 23, 154, 0, 45, 42, 182, 1, 236, 153, 0, 13, 42]
abbrev dktJ3_hashCode_0 : List UInt8 := dkwJ3_hashCode_0 ++ dktJ3_hashCode_1
theorem dksJ3_hashCode_0 : cJ3_hashCode.data.toList.drop 0 = dktJ3_hashCode_0 := by decide +kernel
theorem dksJ3_hashCode_1 : cJ3_hashCode.data.toList.drop 24 = dktJ3_hashCode_1 := dk_seg dksJ3_hashCode_0 24 rfl rfl
theorem dksJ3_hashCode_2 : cJ3_hashCode.data.toList.drop 47 = dktJ3_hashCode_2 := dk_seg dksJ3_hashCode_1 23 rfl rfl
theorem dJ3_hashCode_0 : decode cJ3_hashCode 0 = .ok (.aload_n 0, 1) := dk_42 (dk_at dksJ3_hashCode_0 0 rfl rfl)
theorem dJ3_hashCode_1 : decode cJ3_hashCode 1 = .ok (.getfield 19, 3) := dk_180 0 19 (dk_at dksJ3_hashCode_0 1 rfl rfl)
theorem dJ3_hashCode_4 : decode cJ3_hashCode 4 = .ok (.istore_n 1, 1) := dk_60 (dk_at dksJ3_hashCode_0 4 rfl rfl)
theorem dJ3_hashCode_5 : decode cJ3_hashCode 5 = .ok (.iload_n 1, 1) := dk_27 (dk_at dksJ3_hashCode_0 5 rfl rfl)
theorem dJ3_hashCode_6 : decode cJ3_hashCode 6 = .ok (.ifCond .ne 52, 3) := dk_154 0 52 (dk_at dksJ3_hashCode_0 6 rfl rfl)
theorem dJ3_hashCode_9 : decode cJ3_hashCode 9 = .ok (.aload_n 0, 1) := dk_42 (dk_at dksJ3_hashCode_0 9 rfl rfl)
theorem dJ3_hashCode_10 : decode cJ3_hashCode 10 = .ok (.getfield 23, 3) := dk_180 0 23 (dk_at dksJ3_hashCode_0 10 rfl rfl)
theorem dJ3_hashCode_13 : decode cJ3_hashCode 13 = .ok (.ifCond .ne 45, 3) := dk_154 0 45 (dk_at dksJ3_hashCode_0 13 rfl rfl)
theorem dJ3_hashCode_16 : decode cJ3_hashCode 16 = .ok (.aload_n 0, 1) := dk_42 (dk_at dksJ3_hashCode_0 16 rfl rfl)
theorem dJ3_hashCode_17 : decode cJ3_hashCode 17 = .ok (.invokevirtual 492, 3) := dk_182 1 236 (dk_at dksJ3_hashCode_0 17 rfl rfl)
theorem dJ3_hashCode_20 : decode cJ3_hashCode 20 = .ok (.ifCond .eq 13, 3) := dk_153 0 13 (dk_at dksJ3_hashCode_0 20 rfl rfl)
theorem dJ3_hashCode_23 : decode cJ3_hashCode 23 = .ok (.aload_n 0, 1) := dk_42 (dk_at dksJ3_hashCode_0 23 rfl rfl)
theorem dJ3_hashCode_24 : decode cJ3_hashCode 24 = .ok (.getfield 9, 3) := dk_180 0 9 (dk_at dksJ3_hashCode_1 0 rfl rfl)
theorem dJ3_hashCode_27 : decode cJ3_hashCode 27 = .ok (.invokestatic 628, 3) := dk_184 2 116 (dk_at dksJ3_hashCode_1 3 rfl rfl)
theorem dJ3_hashCode_30 : decode cJ3_hashCode 30 = .ok (.goto 10, 3) := dk_167 0 10 (dk_at dksJ3_hashCode_1 6 rfl rfl)
theorem dJ3_hashCode_33 : decode cJ3_hashCode 33 = .ok (.aload_n 0, 1) := dk_42 (dk_at dksJ3_hashCode_1 9 rfl rfl)
theorem dJ3_hashCode_34 : decode cJ3_hashCode 34 = .ok (.getfield 9, 3) := dk_180 0 9 (dk_at dksJ3_hashCode_1 10 rfl rfl)
theorem dJ3_hashCode_37 : decode cJ3_hashCode 37 = .ok (.invokestatic 632, 3) := dk_184 2 120 (dk_at dksJ3_hashCode_1 13 rfl rfl)
theorem dJ3_hashCode_40 : decode cJ3_hashCode 40 = .ok (.istore_n 1, 1) := dk_60 (dk_at dksJ3_hashCode_1 16 rfl rfl)
theorem dJ3_hashCode_41 : decode cJ3_hashCode 41 = .ok (.iload_n 1, 1) := dk_27 (dk_at dksJ3_hashCode_1 17 rfl rfl)
theorem dJ3_hashCode_42 : decode cJ3_hashCode 42 = .ok (.ifCond .ne 11, 3) := dk_154 0 11 (dk_at dksJ3_hashCode_1 18 rfl rfl)
theorem dJ3_hashCode_45 : decode cJ3_hashCode 45 = .ok (.aload_n 0, 1) := dk_42 (dk_at dksJ3_hashCode_1 21 rfl rfl)
theorem dJ3_hashCode_46 : decode cJ3_hashCode 46 = .ok (.iconst 1, 1) := dk_4 (dk_at dksJ3_hashCode_1 22 rfl rfl)
theorem dJ3_hashCode_47 : decode cJ3_hashCode 47 = .ok (.putfield 23, 3) := dk_181 0 23 (dk_at dksJ3_hashCode_2 0 rfl rfl)
theorem dJ3_hashCode_50 : decode cJ3_hashCode 50 = .ok (.goto 8, 3) := dk_167 0 8 (dk_at dksJ3_hashCode_2 3 rfl rfl)
theorem dJ3_hashCode_53 : decode cJ3_hashCode 53 = .ok (.aload_n 0, 1) := dk_42 (dk_at dksJ3_hashCode_2 6 rfl rfl)
theorem dJ3_hashCode_54 : decode cJ3_hashCode 54 = .ok (.iload_n 1, 1) := dk_27 (dk_at dksJ3_hashCode_2 7 rfl rfl)
theorem dJ3_hashCode_55 : decode cJ3_hashCode 55 = .ok (.putfield 19, 3) := dk_181 0 19 (dk_at dksJ3_hashCode_2 8 rfl rfl)
theorem dJ3_hashCode_58 : decode cJ3_hashCode 58 = .ok (.iload_n 1, 1) := dk_27 (dk_at dksJ3_hashCode_2 11 rfl rfl)
theorem dJ3_hashCode_59 : decode cJ3_hashCode 59 = .ok (.ireturn, 1) := dk_172 (dk_at dksJ3_hashCode_2 12 rfl rfl)
def dkwJ3_isLatin1_0 : List UInt8 := [178, 0, 38, 153, 0, 14, 42, 180, 0, 15, 154, 0, 7, 4, 167, 0, 4, 3, 172]
abbrev dktJ3_isLatin1_0 : List UInt8 := dkwJ3_isLatin1_0 ++ []
theorem dksJ3_isLatin1_0 : cJ3_isLatin1.data.toList.drop 0 = dktJ3_isLatin1_0 := by decide +kernel
theorem dJ3_isLatin1_0 : decode cJ3_isLatin1 0 = .ok (.getstatic 38, 3) := dk_178 0 38 (dk_at dksJ3_isLatin1_0 0 rfl rfl)
theorem dJ3_isLatin1_3 : decode cJ3_isLatin1 3 = .ok (.ifCond .eq 14, 3) := dk_153 0 14 (dk_at dksJ3_isLatin1_0 3 rfl rfl)
theorem dJ3_isLatin1_6 : decode cJ3_isLatin1 6 = .ok (.aload_n 0, 1) := dk_42 (dk_at dksJ3_isLatin1_0 6 rfl rfl)
theorem dJ3_isLatin1_7 : decode cJ3_isLatin1 7 = .ok (.getfield 15, 3) := dk_180 0 15 (dk_at dksJ3_isLatin1_0 7 rfl rfl)
theorem dJ3_isLatin1_10 : decode cJ3_isLatin1 10 = .ok (.ifCond .ne 7, 3) := dk_154 0 7 (dk_at dksJ3_isLatin1_0 10 rfl rfl)
theorem dJ3_isLatin1_13 : decode cJ3_isLatin1 13 = .ok (.iconst 1, 1) := dk_4 (dk_at dksJ3_isLatin1_0 13 rfl rfl)
theorem dJ3_isLatin1_14 : decode cJ3_isLatin1 14 = .ok (.goto 4, 3) := dk_167 0 4 (dk_at dksJ3_isLatin1_0 14 rfl rfl)
theorem dJ3_isLatin1_17 : decode cJ3_isLatin1 17 = .ok (.iconst 0, 1) := dk_3 (dk_at dksJ3_isLatin1_0 17 rfl rfl)
theorem dJ3_isLatin1_18 : decode cJ3_isLatin1 18 = .ok (.ireturn, 1) := dk_172 (dk_at dksJ3_isLatin1_0 18 rfl rfl)
def dkwJ3_equals_2 : List UInt8 := [184, 2, 29, 153, 0, 7, 4, 167, 0, 4, 3, 172]
abbrev dktJ3_equals_2 : List UInt8 := dkwJ3_equals_2 ++ []
def dkwJ3_equals_1 : List UInt8 := [153, 0, 14, 42, 180, 0, 15, 44, 180, 0, 15, 160, 0, 21, 42, 180, 0, 9, 44, 180, 0, 9]
abbrev dktJ3_equals_1 : List UInt8 := dkwJ3_equals_1 ++ dktJ3_equals_2
def dkwJ3_equals_0 : List UInt8 := [42, 43, 166, 0, 5, 4, 172, 43, 193, 0, 10, 153, 0, 43, 43, 192, 0, 10, 77, 178, 0, 38]
abbrev dktJ3_equals_0 : List UInt8 := dkwJ3_equals_0 ++ dktJ3_equals_1
theorem dksJ3_equals_0 : cJ3_equals.data.toList.drop 0 = dktJ3_equals_0 := by decide +kernel
theorem dksJ3_equals_1 : cJ3_equals.data.toList.drop 22 = dktJ3_equals_1 := dk_seg dksJ3_equals_0 22 rfl rfl
theorem dksJ3_equals_2 : cJ3_equals.data.toList.drop 44 = dktJ3_equals_2 := dk_seg dksJ3_equals_1 22 rfl rfl
theorem dJ3_equals_0 : decode cJ3_equals 0 = .ok (.aload_n 0, 1) := dk_42 (dk_at dksJ3_equals_0 0 rfl rfl)
theorem dJ3_equals_1 : decode cJ3_equals 1 = .ok (.aload_n 1, 1) := dk_43 (dk_at dksJ3_equals_0 1 rfl rfl)
theorem dJ3_equals_2 : decode cJ3_equals 2 = .ok (.if_acmp .ne 5, 3) := dk_166 0 5 (dk_at dksJ3_equals_0 2 rfl rfl)
theorem dJ3_equals_5 : decode cJ3_equals 5 = .ok (.iconst 1, 1) := dk_4 (dk_at dksJ3_equals_0 5 rfl rfl)
theorem dJ3_equals_6 : decode cJ3_equals 6 = .ok (.ireturn, 1) := dk_172 (dk_at dksJ3_equals_0 6 rfl rfl)
theorem dJ3_equals_7 : decode cJ3_equals 7 = .ok (.aload_n 1, 1) := dk_43 (dk_at dksJ3_equals_0 7 rfl rfl)
theorem dJ3_equals_8 : decode cJ3_equals 8 = .ok (.instanceof 10, 3) := dk_193 0 10 (dk_at dksJ3_equals_0 8 rfl rfl)
theorem dJ3_equals_11 : decode cJ3_equals 11 = .ok (.ifCond .eq 43, 3) := dk_153 0 43 (dk_at dksJ3_equals_0 11 rfl rfl)
theorem dJ3_equals_14 : decode cJ3_equals 14 = .ok (.aload_n 1, 1) := dk_43 (dk_at dksJ3_equals_0 14 rfl rfl)
theorem dJ3_equals_15 : decode cJ3_equals 15 = .ok (.checkcast 10, 3) := dk_192 0 10 (dk_at dksJ3_equals_0 15 rfl rfl)
theorem dJ3_equals_18 : decode cJ3_equals 18 = .ok (.astore_n 2, 1) := dk_77 (dk_at dksJ3_equals_0 18 rfl rfl)
theorem dJ3_equals_19 : decode cJ3_equals 19 = .ok (.getstatic 38, 3) := dk_178 0 38 (dk_at dksJ3_equals_0 19 rfl rfl)
theorem dJ3_equals_22 : decode cJ3_equals 22 = .ok (.ifCond .eq 14, 3) := dk_153 0 14 (dk_at dksJ3_equals_1 0 rfl rfl)
theorem dJ3_equals_25 : decode cJ3_equals 25 = .ok (.aload_n 0, 1) := dk_42 (dk_at dksJ3_equals_1 3 rfl rfl)
theorem dJ3_equals_26 : decode cJ3_equals 26 = .ok (.getfield 15, 3) := dk_180 0 15 (dk_at dksJ3_equals_1 4 rfl rfl)
theorem dJ3_equals_29 : decode cJ3_equals 29 = .ok (.aload_n 2, 1) := dk_44 (dk_at dksJ3_equals_1 7 rfl rfl)
theorem dJ3_equals_30 : decode cJ3_equals 30 = .ok (.getfield 15, 3) := dk_180 0 15 (dk_at dksJ3_equals_1 8 rfl rfl)
theorem dJ3_equals_33 : decode cJ3_equals 33 = .ok (.if_icmp .ne 21, 3) := dk_160 0 21 (dk_at dksJ3_equals_1 11 rfl rfl)
theorem dJ3_equals_36 : decode cJ3_equals 36 = .ok (.aload_n 0, 1) := dk_42 (dk_at dksJ3_equals_1 14 rfl rfl)
theorem dJ3_equals_37 : decode cJ3_equals 37 = .ok (.getfield 9, 3) := dk_180 0 9 (dk_at dksJ3_equals_1 15 rfl rfl)
theorem dJ3_equals_40 : decode cJ3_equals 40 = .ok (.aload_n 2, 1) := dk_44 (dk_at dksJ3_equals_1 18 rfl rfl)
theorem dJ3_equals_41 : decode cJ3_equals 41 = .ok (.getfield 9, 3) := dk_180 0 9 (dk_at dksJ3_equals_1 19 rfl rfl)
theorem dJ3_equals_44 : decode cJ3_equals 44 = .ok (.invokestatic 541, 3) := dk_184 2 29 (dk_at dksJ3_equals_2 0 rfl rfl)
theorem dJ3_equals_47 : decode cJ3_equals 47 = .ok (.ifCond .eq 7, 3) := dk_153 0 7 (dk_at dksJ3_equals_2 3 rfl rfl)
theorem dJ3_equals_50 : decode cJ3_equals 50 = .ok (.iconst 1, 1) := dk_4 (dk_at dksJ3_equals_2 6 rfl rfl)
theorem dJ3_equals_51 : decode cJ3_equals 51 = .ok (.goto 4, 3) := dk_167 0 4 (dk_at dksJ3_equals_2 7 rfl rfl)
theorem dJ3_equals_54 : decode cJ3_equals 54 = .ok (.iconst 0, 1) := dk_3 (dk_at dksJ3_equals_2 10 rfl rfl)
theorem dJ3_equals_55 : decode cJ3_equals 55 = .ok (.ireturn, 1) := dk_172 (dk_at dksJ3_equals_2 11 rfl rfl)
def dkwJ3_length_0 : List UInt8 := [42, 180, 0, 9, 190, 42, 182, 1, 79, 122, 172]
abbrev dktJ3_length_0 : List UInt8 := dkwJ3_length_0 ++ []
theorem dksJ3_length_0 : cJ3_length.data.toList.drop 0 = dktJ3_length_0 := by decide +kernel
theorem dJ3_length_0 : decode cJ3_length 0 = .ok (.aload_n 0, 1) := dk_42 (dk_at dksJ3_length_0 0 rfl rfl)
theorem dJ3_length_1 : decode cJ3_length 1 = .ok (.getfield 9, 3) := dk_180 0 9 (dk_at dksJ3_length_0 1 rfl rfl)
theorem dJ3_length_4 : decode cJ3_length 4 = .ok (.arraylength, 1) := dk_190 (dk_at dksJ3_length_0 4 rfl rfl)
theorem dJ3_length_5 : decode cJ3_length 5 = .ok (.aload_n 0, 1) := dk_42 (dk_at dksJ3_length_0 5 rfl rfl)
theorem dJ3_length_6 : decode cJ3_length 6 = .ok (.invokevirtual 335, 3) := dk_182 1 79 (dk_at dksJ3_length_0 6 rfl rfl)
theorem dJ3_length_9 : decode cJ3_length 9 = .ok (.ishr, 1) := dk_122 (dk_at dksJ3_length_0 9 rfl rfl)
theorem dJ3_length_10 : decode cJ3_length 10 = .ok (.ireturn, 1) := dk_172 (dk_at dksJ3_length_0 10 rfl rfl)
def dkwJ3_coder_0 : List UInt8 := [178, 0, 38, 153, 0, 10, 42, 180, 0, 15, 167, 0, 4, 4, 172]
abbrev dktJ3_coder_0 : List UInt8 := dkwJ3_coder_0 ++ []
theorem dksJ3_coder_0 : cJ3_coder.data.toList.drop 0 = dktJ3_coder_0 := by decide +kernel
theorem dJ3_coder_0 : decode cJ3_coder 0 = .ok (.getstatic 38, 3) := dk_178 0 38 (dk_at dksJ3_coder_0 0 rfl rfl)
theorem dJ3_coder_3 : decode cJ3_coder 3 = .ok (.ifCond .eq 10, 3) := dk_153 0 10 (dk_at dksJ3_coder_0 3 rfl rfl)
theorem dJ3_coder_6 : decode cJ3_coder 6 = .ok (.aload_n 0, 1) := dk_42 (dk_at dksJ3_coder_0 6 rfl rfl)
theorem dJ3_coder_7 : decode cJ3_coder 7 = .ok (.getfield 15, 3) := dk_180 0 15 (dk_at dksJ3_coder_0 7 rfl rfl)
theorem dJ3_coder_10 : decode cJ3_coder 10 = .ok (.goto 4, 3) := dk_167 0 4 (dk_at dksJ3_coder_0 10 rfl rfl)
theorem dJ3_coder_13 : decode cJ3_coder 13 = .ok (.iconst 1, 1) := dk_4 (dk_at dksJ3_coder_0 13 rfl rfl)
theorem dJ3_coder_14 : decode cJ3_coder 14 = .ok (.ireturn, 1) := dk_172 (dk_at dksJ3_coder_0 14 rfl rfl)
def dkwJ3_checkBoundsBeginEnd_0 : List UInt8 := [26, 27, 28, 178, 4, 29, 184, 4, 38, 87, 177]
abbrev dktJ3_checkBoundsBeginEnd_0 : List UInt8 := dkwJ3_checkBoundsBeginEnd_0 ++ []
theorem dksJ3_checkBoundsBeginEnd_0 : cJ3_checkBoundsBeginEnd.data.toList.drop 0 = dktJ3_checkBoundsBeginEnd_0 := by decide +kernel
theorem dJ3_checkBoundsBeginEnd_0 : decode cJ3_checkBoundsBeginEnd 0 = .ok (.iload_n 0, 1) := dk_26 (dk_at dksJ3_checkBoundsBeginEnd_0 0 rfl rfl)
theorem dJ3_checkBoundsBeginEnd_1 : decode cJ3_checkBoundsBeginEnd 1 = .ok (.iload_n 1, 1) := dk_27 (dk_at dksJ3_checkBoundsBeginEnd_0 1 rfl rfl)
theorem dJ3_checkBoundsBeginEnd_2 : decode cJ3_checkBoundsBeginEnd 2 = .ok (.iload_n 2, 1) := dk_28 (dk_at dksJ3_checkBoundsBeginEnd_0 2 rfl rfl)
theorem dJ3_checkBoundsBeginEnd_3 : decode cJ3_checkBoundsBeginEnd 3 = .ok (.getstatic 1053, 3) := dk_178 4 29 (dk_at dksJ3_checkBoundsBeginEnd_0 3 rfl rfl)
theorem dJ3_checkBoundsBeginEnd_6 : decode cJ3_checkBoundsBeginEnd 6 = .ok (.invokestatic 1062, 3) := dk_184 4 38 (dk_at dksJ3_checkBoundsBeginEnd_0 6 rfl rfl)
theorem dJ3_checkBoundsBeginEnd_9 : decode cJ3_checkBoundsBeginEnd 9 = .ok (.pop, 1) := dk_87 (dk_at dksJ3_checkBoundsBeginEnd_0 9 rfl rfl)
theorem dJ3_checkBoundsBeginEnd_10 : decode cJ3_checkBoundsBeginEnd 10 = .ok (.return_, 1) := dk_177 (dk_at dksJ3_checkBoundsBeginEnd_0 10 rfl rfl)
def dkwJ3_getBytes_1 : List UInt8 := [184, 0, 212, 167, 0, 18, 42, 180, 0, 9, 3, 43, 28, 42, 180, 0, 9, 190, 184, 0, 106, 177]
abbrev dktJ3_getBytes_1 : List UInt8 := dkwJ3_getBytes_1 ++ []
def dkwJ3_getBytes_0 : List UInt8 := [42, 182, 1, 79, 29, 160, 0, 23, 42, 180, 0, 9, 3, 43, 28, 29, 120, 42, 180, 0, 9, 190]
abbrev dktJ3_getBytes_0 : List UInt8 := dkwJ3_getBytes_0 ++ dktJ3_getBytes_1
theorem dksJ3_getBytes_0 : cJ3_getBytes.data.toList.drop 0 = dktJ3_getBytes_0 := by decide +kernel
theorem dksJ3_getBytes_1 : cJ3_getBytes.data.toList.drop 22 = dktJ3_getBytes_1 := dk_seg dksJ3_getBytes_0 22 rfl rfl
theorem dJ3_getBytes_0 : decode cJ3_getBytes 0 = .ok (.aload_n 0, 1) := dk_42 (dk_at dksJ3_getBytes_0 0 rfl rfl)
theorem dJ3_getBytes_1 : decode cJ3_getBytes 1 = .ok (.invokevirtual 335, 3) := dk_182 1 79 (dk_at dksJ3_getBytes_0 1 rfl rfl)
theorem dJ3_getBytes_4 : decode cJ3_getBytes 4 = .ok (.iload_n 3, 1) := dk_29 (dk_at dksJ3_getBytes_0 4 rfl rfl)
theorem dJ3_getBytes_5 : decode cJ3_getBytes 5 = .ok (.if_icmp .ne 23, 3) := dk_160 0 23 (dk_at dksJ3_getBytes_0 5 rfl rfl)
theorem dJ3_getBytes_8 : decode cJ3_getBytes 8 = .ok (.aload_n 0, 1) := dk_42 (dk_at dksJ3_getBytes_0 8 rfl rfl)
theorem dJ3_getBytes_9 : decode cJ3_getBytes 9 = .ok (.getfield 9, 3) := dk_180 0 9 (dk_at dksJ3_getBytes_0 9 rfl rfl)
theorem dJ3_getBytes_12 : decode cJ3_getBytes 12 = .ok (.iconst 0, 1) := dk_3 (dk_at dksJ3_getBytes_0 12 rfl rfl)
theorem dJ3_getBytes_13 : decode cJ3_getBytes 13 = .ok (.aload_n 1, 1) := dk_43 (dk_at dksJ3_getBytes_0 13 rfl rfl)
theorem dJ3_getBytes_14 : decode cJ3_getBytes 14 = .ok (.iload_n 2, 1) := dk_28 (dk_at dksJ3_getBytes_0 14 rfl rfl)
theorem dJ3_getBytes_15 : decode cJ3_getBytes 15 = .ok (.iload_n 3, 1) := dk_29 (dk_at dksJ3_getBytes_0 15 rfl rfl)
theorem dJ3_getBytes_16 : decode cJ3_getBytes 16 = .ok (.ishl, 1) := dk_120 (dk_at dksJ3_getBytes_0 16 rfl rfl)
theorem dJ3_getBytes_17 : decode cJ3_getBytes 17 = .ok (.aload_n 0, 1) := dk_42 (dk_at dksJ3_getBytes_0 17 rfl rfl)
theorem dJ3_getBytes_18 : decode cJ3_getBytes 18 = .ok (.getfield 9, 3) := dk_180 0 9 (dk_at dksJ3_getBytes_0 18 rfl rfl)
theorem dJ3_getBytes_21 : decode cJ3_getBytes 21 = .ok (.arraylength, 1) := dk_190 (dk_at dksJ3_getBytes_0 21 rfl rfl)
theorem dJ3_getBytes_22 : decode cJ3_getBytes 22 = .ok (.invokestatic 212, 3) := dk_184 0 212 (dk_at dksJ3_getBytes_1 0 rfl rfl)
theorem dJ3_getBytes_25 : decode cJ3_getBytes 25 = .ok (.goto 18, 3) := dk_167 0 18 (dk_at dksJ3_getBytes_1 3 rfl rfl)
theorem dJ3_getBytes_28 : decode cJ3_getBytes 28 = .ok (.aload_n 0, 1) := dk_42 (dk_at dksJ3_getBytes_1 6 rfl rfl)
theorem dJ3_getBytes_29 : decode cJ3_getBytes 29 = .ok (.getfield 9, 3) := dk_180 0 9 (dk_at dksJ3_getBytes_1 7 rfl rfl)
theorem dJ3_getBytes_32 : decode cJ3_getBytes 32 = .ok (.iconst 0, 1) := dk_3 (dk_at dksJ3_getBytes_1 10 rfl rfl)
theorem dJ3_getBytes_33 : decode cJ3_getBytes 33 = .ok (.aload_n 1, 1) := dk_43 (dk_at dksJ3_getBytes_1 11 rfl rfl)
theorem dJ3_getBytes_34 : decode cJ3_getBytes 34 = .ok (.iload_n 2, 1) := dk_28 (dk_at dksJ3_getBytes_1 12 rfl rfl)
theorem dJ3_getBytes_35 : decode cJ3_getBytes 35 = .ok (.aload_n 0, 1) := dk_42 (dk_at dksJ3_getBytes_1 13 rfl rfl)
theorem dJ3_getBytes_36 : decode cJ3_getBytes 36 = .ok (.getfield 9, 3) := dk_180 0 9 (dk_at dksJ3_getBytes_1 14 rfl rfl)
theorem dJ3_getBytes_39 : decode cJ3_getBytes 39 = .ok (.arraylength, 1) := dk_190 (dk_at dksJ3_getBytes_1 17 rfl rfl)
theorem dJ3_getBytes_40 : decode cJ3_getBytes 40 = .ok (.invokestatic 106, 3) := dk_184 0 106 (dk_at dksJ3_getBytes_1 18 rfl rfl)
theorem dJ3_getBytes_43 : decode cJ3_getBytes 43 = .ok (.return_, 1) := dk_177 (dk_at dksJ3_getBytes_1 21 rfl rfl)
def dkwJ3_valueOf_0 : List UInt8 := [42, 199, 0, 9, 19, 3, 237, 167, 0, 7, 42, 182, 3, 239, 176]
abbrev dktJ3_valueOf_0 : List UInt8 := dkwJ3_valueOf_0 ++ []
theorem dksJ3_valueOf_0 : cJ3_valueOf.data.toList.drop 0 = dktJ3_valueOf_0 := by decide +kernel
theorem dJ3_valueOf_0 : decode cJ3_valueOf 0 = .ok (.aload_n 0, 1) := dk_42 (dk_at dksJ3_valueOf_0 0 rfl rfl)
theorem dJ3_valueOf_1 : decode cJ3_valueOf 1 = .ok (.ifnonnull 9, 3) := dk_199 0 9 (dk_at dksJ3_valueOf_0 1 rfl rfl)
theorem dJ3_valueOf_4 : decode cJ3_valueOf 4 = .ok (.ldc_w 1005, 3) := dk_19 3 237 (dk_at dksJ3_valueOf_0 4 rfl rfl)
theorem dJ3_valueOf_7 : decode cJ3_valueOf 7 = .ok (.goto 7, 3) := dk_167 0 7 (dk_at dksJ3_valueOf_0 7 rfl rfl)
theorem dJ3_valueOf_10 : decode cJ3_valueOf 10 = .ok (.aload_n 0, 1) := dk_42 (dk_at dksJ3_valueOf_0 10 rfl rfl)
theorem dJ3_valueOf_11 : decode cJ3_valueOf 11 = .ok (.invokevirtual 1007, 3) := dk_182 3 239 (dk_at dksJ3_valueOf_0 11 rfl rfl)
theorem dJ3_valueOf_14 : decode cJ3_valueOf 14 = .ok (.areturn, 1) := dk_176 (dk_at dksJ3_valueOf_0 14 rfl rfl)
def dkwJ3_charAt_1 : List UInt8 := [172]
abbrev dktJ3_charAt_1 : List UInt8 := dkwJ3_charAt_1 ++ []
def dkwJ3_charAt_0 : List UInt8 := [42, 182, 1, 236, 153, 0, 12, 42, 180, 0, 9, 27, 184, 1, 239, 172, 42, 180, 0, 9, 27, 184, 1, 242]
abbrev dktJ3_charAt_0 : List UInt8 := dkwJ3_charAt_0 ++ dktJ3_charAt_1
theorem dksJ3_charAt_0 : cJ3_charAt.data.toList.drop 0 = dktJ3_charAt_0 := by decide +kernel
theorem dksJ3_charAt_1 : cJ3_charAt.data.toList.drop 24 = dktJ3_charAt_1 := dk_seg dksJ3_charAt_0 24 rfl rfl
theorem dJ3_charAt_0 : decode cJ3_charAt 0 = .ok (.aload_n 0, 1) := dk_42 (dk_at dksJ3_charAt_0 0 rfl rfl)
theorem dJ3_charAt_1 : decode cJ3_charAt 1 = .ok (.invokevirtual 492, 3) := dk_182 1 236 (dk_at dksJ3_charAt_0 1 rfl rfl)
theorem dJ3_charAt_4 : decode cJ3_charAt 4 = .ok (.ifCond .eq 12, 3) := dk_153 0 12 (dk_at dksJ3_charAt_0 4 rfl rfl)
theorem dJ3_charAt_7 : decode cJ3_charAt 7 = .ok (.aload_n 0, 1) := dk_42 (dk_at dksJ3_charAt_0 7 rfl rfl)
theorem dJ3_charAt_8 : decode cJ3_charAt 8 = .ok (.getfield 9, 3) := dk_180 0 9 (dk_at dksJ3_charAt_0 8 rfl rfl)
theorem dJ3_charAt_11 : decode cJ3_charAt 11 = .ok (.iload_n 1, 1) := dk_27 (dk_at dksJ3_charAt_0 11 rfl rfl)
theorem dJ3_charAt_12 : decode cJ3_charAt 12 = .ok (.invokestatic 495, 3) := dk_184 1 239 (dk_at dksJ3_charAt_0 12 rfl rfl)
theorem dJ3_charAt_15 : decode cJ3_charAt 15 = .ok (.ireturn, 1) := dk_172 (dk_at dksJ3_charAt_0 15 rfl rfl)
theorem dJ3_charAt_16 : decode cJ3_charAt 16 = .ok (.aload_n 0, 1) := dk_42 (dk_at dksJ3_charAt_0 16 rfl rfl)
theorem dJ3_charAt_17 : decode cJ3_charAt 17 = .ok (.getfield 9, 3) := dk_180 0 9 (dk_at dksJ3_charAt_0 17 rfl rfl)
theorem dJ3_charAt_20 : decode cJ3_charAt 20 = .ok (.iload_n 1, 1) := dk_27 (dk_at dksJ3_charAt_0 20 rfl rfl)
theorem dJ3_charAt_21 : decode cJ3_charAt 21 = .ok (.invokestatic 498, 3) := dk_184 1 242 (dk_at dksJ3_charAt_0 21 rfl rfl)
theorem dJ3_charAt_24 : decode cJ3_charAt 24 = .ok (.ireturn, 1) := dk_172 (dk_at dksJ3_charAt_1 0 rfl rfl)
def dkwJ4_newBytesFor_0 : List UInt8 := [26, 184, 0, 11, 188, 8, 176]
abbrev dktJ4_newBytesFor_0 : List UInt8 := dkwJ4_newBytesFor_0 ++ []
theorem dksJ4_newBytesFor_0 : cJ4_newBytesFor.data.toList.drop 0 = dktJ4_newBytesFor_0 := by decide +kernel
theorem dJ4_newBytesFor_0 : decode cJ4_newBytesFor 0 = .ok (.iload_n 0, 1) := dk_26 (dk_at dksJ4_newBytesFor_0 0 rfl rfl)
theorem dJ4_newBytesFor_1 : decode cJ4_newBytesFor 1 = .ok (.invokestatic 11, 3) := dk_184 0 11 (dk_at dksJ4_newBytesFor_0 1 rfl rfl)
theorem dJ4_newBytesFor_4 : decode cJ4_newBytesFor 4 = .ok (.newarray .byte, 2) := dk_188_8 (dk_at dksJ4_newBytesFor_0 4 rfl rfl)
theorem dJ4_newBytesFor_6 : decode cJ4_newBytesFor 6 = .ok (.areturn, 1) := dk_176 (dk_at dksJ4_newBytesFor_0 6 rfl rfl)
def dkwJ4_newBytesLength_2 : List UInt8 := [182, 0, 32, 182, 0, 37, 183, 0, 41, 191, 26, 4, 120, 172]
abbrev dktJ4_newBytesLength_2 : List UInt8 := dkwJ4_newBytesLength_2 ++ []
def dkwJ4_newBytesLength_1 : List UInt8 := [187, 0, 23, 89, 183, 0, 25, 18, 26, 182, 0, 28, 26, 182, 0, 32, 18, 35, 182, 0, 28, 18, 20]
abbrev dktJ4_newBytesLength_1 : List UInt8 := dkwJ4_newBytesLength_1 ++ dktJ4_newBytesLength_2
def dkwJ4_newBytesLength_0 : List UInt8 := [26, 156, 0, 11, 187, 0, 17, 89, 183, 0, 19, 191, 26, 18, 20, 161, 0, 40, 187, 0, 21, 89]
abbrev dktJ4_newBytesLength_0 : List UInt8 := dkwJ4_newBytesLength_0 ++ dktJ4_newBytesLength_1
theorem dksJ4_newBytesLength_0 : cJ4_newBytesLength.data.toList.drop 0 = dktJ4_newBytesLength_0 := by decide +kernel
theorem dksJ4_newBytesLength_1 : cJ4_newBytesLength.data.toList.drop 22 = dktJ4_newBytesLength_1 := dk_seg dksJ4_newBytesLength_0 22 rfl rfl
theorem dksJ4_newBytesLength_2 : cJ4_newBytesLength.data.toList.drop 45 = dktJ4_newBytesLength_2 := dk_seg dksJ4_newBytesLength_1 23 rfl rfl
theorem dJ4_newBytesLength_0 : decode cJ4_newBytesLength 0 = .ok (.iload_n 0, 1) := dk_26 (dk_at dksJ4_newBytesLength_0 0 rfl rfl)
theorem dJ4_newBytesLength_1 : decode cJ4_newBytesLength 1 = .ok (.ifCond .ge 11, 3) := dk_156 0 11 (dk_at dksJ4_newBytesLength_0 1 rfl rfl)
theorem dJ4_newBytesLength_4 : decode cJ4_newBytesLength 4 = .ok (.new 17, 3) := dk_187 0 17 (dk_at dksJ4_newBytesLength_0 4 rfl rfl)
theorem dJ4_newBytesLength_7 : decode cJ4_newBytesLength 7 = .ok (.dup, 1) := dk_89 (dk_at dksJ4_newBytesLength_0 7 rfl rfl)
theorem dJ4_newBytesLength_8 : decode cJ4_newBytesLength 8 = .ok (.invokespecial 19, 3) := dk_183 0 19 (dk_at dksJ4_newBytesLength_0 8 rfl rfl)
theorem dJ4_newBytesLength_11 : decode cJ4_newBytesLength 11 = .ok (.athrow, 1) := dk_191 (dk_at dksJ4_newBytesLength_0 11 rfl rfl)
theorem dJ4_newBytesLength_12 : decode cJ4_newBytesLength 12 = .ok (.iload_n 0, 1) := dk_26 (dk_at dksJ4_newBytesLength_0 12 rfl rfl)
theorem dJ4_newBytesLength_13 : decode cJ4_newBytesLength 13 = .ok (.ldc 20, 2) := dk_18 20 (dk_at dksJ4_newBytesLength_0 13 rfl rfl)
theorem dJ4_newBytesLength_15 : decode cJ4_newBytesLength 15 = .ok (.if_icmp .lt 40, 3) := dk_161 0 40 (dk_at dksJ4_newBytesLength_0 15 rfl rfl)
theorem dJ4_newBytesLength_18 : decode cJ4_newBytesLength 18 = .ok (.new 21, 3) := dk_187 0 21 (dk_at dksJ4_newBytesLength_0 18 rfl rfl)
theorem dJ4_newBytesLength_21 : decode cJ4_newBytesLength 21 = .ok (.dup, 1) := dk_89 (dk_at dksJ4_newBytesLength_0 21 rfl rfl)
theorem dJ4_newBytesLength_22 : decode cJ4_newBytesLength 22 = .ok (.new 23, 3) := dk_187 0 23 (dk_at dksJ4_newBytesLength_1 0 rfl rfl)
theorem dJ4_newBytesLength_25 : decode cJ4_newBytesLength 25 = .ok (.dup, 1) := dk_89 (dk_at dksJ4_newBytesLength_1 3 rfl rfl)
theorem dJ4_newBytesLength_26 : decode cJ4_newBytesLength 26 = .ok (.invokespecial 25, 3) := dk_183 0 25 (dk_at dksJ4_newBytesLength_1 4 rfl rfl)
theorem dJ4_newBytesLength_29 : decode cJ4_newBytesLength 29 = .ok (.ldc 26, 2) := dk_18 26 (dk_at dksJ4_newBytesLength_1 7 rfl rfl)
theorem dJ4_newBytesLength_31 : decode cJ4_newBytesLength 31 = .ok (.invokevirtual 28, 3) := dk_182 0 28 (dk_at dksJ4_newBytesLength_1 9 rfl rfl)
theorem dJ4_newBytesLength_34 : decode cJ4_newBytesLength 34 = .ok (.iload_n 0, 1) := dk_26 (dk_at dksJ4_newBytesLength_1 12 rfl rfl)
theorem dJ4_newBytesLength_35 : decode cJ4_newBytesLength 35 = .ok (.invokevirtual 32, 3) := dk_182 0 32 (dk_at dksJ4_newBytesLength_1 13 rfl rfl)
theorem dJ4_newBytesLength_38 : decode cJ4_newBytesLength 38 = .ok (.ldc 35, 2) := dk_18 35 (dk_at dksJ4_newBytesLength_1 16 rfl rfl)
theorem dJ4_newBytesLength_40 : decode cJ4_newBytesLength 40 = .ok (.invokevirtual 28, 3) := dk_182 0 28 (dk_at dksJ4_newBytesLength_1 18 rfl rfl)
theorem dJ4_newBytesLength_43 : decode cJ4_newBytesLength 43 = .ok (.ldc 20, 2) := dk_18 20 (dk_at dksJ4_newBytesLength_1 21 rfl rfl)
theorem dJ4_newBytesLength_45 : decode cJ4_newBytesLength 45 = .ok (.invokevirtual 32, 3) := dk_182 0 32 (dk_at dksJ4_newBytesLength_2 0 rfl rfl)
theorem dJ4_newBytesLength_48 : decode cJ4_newBytesLength 48 = .ok (.invokevirtual 37, 3) := dk_182 0 37 (dk_at dksJ4_newBytesLength_2 3 rfl rfl)
theorem dJ4_newBytesLength_51 : decode cJ4_newBytesLength 51 = .ok (.invokespecial 41, 3) := dk_183 0 41 (dk_at dksJ4_newBytesLength_2 6 rfl rfl)
theorem dJ4_newBytesLength_54 : decode cJ4_newBytesLength 54 = .ok (.athrow, 1) := dk_191 (dk_at dksJ4_newBytesLength_2 9 rfl rfl)
theorem dJ4_newBytesLength_55 : decode cJ4_newBytesLength 55 = .ok (.iload_n 0, 1) := dk_26 (dk_at dksJ4_newBytesLength_2 10 rfl rfl)
theorem dJ4_newBytesLength_56 : decode cJ4_newBytesLength 56 = .ok (.iconst 1, 1) := dk_4 (dk_at dksJ4_newBytesLength_2 11 rfl rfl)
theorem dJ4_newBytesLength_57 : decode cJ4_newBytesLength 57 = .ok (.ishl, 1) := dk_120 (dk_at dksJ4_newBytesLength_2 12 rfl rfl)
theorem dJ4_newBytesLength_58 : decode cJ4_newBytesLength 58 = .ok (.ireturn, 1) := dk_172 (dk_at dksJ4_newBytesLength_2 13 rfl rfl)
def dkwJ4_inflate_1 : List UInt8 := [132, 1, 1, 51, 17, 0, 255, 126, 184, 0, 111, 132, 5, 1, 167, 255, 228, 177]
abbrev dktJ4_inflate_1 : List UInt8 := dkwJ4_inflate_1 ++ []
def dkwJ4_inflate_0 : List UInt8 := [29, 21, 4, 44, 184, 0, 173, 3, 54, 5, 21, 5, 21, 4, 162, 0, 27, 44, 29, 132, 3, 1, 42, 27]
abbrev dktJ4_inflate_0 : List UInt8 := dkwJ4_inflate_0 ++ dktJ4_inflate_1
theorem dksJ4_inflate_0 : cJ4_inflate.data.toList.drop 0 = dktJ4_inflate_0 := by decide +kernel
theorem dksJ4_inflate_1 : cJ4_inflate.data.toList.drop 24 = dktJ4_inflate_1 := dk_seg dksJ4_inflate_0 24 rfl rfl
theorem dJ4_inflate_0 : decode cJ4_inflate 0 = .ok (.iload_n 3, 1) := dk_29 (dk_at dksJ4_inflate_0 0 rfl rfl)
theorem dJ4_inflate_1 : decode cJ4_inflate 1 = .ok (.iload 4, 2) := dk_21 4 (dk_at dksJ4_inflate_0 1 rfl rfl)
theorem dJ4_inflate_3 : decode cJ4_inflate 3 = .ok (.aload_n 2, 1) := dk_44 (dk_at dksJ4_inflate_0 3 rfl rfl)
theorem dJ4_inflate_4 : decode cJ4_inflate 4 = .ok (.invokestatic 173, 3) := dk_184 0 173 (dk_at dksJ4_inflate_0 4 rfl rfl)
theorem dJ4_inflate_7 : decode cJ4_inflate 7 = .ok (.iconst 0, 1) := dk_3 (dk_at dksJ4_inflate_0 7 rfl rfl)
theorem dJ4_inflate_8 : decode cJ4_inflate 8 = .ok (.istore 5, 2) := dk_54 5 (dk_at dksJ4_inflate_0 8 rfl rfl)
theorem dJ4_inflate_10 : decode cJ4_inflate 10 = .ok (.iload 5, 2) := dk_21 5 (dk_at dksJ4_inflate_0 10 rfl rfl)
theorem dJ4_inflate_12 : decode cJ4_inflate 12 = .ok (.iload 4, 2) := dk_21 4 (dk_at dksJ4_inflate_0 12 rfl rfl)
theorem dJ4_inflate_14 : decode cJ4_inflate 14 = .ok (.if_icmp .ge 27, 3) := dk_162 0 27 (dk_at dksJ4_inflate_0 14 rfl rfl)
theorem dJ4_inflate_17 : decode cJ4_inflate 17 = .ok (.aload_n 2, 1) := dk_44 (dk_at dksJ4_inflate_0 17 rfl rfl)
theorem dJ4_inflate_18 : decode cJ4_inflate 18 = .ok (.iload_n 3, 1) := dk_29 (dk_at dksJ4_inflate_0 18 rfl rfl)
theorem dJ4_inflate_19 : decode cJ4_inflate 19 = .ok (.iinc 3 1, 3) := dk_132 3 1 (dk_at dksJ4_inflate_0 19 rfl rfl)
theorem dJ4_inflate_22 : decode cJ4_inflate 22 = .ok (.aload_n 0, 1) := dk_42 (dk_at dksJ4_inflate_0 22 rfl rfl)
theorem dJ4_inflate_23 : decode cJ4_inflate 23 = .ok (.iload_n 1, 1) := dk_27 (dk_at dksJ4_inflate_0 23 rfl rfl)
theorem dJ4_inflate_24 : decode cJ4_inflate 24 = .ok (.iinc 1 1, 3) := dk_132 1 1 (dk_at dksJ4_inflate_1 0 rfl rfl)
theorem dJ4_inflate_27 : decode cJ4_inflate 27 = .ok (.baload, 1) := dk_51 (dk_at dksJ4_inflate_1 3 rfl rfl)
theorem dJ4_inflate_28 : decode cJ4_inflate 28 = .ok (.sipush 255, 3) := dk_17 0 255 (dk_at dksJ4_inflate_1 4 rfl rfl)
theorem dJ4_inflate_31 : decode cJ4_inflate 31 = .ok (.iand, 1) := dk_126 (dk_at dksJ4_inflate_1 7 rfl rfl)
theorem dJ4_inflate_32 : decode cJ4_inflate 32 = .ok (.invokestatic 111, 3) := dk_184 0 111 (dk_at dksJ4_inflate_1 8 rfl rfl)
theorem dJ4_inflate_35 : decode cJ4_inflate 35 = .ok (.iinc 5 1, 3) := dk_132 5 1 (dk_at dksJ4_inflate_1 11 rfl rfl)
theorem dJ4_inflate_38 : decode cJ4_inflate 38 = .ok (.goto (-28), 3) := dk_167 255 228 (dk_at dksJ4_inflate_1 14 rfl rfl)
theorem dJ4_inflate_41 : decode cJ4_inflate 41 = .ok (.return_, 1) := dk_177 (dk_at dksJ4_inflate_1 17 rfl rfl)
def dkwJ4_checkBoundsOffCount_0 : List UInt8 := [26, 27, 44, 184, 0, 48, 184, 1, 163, 87, 177]
abbrev dktJ4_checkBoundsOffCount_0 : List UInt8 := dkwJ4_checkBoundsOffCount_0 ++ []
theorem dksJ4_checkBoundsOffCount_0 : cJ4_checkBoundsOffCount.data.toList.drop 0 = dktJ4_checkBoundsOffCount_0 := by decide +kernel
theorem dJ4_checkBoundsOffCount_0 : decode cJ4_checkBoundsOffCount 0 = .ok (.iload_n 0, 1) := dk_26 (dk_at dksJ4_checkBoundsOffCount_0 0 rfl rfl)
theorem dJ4_checkBoundsOffCount_1 : decode cJ4_checkBoundsOffCount 1 = .ok (.iload_n 1, 1) := dk_27 (dk_at dksJ4_checkBoundsOffCount_0 1 rfl rfl)
theorem dJ4_checkBoundsOffCount_2 : decode cJ4_checkBoundsOffCount 2 = .ok (.aload_n 2, 1) := dk_44 (dk_at dksJ4_checkBoundsOffCount_0 2 rfl rfl)
theorem dJ4_checkBoundsOffCount_3 : decode cJ4_checkBoundsOffCount 3 = .ok (.invokestatic 48, 3) := dk_184 0 48 (dk_at dksJ4_checkBoundsOffCount_0 3 rfl rfl)
theorem dJ4_checkBoundsOffCount_6 : decode cJ4_checkBoundsOffCount 6 = .ok (.invokestatic 419, 3) := dk_184 1 163 (dk_at dksJ4_checkBoundsOffCount_0 6 rfl rfl)
theorem dJ4_checkBoundsOffCount_9 : decode cJ4_checkBoundsOffCount 9 = .ok (.pop, 1) := dk_87 (dk_at dksJ4_checkBoundsOffCount_0 9 rfl rfl)
theorem dJ4_checkBoundsOffCount_10 : decode cJ4_checkBoundsOffCount 10 = .ok (.return_, 1) := dk_177 (dk_at dksJ4_checkBoundsOffCount_0 10 rfl rfl)
def dkwJ4_length_0 : List UInt8 := [42, 190, 4, 122, 172]
abbrev dktJ4_length_0 : List UInt8 := dkwJ4_length_0 ++ []
theorem dksJ4_length_0 : cJ4_length.data.toList.drop 0 = dktJ4_length_0 := by decide +kernel
theorem dJ4_length_0 : decode cJ4_length 0 = .ok (.aload_n 0, 1) := dk_42 (dk_at dksJ4_length_0 0 rfl rfl)
theorem dJ4_length_1 : decode cJ4_length 1 = .ok (.arraylength, 1) := dk_190 (dk_at dksJ4_length_0 1 rfl rfl)
theorem dJ4_length_2 : decode cJ4_length 2 = .ok (.iconst 1, 1) := dk_4 (dk_at dksJ4_length_0 2 rfl rfl)
theorem dJ4_length_3 : decode cJ4_length 3 = .ok (.ishr, 1) := dk_122 (dk_at dksJ4_length_0 3 rfl rfl)
theorem dJ4_length_4 : decode cJ4_length 4 = .ok (.ireturn, 1) := dk_172 (dk_at dksJ4_length_0 4 rfl rfl)
def dkwJ4_putChar_2 : List UInt8 := [178, 0, 63, 122, 145, 84, 177]
abbrev dktJ4_putChar_2 : List UInt8 := dkwJ4_putChar_2 ++ []
def dkwJ4_putChar_1 : List UInt8 := [183, 0, 56, 191, 27, 4, 120, 60, 42, 27, 132, 1, 1, 28, 178, 0, 59, 122, 145, 84, 42, 27, 28]
abbrev dktJ4_putChar_1 : List UInt8 := dkwJ4_putChar_1 ++ dktJ4_putChar_2
def dkwJ4_putChar_0 : List UInt8 := [178, 0, 44, 154, 0, 25, 27, 155, 0, 11, 27, 42, 184, 0, 48, 161, 0, 13, 187, 0, 52, 89, 18, 54]
abbrev dktJ4_putChar_0 : List UInt8 := dkwJ4_putChar_0 ++ dktJ4_putChar_1
theorem dksJ4_putChar_0 : cJ4_putChar.data.toList.drop 0 = dktJ4_putChar_0 := by decide +kernel
theorem dksJ4_putChar_1 : cJ4_putChar.data.toList.drop 24 = dktJ4_putChar_1 := dk_seg dksJ4_putChar_0 24 rfl rfl
theorem dksJ4_putChar_2 : cJ4_putChar.data.toList.drop 47 = dktJ4_putChar_2 := dk_seg dksJ4_putChar_1 23 rfl rfl
theorem dJ4_putChar_0 : decode cJ4_putChar 0 = .ok (.getstatic 44, 3) := dk_178 0 44 (dk_at dksJ4_putChar_0 0 rfl rfl)
theorem dJ4_putChar_3 : decode cJ4_putChar 3 = .ok (.ifCond .ne 25, 3) := dk_154 0 25 (dk_at dksJ4_putChar_0 3 rfl rfl)
theorem dJ4_putChar_6 : decode cJ4_putChar 6 = .ok (.iload_n 1, 1) := dk_27 (dk_at dksJ4_putChar_0 6 rfl rfl)
theorem dJ4_putChar_7 : decode cJ4_putChar 7 = .ok (.ifCond .lt 11, 3) := dk_155 0 11 (dk_at dksJ4_putChar_0 7 rfl rfl)
theorem dJ4_putChar_10 : decode cJ4_putChar 10 = .ok (.iload_n 1, 1) := dk_27 (dk_at dksJ4_putChar_0 10 rfl rfl)
theorem dJ4_putChar_11 : decode cJ4_putChar 11 = .ok (.aload_n 0, 1) := dk_42 (dk_at dksJ4_putChar_0 11 rfl rfl)
theorem dJ4_putChar_12 : decode cJ4_putChar 12 = .ok (.invokestatic 48, 3) := dk_184 0 48 (dk_at dksJ4_putChar_0 12 rfl rfl)
theorem dJ4_putChar_15 : decode cJ4_putChar 15 = .ok (.if_icmp .lt 13, 3) := dk_161 0 13 (dk_at dksJ4_putChar_0 15 rfl rfl)
theorem dJ4_putChar_18 : decode cJ4_putChar 18 = .ok (.new 52, 3) := dk_187 0 52 (dk_at dksJ4_putChar_0 18 rfl rfl)
theorem dJ4_putChar_21 : decode cJ4_putChar 21 = .ok (.dup, 1) := dk_89 (dk_at dksJ4_putChar_0 21 rfl rfl)
theorem dJ4_putChar_22 : decode cJ4_putChar 22 = .ok (.ldc 54, 2) := dk_18 54 (dk_at dksJ4_putChar_0 22 rfl rfl)
theorem dJ4_putChar_24 : decode cJ4_putChar 24 = .ok (.invokespecial 56, 3) := dk_183 0 56 (dk_at dksJ4_putChar_1 0 rfl rfl)
theorem dJ4_putChar_27 : decode cJ4_putChar 27 = .ok (.athrow, 1) := dk_191 (dk_at dksJ4_putChar_1 3 rfl rfl)
theorem dJ4_putChar_28 : decode cJ4_putChar 28 = .ok (.iload_n 1, 1) := dk_27 (dk_at dksJ4_putChar_1 4 rfl rfl)
theorem dJ4_putChar_29 : decode cJ4_putChar 29 = .ok (.iconst 1, 1) := dk_4 (dk_at dksJ4_putChar_1 5 rfl rfl)
theorem dJ4_putChar_30 : decode cJ4_putChar 30 = .ok (.ishl, 1) := dk_120 (dk_at dksJ4_putChar_1 6 rfl rfl)
theorem dJ4_putChar_31 : decode cJ4_putChar 31 = .ok (.istore_n 1, 1) := dk_60 (dk_at dksJ4_putChar_1 7 rfl rfl)
theorem dJ4_putChar_32 : decode cJ4_putChar 32 = .ok (.aload_n 0, 1) := dk_42 (dk_at dksJ4_putChar_1 8 rfl rfl)
theorem dJ4_putChar_33 : decode cJ4_putChar 33 = .ok (.iload_n 1, 1) := dk_27 (dk_at dksJ4_putChar_1 9 rfl rfl)
theorem dJ4_putChar_34 : decode cJ4_putChar 34 = .ok (.iinc 1 1, 3) := dk_132 1 1 (dk_at dksJ4_putChar_1 10 rfl rfl)
theorem dJ4_putChar_37 : decode cJ4_putChar 37 = .ok (.iload_n 2, 1) := dk_28 (dk_at dksJ4_putChar_1 13 rfl rfl)
theorem dJ4_putChar_38 : decode cJ4_putChar 38 = .ok (.getstatic 59, 3) := dk_178 0 59 (dk_at dksJ4_putChar_1 14 rfl rfl)
theorem dJ4_putChar_41 : decode cJ4_putChar 41 = .ok (.ishr, 1) := dk_122 (dk_at dksJ4_putChar_1 17 rfl rfl)
theorem dJ4_putChar_42 : decode cJ4_putChar 42 = .ok (.i2b, 1) := dk_145 (dk_at dksJ4_putChar_1 18 rfl rfl)
theorem dJ4_putChar_43 : decode cJ4_putChar 43 = .ok (.bastore, 1) := dk_84 (dk_at dksJ4_putChar_1 19 rfl rfl)
theorem dJ4_putChar_44 : decode cJ4_putChar 44 = .ok (.aload_n 0, 1) := dk_42 (dk_at dksJ4_putChar_1 20 rfl rfl)
theorem dJ4_putChar_45 : decode cJ4_putChar 45 = .ok (.iload_n 1, 1) := dk_27 (dk_at dksJ4_putChar_1 21 rfl rfl)
theorem dJ4_putChar_46 : decode cJ4_putChar 46 = .ok (.iload_n 2, 1) := dk_28 (dk_at dksJ4_putChar_1 22 rfl rfl)
theorem dJ4_putChar_47 : decode cJ4_putChar 47 = .ok (.getstatic 63, 3) := dk_178 0 63 (dk_at dksJ4_putChar_2 0 rfl rfl)
theorem dJ4_putChar_50 : decode cJ4_putChar 50 = .ok (.ishr, 1) := dk_122 (dk_at dksJ4_putChar_2 3 rfl rfl)
theorem dJ4_putChar_51 : decode cJ4_putChar 51 = .ok (.i2b, 1) := dk_145 (dk_at dksJ4_putChar_2 4 rfl rfl)
theorem dJ4_putChar_52 : decode cJ4_putChar 52 = .ok (.bastore, 1) := dk_84 (dk_at dksJ4_putChar_2 5 rfl rfl)
theorem dJ4_putChar_53 : decode cJ4_putChar 53 = .ok (.return_, 1) := dk_177 (dk_at dksJ4_putChar_2 6 rfl rfl)
def dkwJ4_putCharSB_0 : List UInt8 := [27, 42, 184, 0, 67, 42, 27, 28, 184, 0, 111, 177]
abbrev dktJ4_putCharSB_0 : List UInt8 := dkwJ4_putCharSB_0 ++ []
theorem dksJ4_putCharSB_0 : cJ4_putCharSB.data.toList.drop 0 = dktJ4_putCharSB_0 := by decide +kernel
theorem dJ4_putCharSB_0 : decode cJ4_putCharSB 0 = .ok (.iload_n 1, 1) := dk_27 (dk_at dksJ4_putCharSB_0 0 rfl rfl)
theorem dJ4_putCharSB_1 : decode cJ4_putCharSB 1 = .ok (.aload_n 0, 1) := dk_42 (dk_at dksJ4_putCharSB_0 1 rfl rfl)
theorem dJ4_putCharSB_2 : decode cJ4_putCharSB 2 = .ok (.invokestatic 67, 3) := dk_184 0 67 (dk_at dksJ4_putCharSB_0 2 rfl rfl)
theorem dJ4_putCharSB_5 : decode cJ4_putCharSB 5 = .ok (.aload_n 0, 1) := dk_42 (dk_at dksJ4_putCharSB_0 5 rfl rfl)
theorem dJ4_putCharSB_6 : decode cJ4_putCharSB 6 = .ok (.iload_n 1, 1) := dk_27 (dk_at dksJ4_putCharSB_0 6 rfl rfl)
theorem dJ4_putCharSB_7 : decode cJ4_putCharSB 7 = .ok (.iload_n 2, 1) := dk_28 (dk_at dksJ4_putCharSB_0 7 rfl rfl)
theorem dJ4_putCharSB_8 : decode cJ4_putCharSB 8 = .ok (.invokestatic 111, 3) := dk_184 0 111 (dk_at dksJ4_putCharSB_0 8 rfl rfl)
theorem dJ4_putCharSB_11 : decode cJ4_putCharSB 11 = .ok (.return_, 1) := dk_177 (dk_at dksJ4_putCharSB_0 11 rfl rfl)
def dkwJ4_checkIndex_0 : List UInt8 := [26, 43, 184, 0, 48, 184, 1, 158, 177]
abbrev dktJ4_checkIndex_0 : List UInt8 := dkwJ4_checkIndex_0 ++ []
theorem dksJ4_checkIndex_0 : cJ4_checkIndex.data.toList.drop 0 = dktJ4_checkIndex_0 := by decide +kernel
theorem dJ4_checkIndex_0 : decode cJ4_checkIndex 0 = .ok (.iload_n 0, 1) := dk_26 (dk_at dksJ4_checkIndex_0 0 rfl rfl)
theorem dJ4_checkIndex_1 : decode cJ4_checkIndex 1 = .ok (.aload_n 1, 1) := dk_43 (dk_at dksJ4_checkIndex_0 1 rfl rfl)
theorem dJ4_checkIndex_2 : decode cJ4_checkIndex 2 = .ok (.invokestatic 48, 3) := dk_184 0 48 (dk_at dksJ4_checkIndex_0 2 rfl rfl)
theorem dJ4_checkIndex_5 : decode cJ4_checkIndex 5 = .ok (.invokestatic 414, 3) := dk_184 1 158 (dk_at dksJ4_checkIndex_0 5 rfl rfl)
theorem dJ4_checkIndex_8 : decode cJ4_checkIndex 8 = .ok (.return_, 1) := dk_177 (dk_at dksJ4_checkIndex_0 8 rfl rfl)
def dkwJ4_compress_2 : List UInt8 := [25, 5, 3, 45, 3, 28, 184, 0, 123, 28, 159, 0, 6, 25, 5, 176, 45, 176]
abbrev dktJ4_compress_2 : List UInt8 := dkwJ4_compress_2 ++ []
def dkwJ4_compress_1 : List UInt8 := [27, 28, 96, 184, 0, 11, 184, 0, 126, 58, 5, 25, 5, 21, 4, 184, 0, 71, 17, 0, 255, 163, 0, 16]
abbrev dktJ4_compress_1 : List UInt8 := dkwJ4_compress_1 ++ dktJ4_compress_2
def dkwJ4_compress_0 : List UInt8 := [28, 188, 8, 78, 42, 27, 45, 3, 28, 184, 0, 123, 54, 4, 21, 4, 28, 159, 0, 47, 42, 27, 4, 120]
abbrev dktJ4_compress_0 : List UInt8 := dkwJ4_compress_0 ++ dktJ4_compress_1
theorem dksJ4_compress_0 : cJ4_compress.data.toList.drop 0 = dktJ4_compress_0 := by decide +kernel
theorem dksJ4_compress_1 : cJ4_compress.data.toList.drop 24 = dktJ4_compress_1 := dk_seg dksJ4_compress_0 24 rfl rfl
theorem dksJ4_compress_2 : cJ4_compress.data.toList.drop 48 = dktJ4_compress_2 := dk_seg dksJ4_compress_1 24 rfl rfl
theorem dJ4_compress_0 : decode cJ4_compress 0 = .ok (.iload_n 2, 1) := dk_28 (dk_at dksJ4_compress_0 0 rfl rfl)
theorem dJ4_compress_1 : decode cJ4_compress 1 = .ok (.newarray .byte, 2) := dk_188_8 (dk_at dksJ4_compress_0 1 rfl rfl)
theorem dJ4_compress_3 : decode cJ4_compress 3 = .ok (.astore_n 3, 1) := dk_78 (dk_at dksJ4_compress_0 3 rfl rfl)
theorem dJ4_compress_4 : decode cJ4_compress 4 = .ok (.aload_n 0, 1) := dk_42 (dk_at dksJ4_compress_0 4 rfl rfl)
theorem dJ4_compress_5 : decode cJ4_compress 5 = .ok (.iload_n 1, 1) := dk_27 (dk_at dksJ4_compress_0 5 rfl rfl)
theorem dJ4_compress_6 : decode cJ4_compress 6 = .ok (.aload_n 3, 1) := dk_45 (dk_at dksJ4_compress_0 6 rfl rfl)
theorem dJ4_compress_7 : decode cJ4_compress 7 = .ok (.iconst 0, 1) := dk_3 (dk_at dksJ4_compress_0 7 rfl rfl)
theorem dJ4_compress_8 : decode cJ4_compress 8 = .ok (.iload_n 2, 1) := dk_28 (dk_at dksJ4_compress_0 8 rfl rfl)
theorem dJ4_compress_9 : decode cJ4_compress 9 = .ok (.invokestatic 123, 3) := dk_184 0 123 (dk_at dksJ4_compress_0 9 rfl rfl)
theorem dJ4_compress_12 : decode cJ4_compress 12 = .ok (.istore 4, 2) := dk_54 4 (dk_at dksJ4_compress_0 12 rfl rfl)
theorem dJ4_compress_14 : decode cJ4_compress 14 = .ok (.iload 4, 2) := dk_21 4 (dk_at dksJ4_compress_0 14 rfl rfl)
theorem dJ4_compress_16 : decode cJ4_compress 16 = .ok (.iload_n 2, 1) := dk_28 (dk_at dksJ4_compress_0 16 rfl rfl)
theorem dJ4_compress_17 : decode cJ4_compress 17 = .ok (.if_icmp .eq 47, 3) := dk_159 0 47 (dk_at dksJ4_compress_0 17 rfl rfl)
theorem dJ4_compress_20 : decode cJ4_compress 20 = .ok (.aload_n 0, 1) := dk_42 (dk_at dksJ4_compress_0 20 rfl rfl)
theorem dJ4_compress_21 : decode cJ4_compress 21 = .ok (.iload_n 1, 1) := dk_27 (dk_at dksJ4_compress_0 21 rfl rfl)
theorem dJ4_compress_22 : decode cJ4_compress 22 = .ok (.iconst 1, 1) := dk_4 (dk_at dksJ4_compress_0 22 rfl rfl)
theorem dJ4_compress_23 : decode cJ4_compress 23 = .ok (.ishl, 1) := dk_120 (dk_at dksJ4_compress_0 23 rfl rfl)
theorem dJ4_compress_24 : decode cJ4_compress 24 = .ok (.iload_n 1, 1) := dk_27 (dk_at dksJ4_compress_1 0 rfl rfl)
theorem dJ4_compress_25 : decode cJ4_compress 25 = .ok (.iload_n 2, 1) := dk_28 (dk_at dksJ4_compress_1 1 rfl rfl)
theorem dJ4_compress_26 : decode cJ4_compress 26 = .ok (.iadd, 1) := dk_96 (dk_at dksJ4_compress_1 2 rfl rfl)
theorem dJ4_compress_27 : decode cJ4_compress 27 = .ok (.invokestatic 11, 3) := dk_184 0 11 (dk_at dksJ4_compress_1 3 rfl rfl)
theorem dJ4_compress_30 : decode cJ4_compress 30 = .ok (.invokestatic 126, 3) := dk_184 0 126 (dk_at dksJ4_compress_1 6 rfl rfl)
theorem dJ4_compress_33 : decode cJ4_compress 33 = .ok (.astore 5, 2) := dk_58 5 (dk_at dksJ4_compress_1 9 rfl rfl)
theorem dJ4_compress_35 : decode cJ4_compress 35 = .ok (.aload 5, 2) := dk_25 5 (dk_at dksJ4_compress_1 11 rfl rfl)
theorem dJ4_compress_37 : decode cJ4_compress 37 = .ok (.iload 4, 2) := dk_21 4 (dk_at dksJ4_compress_1 13 rfl rfl)
theorem dJ4_compress_39 : decode cJ4_compress 39 = .ok (.invokestatic 71, 3) := dk_184 0 71 (dk_at dksJ4_compress_1 15 rfl rfl)
theorem dJ4_compress_42 : decode cJ4_compress 42 = .ok (.sipush 255, 3) := dk_17 0 255 (dk_at dksJ4_compress_1 18 rfl rfl)
theorem dJ4_compress_45 : decode cJ4_compress 45 = .ok (.if_icmp .gt 16, 3) := dk_163 0 16 (dk_at dksJ4_compress_1 21 rfl rfl)
theorem dJ4_compress_48 : decode cJ4_compress 48 = .ok (.aload 5, 2) := dk_25 5 (dk_at dksJ4_compress_2 0 rfl rfl)
theorem dJ4_compress_50 : decode cJ4_compress 50 = .ok (.iconst 0, 1) := dk_3 (dk_at dksJ4_compress_2 2 rfl rfl)
theorem dJ4_compress_51 : decode cJ4_compress 51 = .ok (.aload_n 3, 1) := dk_45 (dk_at dksJ4_compress_2 3 rfl rfl)
theorem dJ4_compress_52 : decode cJ4_compress 52 = .ok (.iconst 0, 1) := dk_3 (dk_at dksJ4_compress_2 4 rfl rfl)
theorem dJ4_compress_53 : decode cJ4_compress 53 = .ok (.iload_n 2, 1) := dk_28 (dk_at dksJ4_compress_2 5 rfl rfl)
theorem dJ4_compress_54 : decode cJ4_compress 54 = .ok (.invokestatic 123, 3) := dk_184 0 123 (dk_at dksJ4_compress_2 6 rfl rfl)
theorem dJ4_compress_57 : decode cJ4_compress 57 = .ok (.iload_n 2, 1) := dk_28 (dk_at dksJ4_compress_2 9 rfl rfl)
theorem dJ4_compress_58 : decode cJ4_compress 58 = .ok (.if_icmp .eq 6, 3) := dk_159 0 6 (dk_at dksJ4_compress_2 10 rfl rfl)
theorem dJ4_compress_61 : decode cJ4_compress 61 = .ok (.aload 5, 2) := dk_25 5 (dk_at dksJ4_compress_2 13 rfl rfl)
theorem dJ4_compress_63 : decode cJ4_compress 63 = .ok (.areturn, 1) := dk_176 (dk_at dksJ4_compress_2 15 rfl rfl)
theorem dJ4_compress_64 : decode cJ4_compress 64 = .ok (.aload_n 3, 1) := dk_45 (dk_at dksJ4_compress_2 16 rfl rfl)
theorem dJ4_compress_65 : decode cJ4_compress 65 = .ok (.areturn, 1) := dk_176 (dk_at dksJ4_compress_2 17 rfl rfl)
def dkwJ4_compress_2_2 : List UInt8 := [132, 5, 1, 167, 255, 216, 21, 4, 172]
abbrev dktJ4_compress_2_2 : List UInt8 := dkwJ4_compress_2_2 ++ []
def dkwJ4_compress_2_1 : List UInt8 := [21, 6, 17, 0, 255, 164, 0, 6, 21, 5, 172, 44, 29, 21, 6, 145, 84, 132, 1, 1, 132, 3, 1]
abbrev dktJ4_compress_2_1 : List UInt8 := dkwJ4_compress_2_1 ++ dktJ4_compress_2_2
def dkwJ4_compress_2_0 : List UInt8 := [27, 21, 4, 42, 184, 0, 173, 3, 54, 5, 21, 5, 21, 4, 162, 0, 39, 42, 27, 184, 0, 71, 54, 6]
abbrev dktJ4_compress_2_0 : List UInt8 := dkwJ4_compress_2_0 ++ dktJ4_compress_2_1
theorem dksJ4_compress_2_0 : cJ4_compress_2.data.toList.drop 0 = dktJ4_compress_2_0 := by decide +kernel
theorem dksJ4_compress_2_1 : cJ4_compress_2.data.toList.drop 24 = dktJ4_compress_2_1 := dk_seg dksJ4_compress_2_0 24 rfl rfl
theorem dksJ4_compress_2_2 : cJ4_compress_2.data.toList.drop 47 = dktJ4_compress_2_2 := dk_seg dksJ4_compress_2_1 23 rfl rfl
theorem dJ4_compress_2_0 : decode cJ4_compress_2 0 = .ok (.iload_n 1, 1) := dk_27 (dk_at dksJ4_compress_2_0 0 rfl rfl)
theorem dJ4_compress_2_1 : decode cJ4_compress_2 1 = .ok (.iload 4, 2) := dk_21 4 (dk_at dksJ4_compress_2_0 1 rfl rfl)
theorem dJ4_compress_2_3 : decode cJ4_compress_2 3 = .ok (.aload_n 0, 1) := dk_42 (dk_at dksJ4_compress_2_0 3 rfl rfl)
theorem dJ4_compress_2_4 : decode cJ4_compress_2 4 = .ok (.invokestatic 173, 3) := dk_184 0 173 (dk_at dksJ4_compress_2_0 4 rfl rfl)
theorem dJ4_compress_2_7 : decode cJ4_compress_2 7 = .ok (.iconst 0, 1) := dk_3 (dk_at dksJ4_compress_2_0 7 rfl rfl)
theorem dJ4_compress_2_8 : decode cJ4_compress_2 8 = .ok (.istore 5, 2) := dk_54 5 (dk_at dksJ4_compress_2_0 8 rfl rfl)
theorem dJ4_compress_2_10 : decode cJ4_compress_2 10 = .ok (.iload 5, 2) := dk_21 5 (dk_at dksJ4_compress_2_0 10 rfl rfl)
theorem dJ4_compress_2_12 : decode cJ4_compress_2 12 = .ok (.iload 4, 2) := dk_21 4 (dk_at dksJ4_compress_2_0 12 rfl rfl)
theorem dJ4_compress_2_14 : decode cJ4_compress_2 14 = .ok (.if_icmp .ge 39, 3) := dk_162 0 39 (dk_at dksJ4_compress_2_0 14 rfl rfl)
theorem dJ4_compress_2_17 : decode cJ4_compress_2 17 = .ok (.aload_n 0, 1) := dk_42 (dk_at dksJ4_compress_2_0 17 rfl rfl)
theorem dJ4_compress_2_18 : decode cJ4_compress_2 18 = .ok (.iload_n 1, 1) := dk_27 (dk_at dksJ4_compress_2_0 18 rfl rfl)
theorem dJ4_compress_2_19 : decode cJ4_compress_2 19 = .ok (.invokestatic 71, 3) := dk_184 0 71 (dk_at dksJ4_compress_2_0 19 rfl rfl)
theorem dJ4_compress_2_22 : decode cJ4_compress_2 22 = .ok (.istore 6, 2) := dk_54 6 (dk_at dksJ4_compress_2_0 22 rfl rfl)
theorem dJ4_compress_2_24 : decode cJ4_compress_2 24 = .ok (.iload 6, 2) := dk_21 6 (dk_at dksJ4_compress_2_1 0 rfl rfl)
theorem dJ4_compress_2_26 : decode cJ4_compress_2 26 = .ok (.sipush 255, 3) := dk_17 0 255 (dk_at dksJ4_compress_2_1 2 rfl rfl)
theorem dJ4_compress_2_29 : decode cJ4_compress_2 29 = .ok (.if_icmp .le 6, 3) := dk_164 0 6 (dk_at dksJ4_compress_2_1 5 rfl rfl)
theorem dJ4_compress_2_32 : decode cJ4_compress_2 32 = .ok (.iload 5, 2) := dk_21 5 (dk_at dksJ4_compress_2_1 8 rfl rfl)
theorem dJ4_compress_2_34 : decode cJ4_compress_2 34 = .ok (.ireturn, 1) := dk_172 (dk_at dksJ4_compress_2_1 10 rfl rfl)
theorem dJ4_compress_2_35 : decode cJ4_compress_2 35 = .ok (.aload_n 2, 1) := dk_44 (dk_at dksJ4_compress_2_1 11 rfl rfl)
theorem dJ4_compress_2_36 : decode cJ4_compress_2 36 = .ok (.iload_n 3, 1) := dk_29 (dk_at dksJ4_compress_2_1 12 rfl rfl)
theorem dJ4_compress_2_37 : decode cJ4_compress_2 37 = .ok (.iload 6, 2) := dk_21 6 (dk_at dksJ4_compress_2_1 13 rfl rfl)
theorem dJ4_compress_2_39 : decode cJ4_compress_2 39 = .ok (.i2b, 1) := dk_145 (dk_at dksJ4_compress_2_1 15 rfl rfl)
theorem dJ4_compress_2_40 : decode cJ4_compress_2 40 = .ok (.bastore, 1) := dk_84 (dk_at dksJ4_compress_2_1 16 rfl rfl)
theorem dJ4_compress_2_41 : decode cJ4_compress_2 41 = .ok (.iinc 1 1, 3) := dk_132 1 1 (dk_at dksJ4_compress_2_1 17 rfl rfl)
theorem dJ4_compress_2_44 : decode cJ4_compress_2 44 = .ok (.iinc 3 1, 3) := dk_132 3 1 (dk_at dksJ4_compress_2_1 20 rfl rfl)
theorem dJ4_compress_2_47 : decode cJ4_compress_2 47 = .ok (.iinc 5 1, 3) := dk_132 5 1 (dk_at dksJ4_compress_2_2 0 rfl rfl)
theorem dJ4_compress_2_50 : decode cJ4_compress_2 50 = .ok (.goto (-40), 3) := dk_167 255 216 (dk_at dksJ4_compress_2_2 3 rfl rfl)
theorem dJ4_compress_2_53 : decode cJ4_compress_2 53 = .ok (.iload 4, 2) := dk_21 4 (dk_at dksJ4_compress_2_2 6 rfl rfl)
theorem dJ4_compress_2_55 : decode cJ4_compress_2 55 = .ok (.ireturn, 1) := dk_172 (dk_at dksJ4_compress_2_2 8 rfl rfl)
def dkwJ4_getChar_2 : List UInt8 := [51, 17, 0, 255, 126, 178, 0, 63, 120, 128, 146, 172]
abbrev dktJ4_getChar_2 : List UInt8 := dkwJ4_getChar_2 ++ []
def dkwJ4_getChar_1 : List UInt8 := [183, 0, 56, 191, 27, 4, 120, 60, 42, 27, 132, 1, 1, 51, 17, 0, 255, 126, 178, 0, 59, 120, 42, 27]
abbrev dktJ4_getChar_1 : List UInt8 := dkwJ4_getChar_1 ++ dktJ4_getChar_2
def dkwJ4_getChar_0 : List UInt8 := [178, 0, 44, 154, 0, 25, 27, 155, 0, 11, 27, 42, 184, 0, 48, 161, 0, 13, 187, 0, 52, 89, 18, 54]
abbrev dktJ4_getChar_0 : List UInt8 := dkwJ4_getChar_0 ++ dktJ4_getChar_1
theorem dksJ4_getChar_0 : cJ4_getChar.data.toList.drop 0 = dktJ4_getChar_0 := by decide +kernel
theorem dksJ4_getChar_1 : cJ4_getChar.data.toList.drop 24 = dktJ4_getChar_1 := dk_seg dksJ4_getChar_0 24 rfl rfl
theorem dksJ4_getChar_2 : cJ4_getChar.data.toList.drop 48 = dktJ4_getChar_2 := dk_seg dksJ4_getChar_1 24 rfl rfl
theorem dJ4_getChar_0 : decode cJ4_getChar 0 = .ok (.getstatic 44, 3) := dk_178 0 44 (dk_at dksJ4_getChar_0 0 rfl rfl)
theorem dJ4_getChar_3 : decode cJ4_getChar 3 = .ok (.ifCond .ne 25, 3) := dk_154 0 25 (dk_at dksJ4_getChar_0 3 rfl rfl)
theorem dJ4_getChar_6 : decode cJ4_getChar 6 = .ok (.iload_n 1, 1) := dk_27 (dk_at dksJ4_getChar_0 6 rfl rfl)
theorem dJ4_getChar_7 : decode cJ4_getChar 7 = .ok (.ifCond .lt 11, 3) := dk_155 0 11 (dk_at dksJ4_getChar_0 7 rfl rfl)
theorem dJ4_getChar_10 : decode cJ4_getChar 10 = .ok (.iload_n 1, 1) := dk_27 (dk_at dksJ4_getChar_0 10 rfl rfl)
theorem dJ4_getChar_11 : decode cJ4_getChar 11 = .ok (.aload_n 0, 1) := dk_42 (dk_at dksJ4_getChar_0 11 rfl rfl)
theorem dJ4_getChar_12 : decode cJ4_getChar 12 = .ok (.invokestatic 48, 3) := dk_184 0 48 (dk_at dksJ4_getChar_0 12 rfl rfl)
theorem dJ4_getChar_15 : decode cJ4_getChar 15 = .ok (.if_icmp .lt 13, 3) := dk_161 0 13 (dk_at dksJ4_getChar_0 15 rfl rfl)
theorem dJ4_getChar_18 : decode cJ4_getChar 18 = .ok (.new 52, 3) := dk_187 0 52 (dk_at dksJ4_getChar_0 18 rfl rfl)
theorem dJ4_getChar_21 : decode cJ4_getChar 21 = .ok (.dup, 1) := dk_89 (dk_at dksJ4_getChar_0 21 rfl rfl)
theorem dJ4_getChar_22 : decode cJ4_getChar 22 = .ok (.ldc 54, 2) := dk_18 54 (dk_at dksJ4_getChar_0 22 rfl rfl)
theorem dJ4_getChar_24 : decode cJ4_getChar 24 = .ok (.invokespecial 56, 3) := dk_183 0 56 (dk_at dksJ4_getChar_1 0 rfl rfl)
theorem dJ4_getChar_27 : decode cJ4_getChar 27 = .ok (.athrow, 1) := dk_191 (dk_at dksJ4_getChar_1 3 rfl rfl)
theorem dJ4_getChar_28 : decode cJ4_getChar 28 = .ok (.iload_n 1, 1) := dk_27 (dk_at dksJ4_getChar_1 4 rfl rfl)
theorem dJ4_getChar_29 : decode cJ4_getChar 29 = .ok (.iconst 1, 1) := dk_4 (dk_at dksJ4_getChar_1 5 rfl rfl)
theorem dJ4_getChar_30 : decode cJ4_getChar 30 = .ok (.ishl, 1) := dk_120 (dk_at dksJ4_getChar_1 6 rfl rfl)
theorem dJ4_getChar_31 : decode cJ4_getChar 31 = .ok (.istore_n 1, 1) := dk_60 (dk_at dksJ4_getChar_1 7 rfl rfl)
theorem dJ4_getChar_32 : decode cJ4_getChar 32 = .ok (.aload_n 0, 1) := dk_42 (dk_at dksJ4_getChar_1 8 rfl rfl)
theorem dJ4_getChar_33 : decode cJ4_getChar 33 = .ok (.iload_n 1, 1) := dk_27 (dk_at dksJ4_getChar_1 9 rfl rfl)
theorem dJ4_getChar_34 : decode cJ4_getChar 34 = .ok (.iinc 1 1, 3) := dk_132 1 1 (dk_at dksJ4_getChar_1 10 rfl rfl)
theorem dJ4_getChar_37 : decode cJ4_getChar 37 = .ok (.baload, 1) := dk_51 (dk_at dksJ4_getChar_1 13 rfl rfl)
theorem dJ4_getChar_38 : decode cJ4_getChar 38 = .ok (.sipush 255, 3) := dk_17 0 255 (dk_at dksJ4_getChar_1 14 rfl rfl)
theorem dJ4_getChar_41 : decode cJ4_getChar 41 = .ok (.iand, 1) := dk_126 (dk_at dksJ4_getChar_1 17 rfl rfl)
theorem dJ4_getChar_42 : decode cJ4_getChar 42 = .ok (.getstatic 59, 3) := dk_178 0 59 (dk_at dksJ4_getChar_1 18 rfl rfl)
theorem dJ4_getChar_45 : decode cJ4_getChar 45 = .ok (.ishl, 1) := dk_120 (dk_at dksJ4_getChar_1 21 rfl rfl)
theorem dJ4_getChar_46 : decode cJ4_getChar 46 = .ok (.aload_n 0, 1) := dk_42 (dk_at dksJ4_getChar_1 22 rfl rfl)
theorem dJ4_getChar_47 : decode cJ4_getChar 47 = .ok (.iload_n 1, 1) := dk_27 (dk_at dksJ4_getChar_1 23 rfl rfl)
theorem dJ4_getChar_48 : decode cJ4_getChar 48 = .ok (.baload, 1) := dk_51 (dk_at dksJ4_getChar_2 0 rfl rfl)
theorem dJ4_getChar_49 : decode cJ4_getChar 49 = .ok (.sipush 255, 3) := dk_17 0 255 (dk_at dksJ4_getChar_2 1 rfl rfl)
theorem dJ4_getChar_52 : decode cJ4_getChar 52 = .ok (.iand, 1) := dk_126 (dk_at dksJ4_getChar_2 4 rfl rfl)
theorem dJ4_getChar_53 : decode cJ4_getChar 53 = .ok (.getstatic 63, 3) := dk_178 0 63 (dk_at dksJ4_getChar_2 5 rfl rfl)
theorem dJ4_getChar_56 : decode cJ4_getChar 56 = .ok (.ishl, 1) := dk_120 (dk_at dksJ4_getChar_2 8 rfl rfl)
theorem dJ4_getChar_57 : decode cJ4_getChar 57 = .ok (.ior, 1) := dk_128 (dk_at dksJ4_getChar_2 9 rfl rfl)
theorem dJ4_getChar_58 : decode cJ4_getChar 58 = .ok (.i2c, 1) := dk_146 (dk_at dksJ4_getChar_2 10 rfl rfl)
theorem dJ4_getChar_59 : decode cJ4_getChar 59 = .ok (.ireturn, 1) := dk_172 (dk_at dksJ4_getChar_2 11 rfl rfl)
def dkwJ4_coderFromArrayLen_0 : List UInt8 := [27, 42, 190, 100, 16, 31, 124, 145, 172]
abbrev dktJ4_coderFromArrayLen_0 : List UInt8 := dkwJ4_coderFromArrayLen_0 ++ []
theorem dksJ4_coderFromArrayLen_0 : cJ4_coderFromArrayLen.data.toList.drop 0 = dktJ4_coderFromArrayLen_0 := by decide +kernel
theorem dJ4_coderFromArrayLen_0 : decode cJ4_coderFromArrayLen 0 = .ok (.iload_n 1, 1) := dk_27 (dk_at dksJ4_coderFromArrayLen_0 0 rfl rfl)
theorem dJ4_coderFromArrayLen_1 : decode cJ4_coderFromArrayLen 1 = .ok (.aload_n 0, 1) := dk_42 (dk_at dksJ4_coderFromArrayLen_0 1 rfl rfl)
theorem dJ4_coderFromArrayLen_2 : decode cJ4_coderFromArrayLen 2 = .ok (.arraylength, 1) := dk_190 (dk_at dksJ4_coderFromArrayLen_0 2 rfl rfl)
theorem dJ4_coderFromArrayLen_3 : decode cJ4_coderFromArrayLen 3 = .ok (.isub, 1) := dk_100 (dk_at dksJ4_coderFromArrayLen_0 3 rfl rfl)
theorem dJ4_coderFromArrayLen_4 : decode cJ4_coderFromArrayLen 4 = .ok (.bipush 31, 2) := dk_16 31 (dk_at dksJ4_coderFromArrayLen_0 4 rfl rfl)
theorem dJ4_coderFromArrayLen_6 : decode cJ4_coderFromArrayLen 6 = .ok (.iushr, 1) := dk_124 (dk_at dksJ4_coderFromArrayLen_0 6 rfl rfl)
theorem dJ4_coderFromArrayLen_7 : decode cJ4_coderFromArrayLen 7 = .ok (.i2b, 1) := dk_145 (dk_at dksJ4_coderFromArrayLen_0 7 rfl rfl)
theorem dJ4_coderFromArrayLen_8 : decode cJ4_coderFromArrayLen 8 = .ok (.ireturn, 1) := dk_172 (dk_at dksJ4_coderFromArrayLen_0 8 rfl rfl)
def dkwJ4_hashCode_2 : List UInt8 := [3, 167, 0, 22, 42, 3, 184, 0, 71, 167, 0, 14, 42, 3, 42, 190, 4, 122, 3, 8, 184, 0, 220, 172]
abbrev dktJ4_hashCode_2 : List UInt8 := dkwJ4_hashCode_2 ++ []
def dkwJ4_hashCode_1 : List UInt8 := [171, 0, 0, 0, 0, 38, 0, 0, 0, 2, 0, 0, 0, 0, 0, 0, 0, 26, 0, 0, 0, 2, 0, 0, 0, 30]
abbrev dktJ4_hashCode_1 : List UInt8 := dkwJ4_hashCode_1 ++ dktJ4_hashCode_2
def dkwJ4_hashCode_0 : List UInt8 := [42, 190]
abbrev dktJ4_hashCode_0 : List UInt8 := dkwJ4_hashCode_0 ++ dktJ4_hashCode_1
theorem dksJ4_hashCode_0 : cJ4_hashCode.data.toList.drop 0 = dktJ4_hashCode_0 := by decide +kernel
theorem dksJ4_hashCode_1 : cJ4_hashCode.data.toList.drop 2 = dktJ4_hashCode_1 := dk_seg dksJ4_hashCode_0 2 rfl rfl
theorem dksJ4_hashCode_2 : cJ4_hashCode.data.toList.drop 28 = dktJ4_hashCode_2 := dk_seg dksJ4_hashCode_1 26 rfl rfl
theorem dJ4_hashCode_0 : decode cJ4_hashCode 0 = .ok (.aload_n 0, 1) := dk_42 (dk_at dksJ4_hashCode_0 0 rfl rfl)
theorem dJ4_hashCode_1 : decode cJ4_hashCode 1 = .ok (.arraylength, 1) := dk_190 (dk_at dksJ4_hashCode_0 1 rfl rfl)
theorem dJ4_hashCode_2 : decode cJ4_hashCode 2 = .ok (.lookupswitch 38 #[(0, 26), (2, 30)], 26) := by decide +kernel
theorem dJ4_hashCode_28 : decode cJ4_hashCode 28 = .ok (.iconst 0, 1) := dk_3 (dk_at dksJ4_hashCode_2 0 rfl rfl)
theorem dJ4_hashCode_29 : decode cJ4_hashCode 29 = .ok (.goto 22, 3) := dk_167 0 22 (dk_at dksJ4_hashCode_2 1 rfl rfl)
theorem dJ4_hashCode_32 : decode cJ4_hashCode 32 = .ok (.aload_n 0, 1) := dk_42 (dk_at dksJ4_hashCode_2 4 rfl rfl)
theorem dJ4_hashCode_33 : decode cJ4_hashCode 33 = .ok (.iconst 0, 1) := dk_3 (dk_at dksJ4_hashCode_2 5 rfl rfl)
theorem dJ4_hashCode_34 : decode cJ4_hashCode 34 = .ok (.invokestatic 71, 3) := dk_184 0 71 (dk_at dksJ4_hashCode_2 6 rfl rfl)
theorem dJ4_hashCode_37 : decode cJ4_hashCode 37 = .ok (.goto 14, 3) := dk_167 0 14 (dk_at dksJ4_hashCode_2 9 rfl rfl)
theorem dJ4_hashCode_40 : decode cJ4_hashCode 40 = .ok (.aload_n 0, 1) := dk_42 (dk_at dksJ4_hashCode_2 12 rfl rfl)
theorem dJ4_hashCode_41 : decode cJ4_hashCode 41 = .ok (.iconst 0, 1) := dk_3 (dk_at dksJ4_hashCode_2 13 rfl rfl)
theorem dJ4_hashCode_42 : decode cJ4_hashCode 42 = .ok (.aload_n 0, 1) := dk_42 (dk_at dksJ4_hashCode_2 14 rfl rfl)
theorem dJ4_hashCode_43 : decode cJ4_hashCode 43 = .ok (.arraylength, 1) := dk_190 (dk_at dksJ4_hashCode_2 15 rfl rfl)
theorem dJ4_hashCode_44 : decode cJ4_hashCode 44 = .ok (.iconst 1, 1) := dk_4 (dk_at dksJ4_hashCode_2 16 rfl rfl)
theorem dJ4_hashCode_45 : decode cJ4_hashCode 45 = .ok (.ishr, 1) := dk_122 (dk_at dksJ4_hashCode_2 17 rfl rfl)
theorem dJ4_hashCode_46 : decode cJ4_hashCode 46 = .ok (.iconst 0, 1) := dk_3 (dk_at dksJ4_hashCode_2 18 rfl rfl)
theorem dJ4_hashCode_47 : decode cJ4_hashCode 47 = .ok (.iconst 5, 1) := dk_8 (dk_at dksJ4_hashCode_2 19 rfl rfl)
theorem dJ4_hashCode_48 : decode cJ4_hashCode 48 = .ok (.invokestatic 220, 3) := dk_184 0 220 (dk_at dksJ4_hashCode_2 20 rfl rfl)
theorem dJ4_hashCode_51 : decode cJ4_hashCode 51 = .ok (.ireturn, 1) := dk_172 (dk_at dksJ4_hashCode_2 23 rfl rfl)
def dkwJ4_putCharsAt_3 : List UInt8 := [21, 6, 172]
abbrev dktJ4_putCharsAt_3 : List UInt8 := dkwJ4_putCharsAt_3 ++ []
def dkwJ4_putCharsAt_2 : List UInt8 := [184, 0, 111, 178, 0, 44, 154, 0, 17, 27, 21, 6, 159, 0, 11, 187, 0, 52, 89, 183, 0, 66, 191]
abbrev dktJ4_putCharsAt_2 : List UInt8 := dkwJ4_putCharsAt_2 ++ dktJ4_putCharsAt_3
def dkwJ4_putCharsAt_1 : List UInt8 := [132, 1, 1, 29, 184, 0, 111, 42, 27, 132, 1, 1, 21, 4, 184, 0, 111, 42, 27, 132, 1, 1, 21, 5]
abbrev dktJ4_putCharsAt_1 : List UInt8 := dkwJ4_putCharsAt_1 ++ dktJ4_putCharsAt_2
def dkwJ4_putCharsAt_0 : List UInt8 := [27, 7, 96, 54, 6, 27, 21, 6, 42, 184, 0, 96, 42, 27, 132, 1, 1, 28, 184, 0, 111, 42, 27]
abbrev dktJ4_putCharsAt_0 : List UInt8 := dkwJ4_putCharsAt_0 ++ dktJ4_putCharsAt_1
theorem dksJ4_putCharsAt_0 : cJ4_putCharsAt.data.toList.drop 0 = dktJ4_putCharsAt_0 := by decide +kernel
theorem dksJ4_putCharsAt_1 : cJ4_putCharsAt.data.toList.drop 23 = dktJ4_putCharsAt_1 := dk_seg dksJ4_putCharsAt_0 23 rfl rfl
theorem dksJ4_putCharsAt_2 : cJ4_putCharsAt.data.toList.drop 47 = dktJ4_putCharsAt_2 := dk_seg dksJ4_putCharsAt_1 24 rfl rfl
theorem dksJ4_putCharsAt_3 : cJ4_putCharsAt.data.toList.drop 70 = dktJ4_putCharsAt_3 := dk_seg dksJ4_putCharsAt_2 23 rfl rfl
theorem dJ4_putCharsAt_0 : decode cJ4_putCharsAt 0 = .ok (.iload_n 1, 1) := dk_27 (dk_at dksJ4_putCharsAt_0 0 rfl rfl)
theorem dJ4_putCharsAt_1 : decode cJ4_putCharsAt 1 = .ok (.iconst 4, 1) := dk_7 (dk_at dksJ4_putCharsAt_0 1 rfl rfl)
theorem dJ4_putCharsAt_2 : decode cJ4_putCharsAt 2 = .ok (.iadd, 1) := dk_96 (dk_at dksJ4_putCharsAt_0 2 rfl rfl)
theorem dJ4_putCharsAt_3 : decode cJ4_putCharsAt 3 = .ok (.istore 6, 2) := dk_54 6 (dk_at dksJ4_putCharsAt_0 3 rfl rfl)
theorem dJ4_putCharsAt_5 : decode cJ4_putCharsAt 5 = .ok (.iload_n 1, 1) := dk_27 (dk_at dksJ4_putCharsAt_0 5 rfl rfl)
theorem dJ4_putCharsAt_6 : decode cJ4_putCharsAt 6 = .ok (.iload 6, 2) := dk_21 6 (dk_at dksJ4_putCharsAt_0 6 rfl rfl)
theorem dJ4_putCharsAt_8 : decode cJ4_putCharsAt 8 = .ok (.aload_n 0, 1) := dk_42 (dk_at dksJ4_putCharsAt_0 8 rfl rfl)
theorem dJ4_putCharsAt_9 : decode cJ4_putCharsAt 9 = .ok (.invokestatic 96, 3) := dk_184 0 96 (dk_at dksJ4_putCharsAt_0 9 rfl rfl)
theorem dJ4_putCharsAt_12 : decode cJ4_putCharsAt 12 = .ok (.aload_n 0, 1) := dk_42 (dk_at dksJ4_putCharsAt_0 12 rfl rfl)
theorem dJ4_putCharsAt_13 : decode cJ4_putCharsAt 13 = .ok (.iload_n 1, 1) := dk_27 (dk_at dksJ4_putCharsAt_0 13 rfl rfl)
theorem dJ4_putCharsAt_14 : decode cJ4_putCharsAt 14 = .ok (.iinc 1 1, 3) := dk_132 1 1 (dk_at dksJ4_putCharsAt_0 14 rfl rfl)
theorem dJ4_putCharsAt_17 : decode cJ4_putCharsAt 17 = .ok (.iload_n 2, 1) := dk_28 (dk_at dksJ4_putCharsAt_0 17 rfl rfl)
theorem dJ4_putCharsAt_18 : decode cJ4_putCharsAt 18 = .ok (.invokestatic 111, 3) := dk_184 0 111 (dk_at dksJ4_putCharsAt_0 18 rfl rfl)
theorem dJ4_putCharsAt_21 : decode cJ4_putCharsAt 21 = .ok (.aload_n 0, 1) := dk_42 (dk_at dksJ4_putCharsAt_0 21 rfl rfl)
theorem dJ4_putCharsAt_22 : decode cJ4_putCharsAt 22 = .ok (.iload_n 1, 1) := dk_27 (dk_at dksJ4_putCharsAt_0 22 rfl rfl)
theorem dJ4_putCharsAt_23 : decode cJ4_putCharsAt 23 = .ok (.iinc 1 1, 3) := dk_132 1 1 (dk_at dksJ4_putCharsAt_1 0 rfl rfl)
theorem dJ4_putCharsAt_26 : decode cJ4_putCharsAt 26 = .ok (.iload_n 3, 1) := dk_29 (dk_at dksJ4_putCharsAt_1 3 rfl rfl)
theorem dJ4_putCharsAt_27 : decode cJ4_putCharsAt 27 = .ok (.invokestatic 111, 3) := dk_184 0 111 (dk_at dksJ4_putCharsAt_1 4 rfl rfl)
theorem dJ4_putCharsAt_30 : decode cJ4_putCharsAt 30 = .ok (.aload_n 0, 1) := dk_42 (dk_at dksJ4_putCharsAt_1 7 rfl rfl)
theorem dJ4_putCharsAt_31 : decode cJ4_putCharsAt 31 = .ok (.iload_n 1, 1) := dk_27 (dk_at dksJ4_putCharsAt_1 8 rfl rfl)
theorem dJ4_putCharsAt_32 : decode cJ4_putCharsAt 32 = .ok (.iinc 1 1, 3) := dk_132 1 1 (dk_at dksJ4_putCharsAt_1 9 rfl rfl)
theorem dJ4_putCharsAt_35 : decode cJ4_putCharsAt 35 = .ok (.iload 4, 2) := dk_21 4 (dk_at dksJ4_putCharsAt_1 12 rfl rfl)
theorem dJ4_putCharsAt_37 : decode cJ4_putCharsAt 37 = .ok (.invokestatic 111, 3) := dk_184 0 111 (dk_at dksJ4_putCharsAt_1 14 rfl rfl)
theorem dJ4_putCharsAt_40 : decode cJ4_putCharsAt 40 = .ok (.aload_n 0, 1) := dk_42 (dk_at dksJ4_putCharsAt_1 17 rfl rfl)
theorem dJ4_putCharsAt_41 : decode cJ4_putCharsAt 41 = .ok (.iload_n 1, 1) := dk_27 (dk_at dksJ4_putCharsAt_1 18 rfl rfl)
theorem dJ4_putCharsAt_42 : decode cJ4_putCharsAt 42 = .ok (.iinc 1 1, 3) := dk_132 1 1 (dk_at dksJ4_putCharsAt_1 19 rfl rfl)
theorem dJ4_putCharsAt_45 : decode cJ4_putCharsAt 45 = .ok (.iload 5, 2) := dk_21 5 (dk_at dksJ4_putCharsAt_1 22 rfl rfl)
theorem dJ4_putCharsAt_47 : decode cJ4_putCharsAt 47 = .ok (.invokestatic 111, 3) := dk_184 0 111 (dk_at dksJ4_putCharsAt_2 0 rfl rfl)
theorem dJ4_putCharsAt_50 : decode cJ4_putCharsAt 50 = .ok (.getstatic 44, 3) := dk_178 0 44 (dk_at dksJ4_putCharsAt_2 3 rfl rfl)
theorem dJ4_putCharsAt_53 : decode cJ4_putCharsAt 53 = .ok (.ifCond .ne 17, 3) := dk_154 0 17 (dk_at dksJ4_putCharsAt_2 6 rfl rfl)
theorem dJ4_putCharsAt_56 : decode cJ4_putCharsAt 56 = .ok (.iload_n 1, 1) := dk_27 (dk_at dksJ4_putCharsAt_2 9 rfl rfl)
theorem dJ4_putCharsAt_57 : decode cJ4_putCharsAt 57 = .ok (.iload 6, 2) := dk_21 6 (dk_at dksJ4_putCharsAt_2 10 rfl rfl)
theorem dJ4_putCharsAt_59 : decode cJ4_putCharsAt 59 = .ok (.if_icmp .eq 11, 3) := dk_159 0 11 (dk_at dksJ4_putCharsAt_2 12 rfl rfl)
theorem dJ4_putCharsAt_62 : decode cJ4_putCharsAt 62 = .ok (.new 52, 3) := dk_187 0 52 (dk_at dksJ4_putCharsAt_2 15 rfl rfl)
theorem dJ4_putCharsAt_65 : decode cJ4_putCharsAt 65 = .ok (.dup, 1) := dk_89 (dk_at dksJ4_putCharsAt_2 18 rfl rfl)
theorem dJ4_putCharsAt_66 : decode cJ4_putCharsAt 66 = .ok (.invokespecial 66, 3) := dk_183 0 66 (dk_at dksJ4_putCharsAt_2 19 rfl rfl)
theorem dJ4_putCharsAt_69 : decode cJ4_putCharsAt 69 = .ok (.athrow, 1) := dk_191 (dk_at dksJ4_putCharsAt_2 22 rfl rfl)
theorem dJ4_putCharsAt_70 : decode cJ4_putCharsAt 70 = .ok (.iload 6, 2) := dk_21 6 (dk_at dksJ4_putCharsAt_3 0 rfl rfl)
theorem dJ4_putCharsAt_72 : decode cJ4_putCharsAt 72 = .ok (.ireturn, 1) := dk_172 (dk_at dksJ4_putCharsAt_3 2 rfl rfl)
def dkwJ4_checkBoundsBeginEnd_0 : List UInt8 := [26, 27, 44, 184, 0, 48, 184, 0, 241, 177]
abbrev dktJ4_checkBoundsBeginEnd_0 : List UInt8 := dkwJ4_checkBoundsBeginEnd_0 ++ []
theorem dksJ4_checkBoundsBeginEnd_0 : cJ4_checkBoundsBeginEnd.data.toList.drop 0 = dktJ4_checkBoundsBeginEnd_0 := by decide +kernel
theorem dJ4_checkBoundsBeginEnd_0 : decode cJ4_checkBoundsBeginEnd 0 = .ok (.iload_n 0, 1) := dk_26 (dk_at dksJ4_checkBoundsBeginEnd_0 0 rfl rfl)
theorem dJ4_checkBoundsBeginEnd_1 : decode cJ4_checkBoundsBeginEnd 1 = .ok (.iload_n 1, 1) := dk_27 (dk_at dksJ4_checkBoundsBeginEnd_0 1 rfl rfl)
theorem dJ4_checkBoundsBeginEnd_2 : decode cJ4_checkBoundsBeginEnd 2 = .ok (.aload_n 2, 1) := dk_44 (dk_at dksJ4_checkBoundsBeginEnd_0 2 rfl rfl)
theorem dJ4_checkBoundsBeginEnd_3 : decode cJ4_checkBoundsBeginEnd 3 = .ok (.invokestatic 48, 3) := dk_184 0 48 (dk_at dksJ4_checkBoundsBeginEnd_0 3 rfl rfl)
theorem dJ4_checkBoundsBeginEnd_6 : decode cJ4_checkBoundsBeginEnd 6 = .ok (.invokestatic 241, 3) := dk_184 0 241 (dk_at dksJ4_checkBoundsBeginEnd_0 6 rfl rfl)
theorem dJ4_checkBoundsBeginEnd_9 : decode cJ4_checkBoundsBeginEnd 9 = .ok (.return_, 1) := dk_177 (dk_at dksJ4_checkBoundsBeginEnd_0 9 rfl rfl)
def dkwJ4_getChars_1 : List UInt8 := [159, 0, 11, 187, 0, 52, 89, 183, 0, 66, 191, 21, 4, 172]
abbrev dktJ4_getChars_1 : List UInt8 := dkwJ4_getChars_1 ++ []
def dkwJ4_getChars_0 : List UInt8 := [27, 28, 45, 184, 0, 96, 26, 28, 45, 184, 1, 137, 54, 4, 178, 0, 44, 154, 0, 17, 27, 21, 4]
abbrev dktJ4_getChars_0 : List UInt8 := dkwJ4_getChars_0 ++ dktJ4_getChars_1
theorem dksJ4_getChars_0 : cJ4_getChars.data.toList.drop 0 = dktJ4_getChars_0 := by decide +kernel
theorem dksJ4_getChars_1 : cJ4_getChars.data.toList.drop 23 = dktJ4_getChars_1 := dk_seg dksJ4_getChars_0 23 rfl rfl
theorem dJ4_getChars_0 : decode cJ4_getChars 0 = .ok (.iload_n 1, 1) := dk_27 (dk_at dksJ4_getChars_0 0 rfl rfl)
theorem dJ4_getChars_1 : decode cJ4_getChars 1 = .ok (.iload_n 2, 1) := dk_28 (dk_at dksJ4_getChars_0 1 rfl rfl)
theorem dJ4_getChars_2 : decode cJ4_getChars 2 = .ok (.aload_n 3, 1) := dk_45 (dk_at dksJ4_getChars_0 2 rfl rfl)
theorem dJ4_getChars_3 : decode cJ4_getChars 3 = .ok (.invokestatic 96, 3) := dk_184 0 96 (dk_at dksJ4_getChars_0 3 rfl rfl)
theorem dJ4_getChars_6 : decode cJ4_getChars 6 = .ok (.iload_n 0, 1) := dk_26 (dk_at dksJ4_getChars_0 6 rfl rfl)
theorem dJ4_getChars_7 : decode cJ4_getChars 7 = .ok (.iload_n 2, 1) := dk_28 (dk_at dksJ4_getChars_0 7 rfl rfl)
theorem dJ4_getChars_8 : decode cJ4_getChars 8 = .ok (.aload_n 3, 1) := dk_45 (dk_at dksJ4_getChars_0 8 rfl rfl)
theorem dJ4_getChars_9 : decode cJ4_getChars 9 = .ok (.invokestatic 393, 3) := dk_184 1 137 (dk_at dksJ4_getChars_0 9 rfl rfl)
theorem dJ4_getChars_12 : decode cJ4_getChars 12 = .ok (.istore 4, 2) := dk_54 4 (dk_at dksJ4_getChars_0 12 rfl rfl)
theorem dJ4_getChars_14 : decode cJ4_getChars 14 = .ok (.getstatic 44, 3) := dk_178 0 44 (dk_at dksJ4_getChars_0 14 rfl rfl)
theorem dJ4_getChars_17 : decode cJ4_getChars 17 = .ok (.ifCond .ne 17, 3) := dk_154 0 17 (dk_at dksJ4_getChars_0 17 rfl rfl)
theorem dJ4_getChars_20 : decode cJ4_getChars 20 = .ok (.iload_n 1, 1) := dk_27 (dk_at dksJ4_getChars_0 20 rfl rfl)
theorem dJ4_getChars_21 : decode cJ4_getChars 21 = .ok (.iload 4, 2) := dk_21 4 (dk_at dksJ4_getChars_0 21 rfl rfl)
theorem dJ4_getChars_23 : decode cJ4_getChars 23 = .ok (.if_icmp .eq 11, 3) := dk_159 0 11 (dk_at dksJ4_getChars_1 0 rfl rfl)
theorem dJ4_getChars_26 : decode cJ4_getChars 26 = .ok (.new 52, 3) := dk_187 0 52 (dk_at dksJ4_getChars_1 3 rfl rfl)
theorem dJ4_getChars_29 : decode cJ4_getChars 29 = .ok (.dup, 1) := dk_89 (dk_at dksJ4_getChars_1 6 rfl rfl)
theorem dJ4_getChars_30 : decode cJ4_getChars 30 = .ok (.invokespecial 66, 3) := dk_183 0 66 (dk_at dksJ4_getChars_1 7 rfl rfl)
theorem dJ4_getChars_33 : decode cJ4_getChars 33 = .ok (.athrow, 1) := dk_191 (dk_at dksJ4_getChars_1 10 rfl rfl)
theorem dJ4_getChars_34 : decode cJ4_getChars 34 = .ok (.iload 4, 2) := dk_21 4 (dk_at dksJ4_getChars_1 11 rfl rfl)
theorem dJ4_getChars_36 : decode cJ4_getChars 36 = .ok (.ireturn, 1) := dk_172 (dk_at dksJ4_getChars_1 13 rfl rfl)
def dkwJ4_getChars_2_5 : List UInt8 := [132, 5, 255, 21, 5, 16, 45, 184, 0, 111, 21, 5, 172]
abbrev dktJ4_getChars_2_5 : List UInt8 := dkwJ4_getChars_2_5 ++ []
def dkwJ4_getChars_2_4 : List UInt8 := [162, 0, 18, 44, 132, 5, 255, 21, 5, 178, 1, 151, 26, 116, 51, 184, 0, 111, 21, 6, 153, 0, 14, 44]
abbrev dktJ4_getChars_2_4 : List UInt8 := dkwJ4_getChars_2_4 ++ dktJ4_getChars_2_5
def dkwJ4_getChars_2_3 : List UInt8 := [184, 0, 111, 167, 255, 205, 44, 132, 5, 255, 21, 5, 178, 1, 147, 26, 116, 51, 184, 0, 111, 26, 16, 247]
abbrev dktJ4_getChars_2_3 : List UInt8 := dkwJ4_getChars_2_3 ++ dktJ4_getChars_2_4
def dkwJ4_getChars_2_2 : List UInt8 := [21, 5, 178, 1, 147, 21, 4, 51, 184, 0, 111, 44, 132, 5, 255, 21, 5, 178, 1, 151, 21, 4, 51]
abbrev dktJ4_getChars_2_2 : List UInt8 := dkwJ4_getChars_2_2 ++ dktJ4_getChars_2_3
def dkwJ4_getChars_2_1 : List UInt8 := [16, 156, 163, 0, 51, 26, 16, 100, 108, 62, 29, 16, 100, 104, 26, 100, 54, 4, 29, 59, 44, 132, 5, 255]
abbrev dktJ4_getChars_2_1 : List UInt8 := dkwJ4_getChars_2_1 ++ dktJ4_getChars_2_2
def dkwJ4_getChars_2_0 : List UInt8 := [27, 54, 5, 26, 156, 0, 7, 4, 167, 0, 4, 3, 54, 6, 21, 6, 154, 0, 6, 26, 116, 59, 26]
abbrev dktJ4_getChars_2_0 : List UInt8 := dkwJ4_getChars_2_0 ++ dktJ4_getChars_2_1
theorem dksJ4_getChars_2_0 : cJ4_getChars_2.data.toList.drop 0 = dktJ4_getChars_2_0 := by decide +kernel
theorem dksJ4_getChars_2_1 : cJ4_getChars_2.data.toList.drop 23 = dktJ4_getChars_2_1 := dk_seg dksJ4_getChars_2_0 23 rfl rfl
theorem dksJ4_getChars_2_2 : cJ4_getChars_2.data.toList.drop 47 = dktJ4_getChars_2_2 := dk_seg dksJ4_getChars_2_1 24 rfl rfl
theorem dksJ4_getChars_2_3 : cJ4_getChars_2.data.toList.drop 70 = dktJ4_getChars_2_3 := dk_seg dksJ4_getChars_2_2 23 rfl rfl
theorem dksJ4_getChars_2_4 : cJ4_getChars_2.data.toList.drop 94 = dktJ4_getChars_2_4 := dk_seg dksJ4_getChars_2_3 24 rfl rfl
theorem dksJ4_getChars_2_5 : cJ4_getChars_2.data.toList.drop 118 = dktJ4_getChars_2_5 := dk_seg dksJ4_getChars_2_4 24 rfl rfl
theorem dJ4_getChars_2_0 : decode cJ4_getChars_2 0 = .ok (.iload_n 1, 1) := dk_27 (dk_at dksJ4_getChars_2_0 0 rfl rfl)
theorem dJ4_getChars_2_1 : decode cJ4_getChars_2 1 = .ok (.istore 5, 2) := dk_54 5 (dk_at dksJ4_getChars_2_0 1 rfl rfl)
theorem dJ4_getChars_2_3 : decode cJ4_getChars_2 3 = .ok (.iload_n 0, 1) := dk_26 (dk_at dksJ4_getChars_2_0 3 rfl rfl)
theorem dJ4_getChars_2_4 : decode cJ4_getChars_2 4 = .ok (.ifCond .ge 7, 3) := dk_156 0 7 (dk_at dksJ4_getChars_2_0 4 rfl rfl)
theorem dJ4_getChars_2_7 : decode cJ4_getChars_2 7 = .ok (.iconst 1, 1) := dk_4 (dk_at dksJ4_getChars_2_0 7 rfl rfl)
theorem dJ4_getChars_2_8 : decode cJ4_getChars_2 8 = .ok (.goto 4, 3) := dk_167 0 4 (dk_at dksJ4_getChars_2_0 8 rfl rfl)
theorem dJ4_getChars_2_11 : decode cJ4_getChars_2 11 = .ok (.iconst 0, 1) := dk_3 (dk_at dksJ4_getChars_2_0 11 rfl rfl)
theorem dJ4_getChars_2_12 : decode cJ4_getChars_2 12 = .ok (.istore 6, 2) := dk_54 6 (dk_at dksJ4_getChars_2_0 12 rfl rfl)
theorem dJ4_getChars_2_14 : decode cJ4_getChars_2 14 = .ok (.iload 6, 2) := dk_21 6 (dk_at dksJ4_getChars_2_0 14 rfl rfl)
theorem dJ4_getChars_2_16 : decode cJ4_getChars_2 16 = .ok (.ifCond .ne 6, 3) := dk_154 0 6 (dk_at dksJ4_getChars_2_0 16 rfl rfl)
theorem dJ4_getChars_2_19 : decode cJ4_getChars_2 19 = .ok (.iload_n 0, 1) := dk_26 (dk_at dksJ4_getChars_2_0 19 rfl rfl)
theorem dJ4_getChars_2_20 : decode cJ4_getChars_2 20 = .ok (.ineg, 1) := dk_116 (dk_at dksJ4_getChars_2_0 20 rfl rfl)
theorem dJ4_getChars_2_21 : decode cJ4_getChars_2 21 = .ok (.istore_n 0, 1) := dk_59 (dk_at dksJ4_getChars_2_0 21 rfl rfl)
theorem dJ4_getChars_2_22 : decode cJ4_getChars_2 22 = .ok (.iload_n 0, 1) := dk_26 (dk_at dksJ4_getChars_2_0 22 rfl rfl)
theorem dJ4_getChars_2_23 : decode cJ4_getChars_2 23 = .ok (.bipush (-100), 2) := dk_16 156 (dk_at dksJ4_getChars_2_1 0 rfl rfl)
theorem dJ4_getChars_2_25 : decode cJ4_getChars_2 25 = .ok (.if_icmp .gt 51, 3) := dk_163 0 51 (dk_at dksJ4_getChars_2_1 2 rfl rfl)
theorem dJ4_getChars_2_28 : decode cJ4_getChars_2 28 = .ok (.iload_n 0, 1) := dk_26 (dk_at dksJ4_getChars_2_1 5 rfl rfl)
theorem dJ4_getChars_2_29 : decode cJ4_getChars_2 29 = .ok (.bipush 100, 2) := dk_16 100 (dk_at dksJ4_getChars_2_1 6 rfl rfl)
theorem dJ4_getChars_2_31 : decode cJ4_getChars_2 31 = .ok (.idiv, 1) := dk_108 (dk_at dksJ4_getChars_2_1 8 rfl rfl)
theorem dJ4_getChars_2_32 : decode cJ4_getChars_2 32 = .ok (.istore_n 3, 1) := dk_62 (dk_at dksJ4_getChars_2_1 9 rfl rfl)
theorem dJ4_getChars_2_33 : decode cJ4_getChars_2 33 = .ok (.iload_n 3, 1) := dk_29 (dk_at dksJ4_getChars_2_1 10 rfl rfl)
theorem dJ4_getChars_2_34 : decode cJ4_getChars_2 34 = .ok (.bipush 100, 2) := dk_16 100 (dk_at dksJ4_getChars_2_1 11 rfl rfl)
theorem dJ4_getChars_2_36 : decode cJ4_getChars_2 36 = .ok (.imul, 1) := dk_104 (dk_at dksJ4_getChars_2_1 13 rfl rfl)
theorem dJ4_getChars_2_37 : decode cJ4_getChars_2 37 = .ok (.iload_n 0, 1) := dk_26 (dk_at dksJ4_getChars_2_1 14 rfl rfl)
theorem dJ4_getChars_2_38 : decode cJ4_getChars_2 38 = .ok (.isub, 1) := dk_100 (dk_at dksJ4_getChars_2_1 15 rfl rfl)
theorem dJ4_getChars_2_39 : decode cJ4_getChars_2 39 = .ok (.istore 4, 2) := dk_54 4 (dk_at dksJ4_getChars_2_1 16 rfl rfl)
theorem dJ4_getChars_2_41 : decode cJ4_getChars_2 41 = .ok (.iload_n 3, 1) := dk_29 (dk_at dksJ4_getChars_2_1 18 rfl rfl)
theorem dJ4_getChars_2_42 : decode cJ4_getChars_2 42 = .ok (.istore_n 0, 1) := dk_59 (dk_at dksJ4_getChars_2_1 19 rfl rfl)
theorem dJ4_getChars_2_43 : decode cJ4_getChars_2 43 = .ok (.aload_n 2, 1) := dk_44 (dk_at dksJ4_getChars_2_1 20 rfl rfl)
theorem dJ4_getChars_2_44 : decode cJ4_getChars_2 44 = .ok (.iinc 5 (-1), 3) := dk_132 5 255 (dk_at dksJ4_getChars_2_1 21 rfl rfl)
theorem dJ4_getChars_2_47 : decode cJ4_getChars_2 47 = .ok (.iload 5, 2) := dk_21 5 (dk_at dksJ4_getChars_2_2 0 rfl rfl)
theorem dJ4_getChars_2_49 : decode cJ4_getChars_2 49 = .ok (.getstatic 403, 3) := dk_178 1 147 (dk_at dksJ4_getChars_2_2 2 rfl rfl)
theorem dJ4_getChars_2_52 : decode cJ4_getChars_2 52 = .ok (.iload 4, 2) := dk_21 4 (dk_at dksJ4_getChars_2_2 5 rfl rfl)
theorem dJ4_getChars_2_54 : decode cJ4_getChars_2 54 = .ok (.baload, 1) := dk_51 (dk_at dksJ4_getChars_2_2 7 rfl rfl)
theorem dJ4_getChars_2_55 : decode cJ4_getChars_2 55 = .ok (.invokestatic 111, 3) := dk_184 0 111 (dk_at dksJ4_getChars_2_2 8 rfl rfl)
theorem dJ4_getChars_2_58 : decode cJ4_getChars_2 58 = .ok (.aload_n 2, 1) := dk_44 (dk_at dksJ4_getChars_2_2 11 rfl rfl)
theorem dJ4_getChars_2_59 : decode cJ4_getChars_2 59 = .ok (.iinc 5 (-1), 3) := dk_132 5 255 (dk_at dksJ4_getChars_2_2 12 rfl rfl)
theorem dJ4_getChars_2_62 : decode cJ4_getChars_2 62 = .ok (.iload 5, 2) := dk_21 5 (dk_at dksJ4_getChars_2_2 15 rfl rfl)
theorem dJ4_getChars_2_64 : decode cJ4_getChars_2 64 = .ok (.getstatic 407, 3) := dk_178 1 151 (dk_at dksJ4_getChars_2_2 17 rfl rfl)
theorem dJ4_getChars_2_67 : decode cJ4_getChars_2 67 = .ok (.iload 4, 2) := dk_21 4 (dk_at dksJ4_getChars_2_2 20 rfl rfl)
theorem dJ4_getChars_2_69 : decode cJ4_getChars_2 69 = .ok (.baload, 1) := dk_51 (dk_at dksJ4_getChars_2_2 22 rfl rfl)
theorem dJ4_getChars_2_70 : decode cJ4_getChars_2 70 = .ok (.invokestatic 111, 3) := dk_184 0 111 (dk_at dksJ4_getChars_2_3 0 rfl rfl)
theorem dJ4_getChars_2_73 : decode cJ4_getChars_2 73 = .ok (.goto (-51), 3) := dk_167 255 205 (dk_at dksJ4_getChars_2_3 3 rfl rfl)
theorem dJ4_getChars_2_76 : decode cJ4_getChars_2 76 = .ok (.aload_n 2, 1) := dk_44 (dk_at dksJ4_getChars_2_3 6 rfl rfl)
theorem dJ4_getChars_2_77 : decode cJ4_getChars_2 77 = .ok (.iinc 5 (-1), 3) := dk_132 5 255 (dk_at dksJ4_getChars_2_3 7 rfl rfl)
theorem dJ4_getChars_2_80 : decode cJ4_getChars_2 80 = .ok (.iload 5, 2) := dk_21 5 (dk_at dksJ4_getChars_2_3 10 rfl rfl)
theorem dJ4_getChars_2_82 : decode cJ4_getChars_2 82 = .ok (.getstatic 403, 3) := dk_178 1 147 (dk_at dksJ4_getChars_2_3 12 rfl rfl)
theorem dJ4_getChars_2_85 : decode cJ4_getChars_2 85 = .ok (.iload_n 0, 1) := dk_26 (dk_at dksJ4_getChars_2_3 15 rfl rfl)
theorem dJ4_getChars_2_86 : decode cJ4_getChars_2 86 = .ok (.ineg, 1) := dk_116 (dk_at dksJ4_getChars_2_3 16 rfl rfl)
theorem dJ4_getChars_2_87 : decode cJ4_getChars_2 87 = .ok (.baload, 1) := dk_51 (dk_at dksJ4_getChars_2_3 17 rfl rfl)
theorem dJ4_getChars_2_88 : decode cJ4_getChars_2 88 = .ok (.invokestatic 111, 3) := dk_184 0 111 (dk_at dksJ4_getChars_2_3 18 rfl rfl)
theorem dJ4_getChars_2_91 : decode cJ4_getChars_2 91 = .ok (.iload_n 0, 1) := dk_26 (dk_at dksJ4_getChars_2_3 21 rfl rfl)
theorem dJ4_getChars_2_92 : decode cJ4_getChars_2 92 = .ok (.bipush (-9), 2) := dk_16 247 (dk_at dksJ4_getChars_2_3 22 rfl rfl)
theorem dJ4_getChars_2_94 : decode cJ4_getChars_2 94 = .ok (.if_icmp .ge 18, 3) := dk_162 0 18 (dk_at dksJ4_getChars_2_4 0 rfl rfl)
theorem dJ4_getChars_2_97 : decode cJ4_getChars_2 97 = .ok (.aload_n 2, 1) := dk_44 (dk_at dksJ4_getChars_2_4 3 rfl rfl)
theorem dJ4_getChars_2_98 : decode cJ4_getChars_2 98 = .ok (.iinc 5 (-1), 3) := dk_132 5 255 (dk_at dksJ4_getChars_2_4 4 rfl rfl)
theorem dJ4_getChars_2_101 : decode cJ4_getChars_2 101 = .ok (.iload 5, 2) := dk_21 5 (dk_at dksJ4_getChars_2_4 7 rfl rfl)
theorem dJ4_getChars_2_103 : decode cJ4_getChars_2 103 = .ok (.getstatic 407, 3) := dk_178 1 151 (dk_at dksJ4_getChars_2_4 9 rfl rfl)
theorem dJ4_getChars_2_106 : decode cJ4_getChars_2 106 = .ok (.iload_n 0, 1) := dk_26 (dk_at dksJ4_getChars_2_4 12 rfl rfl)
theorem dJ4_getChars_2_107 : decode cJ4_getChars_2 107 = .ok (.ineg, 1) := dk_116 (dk_at dksJ4_getChars_2_4 13 rfl rfl)
theorem dJ4_getChars_2_108 : decode cJ4_getChars_2 108 = .ok (.baload, 1) := dk_51 (dk_at dksJ4_getChars_2_4 14 rfl rfl)
theorem dJ4_getChars_2_109 : decode cJ4_getChars_2 109 = .ok (.invokestatic 111, 3) := dk_184 0 111 (dk_at dksJ4_getChars_2_4 15 rfl rfl)
theorem dJ4_getChars_2_112 : decode cJ4_getChars_2 112 = .ok (.iload 6, 2) := dk_21 6 (dk_at dksJ4_getChars_2_4 18 rfl rfl)
theorem dJ4_getChars_2_114 : decode cJ4_getChars_2 114 = .ok (.ifCond .eq 14, 3) := dk_153 0 14 (dk_at dksJ4_getChars_2_4 20 rfl rfl)
theorem dJ4_getChars_2_117 : decode cJ4_getChars_2 117 = .ok (.aload_n 2, 1) := dk_44 (dk_at dksJ4_getChars_2_4 23 rfl rfl)
theorem dJ4_getChars_2_118 : decode cJ4_getChars_2 118 = .ok (.iinc 5 (-1), 3) := dk_132 5 255 (dk_at dksJ4_getChars_2_5 0 rfl rfl)
theorem dJ4_getChars_2_121 : decode cJ4_getChars_2 121 = .ok (.iload 5, 2) := dk_21 5 (dk_at dksJ4_getChars_2_5 3 rfl rfl)
theorem dJ4_getChars_2_123 : decode cJ4_getChars_2 123 = .ok (.bipush 45, 2) := dk_16 45 (dk_at dksJ4_getChars_2_5 5 rfl rfl)
theorem dJ4_getChars_2_125 : decode cJ4_getChars_2 125 = .ok (.invokestatic 111, 3) := dk_184 0 111 (dk_at dksJ4_getChars_2_5 7 rfl rfl)
theorem dJ4_getChars_2_128 : decode cJ4_getChars_2 128 = .ok (.iload 5, 2) := dk_21 5 (dk_at dksJ4_getChars_2_5 10 rfl rfl)
theorem dJ4_getChars_2_130 : decode cJ4_getChars_2 130 = .ok (.ireturn, 1) := dk_172 (dk_at dksJ4_getChars_2_5 12 rfl rfl)
def dkwJ4_charAt_0 : List UInt8 := [27, 42, 184, 0, 67, 42, 27, 184, 0, 71, 172]
abbrev dktJ4_charAt_0 : List UInt8 := dkwJ4_charAt_0 ++ []
theorem dksJ4_charAt_0 : cJ4_charAt.data.toList.drop 0 = dktJ4_charAt_0 := by decide +kernel
theorem dJ4_charAt_0 : decode cJ4_charAt 0 = .ok (.iload_n 1, 1) := dk_27 (dk_at dksJ4_charAt_0 0 rfl rfl)
theorem dJ4_charAt_1 : decode cJ4_charAt 1 = .ok (.aload_n 0, 1) := dk_42 (dk_at dksJ4_charAt_0 1 rfl rfl)
theorem dJ4_charAt_2 : decode cJ4_charAt 2 = .ok (.invokestatic 67, 3) := dk_184 0 67 (dk_at dksJ4_charAt_0 2 rfl rfl)
theorem dJ4_charAt_5 : decode cJ4_charAt 5 = .ok (.aload_n 0, 1) := dk_42 (dk_at dksJ4_charAt_0 5 rfl rfl)
theorem dJ4_charAt_6 : decode cJ4_charAt 6 = .ok (.iload_n 1, 1) := dk_27 (dk_at dksJ4_charAt_0 6 rfl rfl)
theorem dJ4_charAt_7 : decode cJ4_charAt 7 = .ok (.invokestatic 71, 3) := dk_184 0 71 (dk_at dksJ4_charAt_0 7 rfl rfl)
theorem dJ4_charAt_10 : decode cJ4_charAt 10 = .ok (.ireturn, 1) := dk_172 (dk_at dksJ4_charAt_0 10 rfl rfl)
def dkwJ5_newLength_1 : List UInt8 := [184, 0, 201, 172]
abbrev dktJ5_newLength_1 : List UInt8 := dkwJ5_newLength_1 ++ []
def dkwJ5_newLength_0 : List UInt8 := [26, 27, 28, 184, 0, 194, 96, 62, 3, 29, 162, 0, 11, 29, 18, 200, 163, 0, 5, 29, 172, 26, 27]
abbrev dktJ5_newLength_0 : List UInt8 := dkwJ5_newLength_0 ++ dktJ5_newLength_1
theorem dksJ5_newLength_0 : cJ5_newLength.data.toList.drop 0 = dktJ5_newLength_0 := by decide +kernel
theorem dksJ5_newLength_1 : cJ5_newLength.data.toList.drop 23 = dktJ5_newLength_1 := dk_seg dksJ5_newLength_0 23 rfl rfl
theorem dJ5_newLength_0 : decode cJ5_newLength 0 = .ok (.iload_n 0, 1) := dk_26 (dk_at dksJ5_newLength_0 0 rfl rfl)
theorem dJ5_newLength_1 : decode cJ5_newLength 1 = .ok (.iload_n 1, 1) := dk_27 (dk_at dksJ5_newLength_0 1 rfl rfl)
theorem dJ5_newLength_2 : decode cJ5_newLength 2 = .ok (.iload_n 2, 1) := dk_28 (dk_at dksJ5_newLength_0 2 rfl rfl)
theorem dJ5_newLength_3 : decode cJ5_newLength 3 = .ok (.invokestatic 194, 3) := dk_184 0 194 (dk_at dksJ5_newLength_0 3 rfl rfl)
theorem dJ5_newLength_6 : decode cJ5_newLength 6 = .ok (.iadd, 1) := dk_96 (dk_at dksJ5_newLength_0 6 rfl rfl)
theorem dJ5_newLength_7 : decode cJ5_newLength 7 = .ok (.istore_n 3, 1) := dk_62 (dk_at dksJ5_newLength_0 7 rfl rfl)
theorem dJ5_newLength_8 : decode cJ5_newLength 8 = .ok (.iconst 0, 1) := dk_3 (dk_at dksJ5_newLength_0 8 rfl rfl)
theorem dJ5_newLength_9 : decode cJ5_newLength 9 = .ok (.iload_n 3, 1) := dk_29 (dk_at dksJ5_newLength_0 9 rfl rfl)
theorem dJ5_newLength_10 : decode cJ5_newLength 10 = .ok (.if_icmp .ge 11, 3) := dk_162 0 11 (dk_at dksJ5_newLength_0 10 rfl rfl)
theorem dJ5_newLength_13 : decode cJ5_newLength 13 = .ok (.iload_n 3, 1) := dk_29 (dk_at dksJ5_newLength_0 13 rfl rfl)
theorem dJ5_newLength_14 : decode cJ5_newLength 14 = .ok (.ldc 200, 2) := dk_18 200 (dk_at dksJ5_newLength_0 14 rfl rfl)
theorem dJ5_newLength_16 : decode cJ5_newLength 16 = .ok (.if_icmp .gt 5, 3) := dk_163 0 5 (dk_at dksJ5_newLength_0 16 rfl rfl)
theorem dJ5_newLength_19 : decode cJ5_newLength 19 = .ok (.iload_n 3, 1) := dk_29 (dk_at dksJ5_newLength_0 19 rfl rfl)
theorem dJ5_newLength_20 : decode cJ5_newLength 20 = .ok (.ireturn, 1) := dk_172 (dk_at dksJ5_newLength_0 20 rfl rfl)
theorem dJ5_newLength_21 : decode cJ5_newLength 21 = .ok (.iload_n 0, 1) := dk_26 (dk_at dksJ5_newLength_0 21 rfl rfl)
theorem dJ5_newLength_22 : decode cJ5_newLength 22 = .ok (.iload_n 1, 1) := dk_27 (dk_at dksJ5_newLength_0 22 rfl rfl)
theorem dJ5_newLength_23 : decode cJ5_newLength 23 = .ok (.invokestatic 201, 3) := dk_184 0 201 (dk_at dksJ5_newLength_1 0 rfl rfl)
theorem dJ5_newLength_26 : decode cJ5_newLength 26 = .ok (.ireturn, 1) := dk_172 (dk_at dksJ5_newLength_1 3 rfl rfl)
def dkwJ5_hugeLength_2 : List UInt8 := [191, 28, 18, 200, 163, 0, 6, 18, 200, 172, 28, 172]
abbrev dktJ5_hugeLength_2 : List UInt8 := dkwJ5_hugeLength_2 ++ []
def dkwJ5_hugeLength_1 : List UInt8 := [26, 182, 0, 98, 18, 208, 182, 0, 94, 27, 182, 0, 98, 18, 210, 182, 0, 94, 182, 0, 101, 183, 0, 212]
abbrev dktJ5_hugeLength_1 : List UInt8 := dkwJ5_hugeLength_1 ++ dktJ5_hugeLength_2
def dkwJ5_hugeLength_0 : List UInt8 := [26, 27, 96, 61, 28, 156, 0, 44, 187, 0, 204, 89, 187, 0, 89, 89, 183, 0, 91, 18, 206, 182, 0, 94]
abbrev dktJ5_hugeLength_0 : List UInt8 := dkwJ5_hugeLength_0 ++ dktJ5_hugeLength_1
theorem dksJ5_hugeLength_0 : cJ5_hugeLength.data.toList.drop 0 = dktJ5_hugeLength_0 := by decide +kernel
theorem dksJ5_hugeLength_1 : cJ5_hugeLength.data.toList.drop 24 = dktJ5_hugeLength_1 := dk_seg dksJ5_hugeLength_0 24 rfl rfl
theorem dksJ5_hugeLength_2 : cJ5_hugeLength.data.toList.drop 48 = dktJ5_hugeLength_2 := dk_seg dksJ5_hugeLength_1 24 rfl rfl
theorem dJ5_hugeLength_0 : decode cJ5_hugeLength 0 = .ok (.iload_n 0, 1) := dk_26 (dk_at dksJ5_hugeLength_0 0 rfl rfl)
theorem dJ5_hugeLength_1 : decode cJ5_hugeLength 1 = .ok (.iload_n 1, 1) := dk_27 (dk_at dksJ5_hugeLength_0 1 rfl rfl)
theorem dJ5_hugeLength_2 : decode cJ5_hugeLength 2 = .ok (.iadd, 1) := dk_96 (dk_at dksJ5_hugeLength_0 2 rfl rfl)
theorem dJ5_hugeLength_3 : decode cJ5_hugeLength 3 = .ok (.istore_n 2, 1) := dk_61 (dk_at dksJ5_hugeLength_0 3 rfl rfl)
theorem dJ5_hugeLength_4 : decode cJ5_hugeLength 4 = .ok (.iload_n 2, 1) := dk_28 (dk_at dksJ5_hugeLength_0 4 rfl rfl)
theorem dJ5_hugeLength_5 : decode cJ5_hugeLength 5 = .ok (.ifCond .ge 44, 3) := dk_156 0 44 (dk_at dksJ5_hugeLength_0 5 rfl rfl)
theorem dJ5_hugeLength_8 : decode cJ5_hugeLength 8 = .ok (.new 204, 3) := dk_187 0 204 (dk_at dksJ5_hugeLength_0 8 rfl rfl)
theorem dJ5_hugeLength_11 : decode cJ5_hugeLength 11 = .ok (.dup, 1) := dk_89 (dk_at dksJ5_hugeLength_0 11 rfl rfl)
theorem dJ5_hugeLength_12 : decode cJ5_hugeLength 12 = .ok (.new 89, 3) := dk_187 0 89 (dk_at dksJ5_hugeLength_0 12 rfl rfl)
theorem dJ5_hugeLength_15 : decode cJ5_hugeLength 15 = .ok (.dup, 1) := dk_89 (dk_at dksJ5_hugeLength_0 15 rfl rfl)
theorem dJ5_hugeLength_16 : decode cJ5_hugeLength 16 = .ok (.invokespecial 91, 3) := dk_183 0 91 (dk_at dksJ5_hugeLength_0 16 rfl rfl)
theorem dJ5_hugeLength_19 : decode cJ5_hugeLength 19 = .ok (.ldc 206, 2) := dk_18 206 (dk_at dksJ5_hugeLength_0 19 rfl rfl)
theorem dJ5_hugeLength_21 : decode cJ5_hugeLength 21 = .ok (.invokevirtual 94, 3) := dk_182 0 94 (dk_at dksJ5_hugeLength_0 21 rfl rfl)
theorem dJ5_hugeLength_24 : decode cJ5_hugeLength 24 = .ok (.iload_n 0, 1) := dk_26 (dk_at dksJ5_hugeLength_1 0 rfl rfl)
theorem dJ5_hugeLength_25 : decode cJ5_hugeLength 25 = .ok (.invokevirtual 98, 3) := dk_182 0 98 (dk_at dksJ5_hugeLength_1 1 rfl rfl)
theorem dJ5_hugeLength_28 : decode cJ5_hugeLength 28 = .ok (.ldc 208, 2) := dk_18 208 (dk_at dksJ5_hugeLength_1 4 rfl rfl)
theorem dJ5_hugeLength_30 : decode cJ5_hugeLength 30 = .ok (.invokevirtual 94, 3) := dk_182 0 94 (dk_at dksJ5_hugeLength_1 6 rfl rfl)
theorem dJ5_hugeLength_33 : decode cJ5_hugeLength 33 = .ok (.iload_n 1, 1) := dk_27 (dk_at dksJ5_hugeLength_1 9 rfl rfl)
theorem dJ5_hugeLength_34 : decode cJ5_hugeLength 34 = .ok (.invokevirtual 98, 3) := dk_182 0 98 (dk_at dksJ5_hugeLength_1 10 rfl rfl)
theorem dJ5_hugeLength_37 : decode cJ5_hugeLength 37 = .ok (.ldc 210, 2) := dk_18 210 (dk_at dksJ5_hugeLength_1 13 rfl rfl)
theorem dJ5_hugeLength_39 : decode cJ5_hugeLength 39 = .ok (.invokevirtual 94, 3) := dk_182 0 94 (dk_at dksJ5_hugeLength_1 15 rfl rfl)
theorem dJ5_hugeLength_42 : decode cJ5_hugeLength 42 = .ok (.invokevirtual 101, 3) := dk_182 0 101 (dk_at dksJ5_hugeLength_1 18 rfl rfl)
theorem dJ5_hugeLength_45 : decode cJ5_hugeLength 45 = .ok (.invokespecial 212, 3) := dk_183 0 212 (dk_at dksJ5_hugeLength_1 21 rfl rfl)
theorem dJ5_hugeLength_48 : decode cJ5_hugeLength 48 = .ok (.athrow, 1) := dk_191 (dk_at dksJ5_hugeLength_2 0 rfl rfl)
theorem dJ5_hugeLength_49 : decode cJ5_hugeLength 49 = .ok (.iload_n 2, 1) := dk_28 (dk_at dksJ5_hugeLength_2 1 rfl rfl)
theorem dJ5_hugeLength_50 : decode cJ5_hugeLength 50 = .ok (.ldc 200, 2) := dk_18 200 (dk_at dksJ5_hugeLength_2 2 rfl rfl)
theorem dJ5_hugeLength_52 : decode cJ5_hugeLength 52 = .ok (.if_icmp .gt 6, 3) := dk_163 0 6 (dk_at dksJ5_hugeLength_2 4 rfl rfl)
theorem dJ5_hugeLength_55 : decode cJ5_hugeLength 55 = .ok (.ldc 200, 2) := dk_18 200 (dk_at dksJ5_hugeLength_2 7 rfl rfl)
theorem dJ5_hugeLength_57 : decode cJ5_hugeLength 57 = .ok (.ireturn, 1) := dk_172 (dk_at dksJ5_hugeLength_2 9 rfl rfl)
theorem dJ5_hugeLength_58 : decode cJ5_hugeLength 58 = .ok (.iload_n 2, 1) := dk_28 (dk_at dksJ5_hugeLength_2 10 rfl rfl)
theorem dJ5_hugeLength_59 : decode cJ5_hugeLength 59 = .ok (.ireturn, 1) := dk_172 (dk_at dksJ5_hugeLength_2 11 rfl rfl)
def dkwJ5_vectorizedHashCode_6 : List UInt8 := [183, 0, 91, 18, 92, 182, 0, 94, 21, 4, 182, 0, 98, 182, 0, 101, 183, 0, 105, 191, 172]
abbrev dktJ5_vectorizedHashCode_6 : List UInt8 := dkwJ5_vectorizedHashCode_6 ++ []
def dkwJ5_vectorizedHashCode_5 : List UInt8 := [167, 0, 44, 29, 42, 192, 0, 82, 27, 28, 184, 0, 84, 167, 0, 31, 187, 0, 87, 89, 187, 0, 89, 89]
abbrev dktJ5_vectorizedHashCode_5 : List UInt8 := dkwJ5_vectorizedHashCode_5 ++ dktJ5_vectorizedHashCode_6
def dkwJ5_vectorizedHashCode_4 : List UInt8 := [29, 42, 192, 0, 60, 27, 28, 184, 0, 75, 167, 0, 57, 29, 42, 192, 0, 77, 27, 28, 184, 0, 79]
abbrev dktJ5_vectorizedHashCode_4 : List UInt8 := dkwJ5_vectorizedHashCode_4 ++ dktJ5_vectorizedHashCode_5
def dkwJ5_vectorizedHashCode_3 : List UInt8 := [192, 0, 60, 27, 28, 184, 0, 66, 167, 0, 83, 29, 42, 192, 0, 69, 27, 28, 184, 0, 71, 167, 0, 70]
abbrev dktJ5_vectorizedHashCode_3 : List UInt8 := dkwJ5_vectorizedHashCode_3 ++ dktJ5_vectorizedHashCode_4
def dkwJ5_vectorizedHashCode_2 : List UInt8 := [29, 42, 192, 0, 60, 27, 28, 184, 0, 62, 167, 0, 103, 42, 193, 0, 60, 153, 0, 16, 29, 42]
abbrev dktJ5_vectorizedHashCode_2 : List UInt8 := dkwJ5_vectorizedHashCode_2 ++ dktJ5_vectorizedHashCode_3
def dkwJ5_vectorizedHashCode_1 : List UInt8 := [170, 0, 0, 0, 0, 127, 0, 0, 0, 4, 0, 0, 0, 10, 0, 0, 0, 42, 0, 0, 0, 55, 0, 0, 0, 127, 0, 0, 0, 127, 0, 0, 0, 88, 0, 0, 0, 101, 0, 0, 0, 114]
abbrev dktJ5_vectorizedHashCode_1 : List UInt8 := dkwJ5_vectorizedHashCode_1 ++ dktJ5_vectorizedHashCode_2
def dkwJ5_vectorizedHashCode_0 : List UInt8 := [21, 4]
abbrev dktJ5_vectorizedHashCode_0 : List UInt8 := dkwJ5_vectorizedHashCode_0 ++ dktJ5_vectorizedHashCode_1
theorem dksJ5_vectorizedHashCode_0 : cJ5_vectorizedHashCode.data.toList.drop 0 = dktJ5_vectorizedHashCode_0 := by decide +kernel
theorem dksJ5_vectorizedHashCode_1 : cJ5_vectorizedHashCode.data.toList.drop 2 = dktJ5_vectorizedHashCode_1 := dk_seg dksJ5_vectorizedHashCode_0 2 rfl rfl
theorem dksJ5_vectorizedHashCode_2 : cJ5_vectorizedHashCode.data.toList.drop 44 = dktJ5_vectorizedHashCode_2 := dk_seg dksJ5_vectorizedHashCode_1 42 rfl rfl
theorem dksJ5_vectorizedHashCode_3 : cJ5_vectorizedHashCode.data.toList.drop 66 = dktJ5_vectorizedHashCode_3 := dk_seg dksJ5_vectorizedHashCode_2 22 rfl rfl
theorem dksJ5_vectorizedHashCode_4 : cJ5_vectorizedHashCode.data.toList.drop 90 = dktJ5_vectorizedHashCode_4 := dk_seg dksJ5_vectorizedHashCode_3 24 rfl rfl
theorem dksJ5_vectorizedHashCode_5 : cJ5_vectorizedHashCode.data.toList.drop 113 = dktJ5_vectorizedHashCode_5 := dk_seg dksJ5_vectorizedHashCode_4 23 rfl rfl
theorem dksJ5_vectorizedHashCode_6 : cJ5_vectorizedHashCode.data.toList.drop 137 = dktJ5_vectorizedHashCode_6 := dk_seg dksJ5_vectorizedHashCode_5 24 rfl rfl
theorem dJ5_vectorizedHashCode_0 : decode cJ5_vectorizedHashCode 0 = .ok (.iload 4, 2) := dk_21 4 (dk_at dksJ5_vectorizedHashCode_0 0 rfl rfl)
theorem dJ5_vectorizedHashCode_2 : decode cJ5_vectorizedHashCode 2 = .ok (.tableswitch 127 4 10 #[42, 55, 127, 127, 88, 101, 114], 42) := by decide +kernel
theorem dJ5_vectorizedHashCode_44 : decode cJ5_vectorizedHashCode 44 = .ok (.iload_n 3, 1) := dk_29 (dk_at dksJ5_vectorizedHashCode_2 0 rfl rfl)
theorem dJ5_vectorizedHashCode_45 : decode cJ5_vectorizedHashCode 45 = .ok (.aload_n 0, 1) := dk_42 (dk_at dksJ5_vectorizedHashCode_2 1 rfl rfl)
theorem dJ5_vectorizedHashCode_46 : decode cJ5_vectorizedHashCode 46 = .ok (.checkcast 60, 3) := dk_192 0 60 (dk_at dksJ5_vectorizedHashCode_2 2 rfl rfl)
theorem dJ5_vectorizedHashCode_49 : decode cJ5_vectorizedHashCode 49 = .ok (.iload_n 1, 1) := dk_27 (dk_at dksJ5_vectorizedHashCode_2 5 rfl rfl)
theorem dJ5_vectorizedHashCode_50 : decode cJ5_vectorizedHashCode 50 = .ok (.iload_n 2, 1) := dk_28 (dk_at dksJ5_vectorizedHashCode_2 6 rfl rfl)
theorem dJ5_vectorizedHashCode_51 : decode cJ5_vectorizedHashCode 51 = .ok (.invokestatic 62, 3) := dk_184 0 62 (dk_at dksJ5_vectorizedHashCode_2 7 rfl rfl)
theorem dJ5_vectorizedHashCode_54 : decode cJ5_vectorizedHashCode 54 = .ok (.goto 103, 3) := dk_167 0 103 (dk_at dksJ5_vectorizedHashCode_2 10 rfl rfl)
theorem dJ5_vectorizedHashCode_57 : decode cJ5_vectorizedHashCode 57 = .ok (.aload_n 0, 1) := dk_42 (dk_at dksJ5_vectorizedHashCode_2 13 rfl rfl)
theorem dJ5_vectorizedHashCode_58 : decode cJ5_vectorizedHashCode 58 = .ok (.instanceof 60, 3) := dk_193 0 60 (dk_at dksJ5_vectorizedHashCode_2 14 rfl rfl)
theorem dJ5_vectorizedHashCode_61 : decode cJ5_vectorizedHashCode 61 = .ok (.ifCond .eq 16, 3) := dk_153 0 16 (dk_at dksJ5_vectorizedHashCode_2 17 rfl rfl)
theorem dJ5_vectorizedHashCode_64 : decode cJ5_vectorizedHashCode 64 = .ok (.iload_n 3, 1) := dk_29 (dk_at dksJ5_vectorizedHashCode_2 20 rfl rfl)
theorem dJ5_vectorizedHashCode_65 : decode cJ5_vectorizedHashCode 65 = .ok (.aload_n 0, 1) := dk_42 (dk_at dksJ5_vectorizedHashCode_2 21 rfl rfl)
theorem dJ5_vectorizedHashCode_66 : decode cJ5_vectorizedHashCode 66 = .ok (.checkcast 60, 3) := dk_192 0 60 (dk_at dksJ5_vectorizedHashCode_3 0 rfl rfl)
theorem dJ5_vectorizedHashCode_69 : decode cJ5_vectorizedHashCode 69 = .ok (.iload_n 1, 1) := dk_27 (dk_at dksJ5_vectorizedHashCode_3 3 rfl rfl)
theorem dJ5_vectorizedHashCode_70 : decode cJ5_vectorizedHashCode 70 = .ok (.iload_n 2, 1) := dk_28 (dk_at dksJ5_vectorizedHashCode_3 4 rfl rfl)
theorem dJ5_vectorizedHashCode_71 : decode cJ5_vectorizedHashCode 71 = .ok (.invokestatic 66, 3) := dk_184 0 66 (dk_at dksJ5_vectorizedHashCode_3 5 rfl rfl)
theorem dJ5_vectorizedHashCode_74 : decode cJ5_vectorizedHashCode 74 = .ok (.goto 83, 3) := dk_167 0 83 (dk_at dksJ5_vectorizedHashCode_3 8 rfl rfl)
theorem dJ5_vectorizedHashCode_77 : decode cJ5_vectorizedHashCode 77 = .ok (.iload_n 3, 1) := dk_29 (dk_at dksJ5_vectorizedHashCode_3 11 rfl rfl)
theorem dJ5_vectorizedHashCode_78 : decode cJ5_vectorizedHashCode 78 = .ok (.aload_n 0, 1) := dk_42 (dk_at dksJ5_vectorizedHashCode_3 12 rfl rfl)
theorem dJ5_vectorizedHashCode_79 : decode cJ5_vectorizedHashCode 79 = .ok (.checkcast 69, 3) := dk_192 0 69 (dk_at dksJ5_vectorizedHashCode_3 13 rfl rfl)
theorem dJ5_vectorizedHashCode_82 : decode cJ5_vectorizedHashCode 82 = .ok (.iload_n 1, 1) := dk_27 (dk_at dksJ5_vectorizedHashCode_3 16 rfl rfl)
theorem dJ5_vectorizedHashCode_83 : decode cJ5_vectorizedHashCode 83 = .ok (.iload_n 2, 1) := dk_28 (dk_at dksJ5_vectorizedHashCode_3 17 rfl rfl)
theorem dJ5_vectorizedHashCode_84 : decode cJ5_vectorizedHashCode 84 = .ok (.invokestatic 71, 3) := dk_184 0 71 (dk_at dksJ5_vectorizedHashCode_3 18 rfl rfl)
theorem dJ5_vectorizedHashCode_87 : decode cJ5_vectorizedHashCode 87 = .ok (.goto 70, 3) := dk_167 0 70 (dk_at dksJ5_vectorizedHashCode_3 21 rfl rfl)
theorem dJ5_vectorizedHashCode_90 : decode cJ5_vectorizedHashCode 90 = .ok (.iload_n 3, 1) := dk_29 (dk_at dksJ5_vectorizedHashCode_4 0 rfl rfl)
theorem dJ5_vectorizedHashCode_91 : decode cJ5_vectorizedHashCode 91 = .ok (.aload_n 0, 1) := dk_42 (dk_at dksJ5_vectorizedHashCode_4 1 rfl rfl)
theorem dJ5_vectorizedHashCode_92 : decode cJ5_vectorizedHashCode 92 = .ok (.checkcast 60, 3) := dk_192 0 60 (dk_at dksJ5_vectorizedHashCode_4 2 rfl rfl)
theorem dJ5_vectorizedHashCode_95 : decode cJ5_vectorizedHashCode 95 = .ok (.iload_n 1, 1) := dk_27 (dk_at dksJ5_vectorizedHashCode_4 5 rfl rfl)
theorem dJ5_vectorizedHashCode_96 : decode cJ5_vectorizedHashCode 96 = .ok (.iload_n 2, 1) := dk_28 (dk_at dksJ5_vectorizedHashCode_4 6 rfl rfl)
theorem dJ5_vectorizedHashCode_97 : decode cJ5_vectorizedHashCode 97 = .ok (.invokestatic 75, 3) := dk_184 0 75 (dk_at dksJ5_vectorizedHashCode_4 7 rfl rfl)
theorem dJ5_vectorizedHashCode_100 : decode cJ5_vectorizedHashCode 100 = .ok (.goto 57, 3) := dk_167 0 57 (dk_at dksJ5_vectorizedHashCode_4 10 rfl rfl)
theorem dJ5_vectorizedHashCode_103 : decode cJ5_vectorizedHashCode 103 = .ok (.iload_n 3, 1) := dk_29 (dk_at dksJ5_vectorizedHashCode_4 13 rfl rfl)
theorem dJ5_vectorizedHashCode_104 : decode cJ5_vectorizedHashCode 104 = .ok (.aload_n 0, 1) := dk_42 (dk_at dksJ5_vectorizedHashCode_4 14 rfl rfl)
theorem dJ5_vectorizedHashCode_105 : decode cJ5_vectorizedHashCode 105 = .ok (.checkcast 77, 3) := dk_192 0 77 (dk_at dksJ5_vectorizedHashCode_4 15 rfl rfl)
theorem dJ5_vectorizedHashCode_108 : decode cJ5_vectorizedHashCode 108 = .ok (.iload_n 1, 1) := dk_27 (dk_at dksJ5_vectorizedHashCode_4 18 rfl rfl)
theorem dJ5_vectorizedHashCode_109 : decode cJ5_vectorizedHashCode 109 = .ok (.iload_n 2, 1) := dk_28 (dk_at dksJ5_vectorizedHashCode_4 19 rfl rfl)
theorem dJ5_vectorizedHashCode_110 : decode cJ5_vectorizedHashCode 110 = .ok (.invokestatic 79, 3) := dk_184 0 79 (dk_at dksJ5_vectorizedHashCode_4 20 rfl rfl)
theorem dJ5_vectorizedHashCode_113 : decode cJ5_vectorizedHashCode 113 = .ok (.goto 44, 3) := dk_167 0 44 (dk_at dksJ5_vectorizedHashCode_5 0 rfl rfl)
theorem dJ5_vectorizedHashCode_116 : decode cJ5_vectorizedHashCode 116 = .ok (.iload_n 3, 1) := dk_29 (dk_at dksJ5_vectorizedHashCode_5 3 rfl rfl)
theorem dJ5_vectorizedHashCode_117 : decode cJ5_vectorizedHashCode 117 = .ok (.aload_n 0, 1) := dk_42 (dk_at dksJ5_vectorizedHashCode_5 4 rfl rfl)
theorem dJ5_vectorizedHashCode_118 : decode cJ5_vectorizedHashCode 118 = .ok (.checkcast 82, 3) := dk_192 0 82 (dk_at dksJ5_vectorizedHashCode_5 5 rfl rfl)
theorem dJ5_vectorizedHashCode_121 : decode cJ5_vectorizedHashCode 121 = .ok (.iload_n 1, 1) := dk_27 (dk_at dksJ5_vectorizedHashCode_5 8 rfl rfl)
theorem dJ5_vectorizedHashCode_122 : decode cJ5_vectorizedHashCode 122 = .ok (.iload_n 2, 1) := dk_28 (dk_at dksJ5_vectorizedHashCode_5 9 rfl rfl)
theorem dJ5_vectorizedHashCode_123 : decode cJ5_vectorizedHashCode 123 = .ok (.invokestatic 84, 3) := dk_184 0 84 (dk_at dksJ5_vectorizedHashCode_5 10 rfl rfl)
theorem dJ5_vectorizedHashCode_126 : decode cJ5_vectorizedHashCode 126 = .ok (.goto 31, 3) := dk_167 0 31 (dk_at dksJ5_vectorizedHashCode_5 13 rfl rfl)
theorem dJ5_vectorizedHashCode_129 : decode cJ5_vectorizedHashCode 129 = .ok (.new 87, 3) := dk_187 0 87 (dk_at dksJ5_vectorizedHashCode_5 16 rfl rfl)
theorem dJ5_vectorizedHashCode_132 : decode cJ5_vectorizedHashCode 132 = .ok (.dup, 1) := dk_89 (dk_at dksJ5_vectorizedHashCode_5 19 rfl rfl)
theorem dJ5_vectorizedHashCode_133 : decode cJ5_vectorizedHashCode 133 = .ok (.new 89, 3) := dk_187 0 89 (dk_at dksJ5_vectorizedHashCode_5 20 rfl rfl)
theorem dJ5_vectorizedHashCode_136 : decode cJ5_vectorizedHashCode 136 = .ok (.dup, 1) := dk_89 (dk_at dksJ5_vectorizedHashCode_5 23 rfl rfl)
theorem dJ5_vectorizedHashCode_137 : decode cJ5_vectorizedHashCode 137 = .ok (.invokespecial 91, 3) := dk_183 0 91 (dk_at dksJ5_vectorizedHashCode_6 0 rfl rfl)
theorem dJ5_vectorizedHashCode_140 : decode cJ5_vectorizedHashCode 140 = .ok (.ldc 92, 2) := dk_18 92 (dk_at dksJ5_vectorizedHashCode_6 3 rfl rfl)
theorem dJ5_vectorizedHashCode_142 : decode cJ5_vectorizedHashCode 142 = .ok (.invokevirtual 94, 3) := dk_182 0 94 (dk_at dksJ5_vectorizedHashCode_6 5 rfl rfl)
theorem dJ5_vectorizedHashCode_145 : decode cJ5_vectorizedHashCode 145 = .ok (.iload 4, 2) := dk_21 4 (dk_at dksJ5_vectorizedHashCode_6 8 rfl rfl)
theorem dJ5_vectorizedHashCode_147 : decode cJ5_vectorizedHashCode 147 = .ok (.invokevirtual 98, 3) := dk_182 0 98 (dk_at dksJ5_vectorizedHashCode_6 10 rfl rfl)
theorem dJ5_vectorizedHashCode_150 : decode cJ5_vectorizedHashCode 150 = .ok (.invokevirtual 101, 3) := dk_182 0 101 (dk_at dksJ5_vectorizedHashCode_6 13 rfl rfl)
theorem dJ5_vectorizedHashCode_153 : decode cJ5_vectorizedHashCode 153 = .ok (.invokespecial 105, 3) := dk_183 0 105 (dk_at dksJ5_vectorizedHashCode_6 16 rfl rfl)
theorem dJ5_vectorizedHashCode_156 : decode cJ5_vectorizedHashCode 156 = .ok (.athrow, 1) := dk_191 (dk_at dksJ5_vectorizedHashCode_6 19 rfl rfl)
theorem dJ5_vectorizedHashCode_157 : decode cJ5_vectorizedHashCode 157 = .ok (.ireturn, 1) := dk_172 (dk_at dksJ5_vectorizedHashCode_6 20 rfl rfl)
def dkwJ5_signedHashCode_1 : List UInt8 := [17, 0, 255, 126, 96, 59, 132, 5, 1, 167, 255, 232, 26, 172]
abbrev dktJ5_signedHashCode_1 : List UInt8 := dkwJ5_signedHashCode_1 ++ []
def dkwJ5_signedHashCode_0 : List UInt8 := [28, 29, 96, 54, 4, 28, 54, 5, 21, 5, 21, 4, 162, 0, 23, 16, 31, 26, 104, 43, 21, 5, 51]
abbrev dktJ5_signedHashCode_0 : List UInt8 := dkwJ5_signedHashCode_0 ++ dktJ5_signedHashCode_1
theorem dksJ5_signedHashCode_0 : cJ5_signedHashCode.data.toList.drop 0 = dktJ5_signedHashCode_0 := by decide +kernel
theorem dksJ5_signedHashCode_1 : cJ5_signedHashCode.data.toList.drop 23 = dktJ5_signedHashCode_1 := dk_seg dksJ5_signedHashCode_0 23 rfl rfl
theorem dJ5_signedHashCode_0 : decode cJ5_signedHashCode 0 = .ok (.iload_n 2, 1) := dk_28 (dk_at dksJ5_signedHashCode_0 0 rfl rfl)
theorem dJ5_signedHashCode_1 : decode cJ5_signedHashCode 1 = .ok (.iload_n 3, 1) := dk_29 (dk_at dksJ5_signedHashCode_0 1 rfl rfl)
theorem dJ5_signedHashCode_2 : decode cJ5_signedHashCode 2 = .ok (.iadd, 1) := dk_96 (dk_at dksJ5_signedHashCode_0 2 rfl rfl)
theorem dJ5_signedHashCode_3 : decode cJ5_signedHashCode 3 = .ok (.istore 4, 2) := dk_54 4 (dk_at dksJ5_signedHashCode_0 3 rfl rfl)
theorem dJ5_signedHashCode_5 : decode cJ5_signedHashCode 5 = .ok (.iload_n 2, 1) := dk_28 (dk_at dksJ5_signedHashCode_0 5 rfl rfl)
theorem dJ5_signedHashCode_6 : decode cJ5_signedHashCode 6 = .ok (.istore 5, 2) := dk_54 5 (dk_at dksJ5_signedHashCode_0 6 rfl rfl)
theorem dJ5_signedHashCode_8 : decode cJ5_signedHashCode 8 = .ok (.iload 5, 2) := dk_21 5 (dk_at dksJ5_signedHashCode_0 8 rfl rfl)
theorem dJ5_signedHashCode_10 : decode cJ5_signedHashCode 10 = .ok (.iload 4, 2) := dk_21 4 (dk_at dksJ5_signedHashCode_0 10 rfl rfl)
theorem dJ5_signedHashCode_12 : decode cJ5_signedHashCode 12 = .ok (.if_icmp .ge 23, 3) := dk_162 0 23 (dk_at dksJ5_signedHashCode_0 12 rfl rfl)
theorem dJ5_signedHashCode_15 : decode cJ5_signedHashCode 15 = .ok (.bipush 31, 2) := dk_16 31 (dk_at dksJ5_signedHashCode_0 15 rfl rfl)
theorem dJ5_signedHashCode_17 : decode cJ5_signedHashCode 17 = .ok (.iload_n 0, 1) := dk_26 (dk_at dksJ5_signedHashCode_0 17 rfl rfl)
theorem dJ5_signedHashCode_18 : decode cJ5_signedHashCode 18 = .ok (.imul, 1) := dk_104 (dk_at dksJ5_signedHashCode_0 18 rfl rfl)
theorem dJ5_signedHashCode_19 : decode cJ5_signedHashCode 19 = .ok (.aload_n 1, 1) := dk_43 (dk_at dksJ5_signedHashCode_0 19 rfl rfl)
theorem dJ5_signedHashCode_20 : decode cJ5_signedHashCode 20 = .ok (.iload 5, 2) := dk_21 5 (dk_at dksJ5_signedHashCode_0 20 rfl rfl)
theorem dJ5_signedHashCode_22 : decode cJ5_signedHashCode 22 = .ok (.baload, 1) := dk_51 (dk_at dksJ5_signedHashCode_0 22 rfl rfl)
theorem dJ5_signedHashCode_23 : decode cJ5_signedHashCode 23 = .ok (.sipush 255, 3) := dk_17 0 255 (dk_at dksJ5_signedHashCode_1 0 rfl rfl)
theorem dJ5_signedHashCode_26 : decode cJ5_signedHashCode 26 = .ok (.iand, 1) := dk_126 (dk_at dksJ5_signedHashCode_1 3 rfl rfl)
theorem dJ5_signedHashCode_27 : decode cJ5_signedHashCode 27 = .ok (.iadd, 1) := dk_96 (dk_at dksJ5_signedHashCode_1 4 rfl rfl)
theorem dJ5_signedHashCode_28 : decode cJ5_signedHashCode 28 = .ok (.istore_n 0, 1) := dk_59 (dk_at dksJ5_signedHashCode_1 5 rfl rfl)
theorem dJ5_signedHashCode_29 : decode cJ5_signedHashCode 29 = .ok (.iinc 5 1, 3) := dk_132 5 1 (dk_at dksJ5_signedHashCode_1 6 rfl rfl)
theorem dJ5_signedHashCode_32 : decode cJ5_signedHashCode 32 = .ok (.goto (-24), 3) := dk_167 255 232 (dk_at dksJ5_signedHashCode_1 9 rfl rfl)
theorem dJ5_signedHashCode_35 : decode cJ5_signedHashCode 35 = .ok (.iload_n 0, 1) := dk_26 (dk_at dksJ5_signedHashCode_1 12 rfl rfl)
theorem dJ5_signedHashCode_36 : decode cJ5_signedHashCode 36 = .ok (.ireturn, 1) := dk_172 (dk_at dksJ5_signedHashCode_1 13 rfl rfl)
def dkwJ5_utf16hashCode_1 : List UInt8 := [21, 5, 185, 0, 110, 3, 0, 96, 59, 132, 5, 1, 167, 255, 229, 26, 172]
abbrev dktJ5_utf16hashCode_1 : List UInt8 := dkwJ5_utf16hashCode_1 ++ []
def dkwJ5_utf16hashCode_0 : List UInt8 := [28, 29, 96, 54, 4, 28, 54, 5, 21, 5, 21, 4, 162, 0, 26, 16, 31, 26, 104, 178, 0, 106, 43]
abbrev dktJ5_utf16hashCode_0 : List UInt8 := dkwJ5_utf16hashCode_0 ++ dktJ5_utf16hashCode_1
theorem dksJ5_utf16hashCode_0 : cJ5_utf16hashCode.data.toList.drop 0 = dktJ5_utf16hashCode_0 := by decide +kernel
theorem dksJ5_utf16hashCode_1 : cJ5_utf16hashCode.data.toList.drop 23 = dktJ5_utf16hashCode_1 := dk_seg dksJ5_utf16hashCode_0 23 rfl rfl
theorem dJ5_utf16hashCode_0 : decode cJ5_utf16hashCode 0 = .ok (.iload_n 2, 1) := dk_28 (dk_at dksJ5_utf16hashCode_0 0 rfl rfl)
theorem dJ5_utf16hashCode_1 : decode cJ5_utf16hashCode 1 = .ok (.iload_n 3, 1) := dk_29 (dk_at dksJ5_utf16hashCode_0 1 rfl rfl)
theorem dJ5_utf16hashCode_2 : decode cJ5_utf16hashCode 2 = .ok (.iadd, 1) := dk_96 (dk_at dksJ5_utf16hashCode_0 2 rfl rfl)
theorem dJ5_utf16hashCode_3 : decode cJ5_utf16hashCode 3 = .ok (.istore 4, 2) := dk_54 4 (dk_at dksJ5_utf16hashCode_0 3 rfl rfl)
theorem dJ5_utf16hashCode_5 : decode cJ5_utf16hashCode 5 = .ok (.iload_n 2, 1) := dk_28 (dk_at dksJ5_utf16hashCode_0 5 rfl rfl)
theorem dJ5_utf16hashCode_6 : decode cJ5_utf16hashCode 6 = .ok (.istore 5, 2) := dk_54 5 (dk_at dksJ5_utf16hashCode_0 6 rfl rfl)
theorem dJ5_utf16hashCode_8 : decode cJ5_utf16hashCode 8 = .ok (.iload 5, 2) := dk_21 5 (dk_at dksJ5_utf16hashCode_0 8 rfl rfl)
theorem dJ5_utf16hashCode_10 : decode cJ5_utf16hashCode 10 = .ok (.iload 4, 2) := dk_21 4 (dk_at dksJ5_utf16hashCode_0 10 rfl rfl)
theorem dJ5_utf16hashCode_12 : decode cJ5_utf16hashCode 12 = .ok (.if_icmp .ge 26, 3) := dk_162 0 26 (dk_at dksJ5_utf16hashCode_0 12 rfl rfl)
theorem dJ5_utf16hashCode_15 : decode cJ5_utf16hashCode 15 = .ok (.bipush 31, 2) := dk_16 31 (dk_at dksJ5_utf16hashCode_0 15 rfl rfl)
theorem dJ5_utf16hashCode_17 : decode cJ5_utf16hashCode 17 = .ok (.iload_n 0, 1) := dk_26 (dk_at dksJ5_utf16hashCode_0 17 rfl rfl)
theorem dJ5_utf16hashCode_18 : decode cJ5_utf16hashCode 18 = .ok (.imul, 1) := dk_104 (dk_at dksJ5_utf16hashCode_0 18 rfl rfl)
theorem dJ5_utf16hashCode_19 : decode cJ5_utf16hashCode 19 = .ok (.getstatic 106, 3) := dk_178 0 106 (dk_at dksJ5_utf16hashCode_0 19 rfl rfl)
theorem dJ5_utf16hashCode_22 : decode cJ5_utf16hashCode 22 = .ok (.aload_n 1, 1) := dk_43 (dk_at dksJ5_utf16hashCode_0 22 rfl rfl)
theorem dJ5_utf16hashCode_23 : decode cJ5_utf16hashCode 23 = .ok (.iload 5, 2) := dk_21 5 (dk_at dksJ5_utf16hashCode_1 0 rfl rfl)
theorem dJ5_utf16hashCode_25 : decode cJ5_utf16hashCode 25 = .ok (.invokeinterface 110 3, 5) := by decide +kernel
theorem dJ5_utf16hashCode_30 : decode cJ5_utf16hashCode 30 = .ok (.iadd, 1) := dk_96 (dk_at dksJ5_utf16hashCode_1 7 rfl rfl)
theorem dJ5_utf16hashCode_31 : decode cJ5_utf16hashCode 31 = .ok (.istore_n 0, 1) := dk_59 (dk_at dksJ5_utf16hashCode_1 8 rfl rfl)
theorem dJ5_utf16hashCode_32 : decode cJ5_utf16hashCode 32 = .ok (.iinc 5 1, 3) := dk_132 5 1 (dk_at dksJ5_utf16hashCode_1 9 rfl rfl)
theorem dJ5_utf16hashCode_35 : decode cJ5_utf16hashCode 35 = .ok (.goto (-27), 3) := dk_167 255 229 (dk_at dksJ5_utf16hashCode_1 12 rfl rfl)
theorem dJ5_utf16hashCode_38 : decode cJ5_utf16hashCode 38 = .ok (.iload_n 0, 1) := dk_26 (dk_at dksJ5_utf16hashCode_1 15 rfl rfl)
theorem dJ5_utf16hashCode_39 : decode cJ5_utf16hashCode 39 = .ok (.ireturn, 1) := dk_172 (dk_at dksJ5_utf16hashCode_1 16 rfl rfl)
def dkwJ5_hashCode_1 : List UInt8 := [59, 132, 5, 1, 167, 255, 236, 26, 172]
abbrev dktJ5_hashCode_1 : List UInt8 := dkwJ5_hashCode_1 ++ []
def dkwJ5_hashCode_0 : List UInt8 := [28, 29, 96, 54, 4, 28, 54, 5, 21, 5, 21, 4, 162, 0, 19, 16, 31, 26, 104, 43, 21, 5, 52, 96]
abbrev dktJ5_hashCode_0 : List UInt8 := dkwJ5_hashCode_0 ++ dktJ5_hashCode_1
theorem dksJ5_hashCode_0 : cJ5_hashCode.data.toList.drop 0 = dktJ5_hashCode_0 := by decide +kernel
theorem dksJ5_hashCode_1 : cJ5_hashCode.data.toList.drop 24 = dktJ5_hashCode_1 := dk_seg dksJ5_hashCode_0 24 rfl rfl
theorem dJ5_hashCode_0 : decode cJ5_hashCode 0 = .ok (.iload_n 2, 1) := dk_28 (dk_at dksJ5_hashCode_0 0 rfl rfl)
theorem dJ5_hashCode_1 : decode cJ5_hashCode 1 = .ok (.iload_n 3, 1) := dk_29 (dk_at dksJ5_hashCode_0 1 rfl rfl)
theorem dJ5_hashCode_2 : decode cJ5_hashCode 2 = .ok (.iadd, 1) := dk_96 (dk_at dksJ5_hashCode_0 2 rfl rfl)
theorem dJ5_hashCode_3 : decode cJ5_hashCode 3 = .ok (.istore 4, 2) := dk_54 4 (dk_at dksJ5_hashCode_0 3 rfl rfl)
theorem dJ5_hashCode_5 : decode cJ5_hashCode 5 = .ok (.iload_n 2, 1) := dk_28 (dk_at dksJ5_hashCode_0 5 rfl rfl)
theorem dJ5_hashCode_6 : decode cJ5_hashCode 6 = .ok (.istore 5, 2) := dk_54 5 (dk_at dksJ5_hashCode_0 6 rfl rfl)
theorem dJ5_hashCode_8 : decode cJ5_hashCode 8 = .ok (.iload 5, 2) := dk_21 5 (dk_at dksJ5_hashCode_0 8 rfl rfl)
theorem dJ5_hashCode_10 : decode cJ5_hashCode 10 = .ok (.iload 4, 2) := dk_21 4 (dk_at dksJ5_hashCode_0 10 rfl rfl)
theorem dJ5_hashCode_12 : decode cJ5_hashCode 12 = .ok (.if_icmp .ge 19, 3) := dk_162 0 19 (dk_at dksJ5_hashCode_0 12 rfl rfl)
theorem dJ5_hashCode_15 : decode cJ5_hashCode 15 = .ok (.bipush 31, 2) := dk_16 31 (dk_at dksJ5_hashCode_0 15 rfl rfl)
theorem dJ5_hashCode_17 : decode cJ5_hashCode 17 = .ok (.iload_n 0, 1) := dk_26 (dk_at dksJ5_hashCode_0 17 rfl rfl)
theorem dJ5_hashCode_18 : decode cJ5_hashCode 18 = .ok (.imul, 1) := dk_104 (dk_at dksJ5_hashCode_0 18 rfl rfl)
theorem dJ5_hashCode_19 : decode cJ5_hashCode 19 = .ok (.aload_n 1, 1) := dk_43 (dk_at dksJ5_hashCode_0 19 rfl rfl)
theorem dJ5_hashCode_20 : decode cJ5_hashCode 20 = .ok (.iload 5, 2) := dk_21 5 (dk_at dksJ5_hashCode_0 20 rfl rfl)
theorem dJ5_hashCode_22 : decode cJ5_hashCode 22 = .ok (.caload, 1) := dk_52 (dk_at dksJ5_hashCode_0 22 rfl rfl)
theorem dJ5_hashCode_23 : decode cJ5_hashCode 23 = .ok (.iadd, 1) := dk_96 (dk_at dksJ5_hashCode_0 23 rfl rfl)
theorem dJ5_hashCode_24 : decode cJ5_hashCode 24 = .ok (.istore_n 0, 1) := dk_59 (dk_at dksJ5_hashCode_1 0 rfl rfl)
theorem dJ5_hashCode_25 : decode cJ5_hashCode 25 = .ok (.iinc 5 1, 3) := dk_132 5 1 (dk_at dksJ5_hashCode_1 1 rfl rfl)
theorem dJ5_hashCode_28 : decode cJ5_hashCode 28 = .ok (.goto (-20), 3) := dk_167 255 236 (dk_at dksJ5_hashCode_1 4 rfl rfl)
theorem dJ5_hashCode_31 : decode cJ5_hashCode 31 = .ok (.iload_n 0, 1) := dk_26 (dk_at dksJ5_hashCode_1 7 rfl rfl)
theorem dJ5_hashCode_32 : decode cJ5_hashCode 32 = .ok (.ireturn, 1) := dk_172 (dk_at dksJ5_hashCode_1 8 rfl rfl)
def dkwJ5_hashCode_2_1 : List UInt8 := [59, 132, 5, 1, 167, 255, 236, 26, 172]
abbrev dktJ5_hashCode_2_1 : List UInt8 := dkwJ5_hashCode_2_1 ++ []
def dkwJ5_hashCode_2_0 : List UInt8 := [28, 29, 96, 54, 4, 28, 54, 5, 21, 5, 21, 4, 162, 0, 19, 16, 31, 26, 104, 43, 21, 5, 51, 96]
abbrev dktJ5_hashCode_2_0 : List UInt8 := dkwJ5_hashCode_2_0 ++ dktJ5_hashCode_2_1
theorem dksJ5_hashCode_2_0 : cJ5_hashCode_2.data.toList.drop 0 = dktJ5_hashCode_2_0 := by decide +kernel
theorem dksJ5_hashCode_2_1 : cJ5_hashCode_2.data.toList.drop 24 = dktJ5_hashCode_2_1 := dk_seg dksJ5_hashCode_2_0 24 rfl rfl
theorem dJ5_hashCode_2_0 : decode cJ5_hashCode_2 0 = .ok (.iload_n 2, 1) := dk_28 (dk_at dksJ5_hashCode_2_0 0 rfl rfl)
theorem dJ5_hashCode_2_1 : decode cJ5_hashCode_2 1 = .ok (.iload_n 3, 1) := dk_29 (dk_at dksJ5_hashCode_2_0 1 rfl rfl)
theorem dJ5_hashCode_2_2 : decode cJ5_hashCode_2 2 = .ok (.iadd, 1) := dk_96 (dk_at dksJ5_hashCode_2_0 2 rfl rfl)
theorem dJ5_hashCode_2_3 : decode cJ5_hashCode_2 3 = .ok (.istore 4, 2) := dk_54 4 (dk_at dksJ5_hashCode_2_0 3 rfl rfl)
theorem dJ5_hashCode_2_5 : decode cJ5_hashCode_2 5 = .ok (.iload_n 2, 1) := dk_28 (dk_at dksJ5_hashCode_2_0 5 rfl rfl)
theorem dJ5_hashCode_2_6 : decode cJ5_hashCode_2 6 = .ok (.istore 5, 2) := dk_54 5 (dk_at dksJ5_hashCode_2_0 6 rfl rfl)
theorem dJ5_hashCode_2_8 : decode cJ5_hashCode_2 8 = .ok (.iload 5, 2) := dk_21 5 (dk_at dksJ5_hashCode_2_0 8 rfl rfl)
theorem dJ5_hashCode_2_10 : decode cJ5_hashCode_2 10 = .ok (.iload 4, 2) := dk_21 4 (dk_at dksJ5_hashCode_2_0 10 rfl rfl)
theorem dJ5_hashCode_2_12 : decode cJ5_hashCode_2 12 = .ok (.if_icmp .ge 19, 3) := dk_162 0 19 (dk_at dksJ5_hashCode_2_0 12 rfl rfl)
theorem dJ5_hashCode_2_15 : decode cJ5_hashCode_2 15 = .ok (.bipush 31, 2) := dk_16 31 (dk_at dksJ5_hashCode_2_0 15 rfl rfl)
theorem dJ5_hashCode_2_17 : decode cJ5_hashCode_2 17 = .ok (.iload_n 0, 1) := dk_26 (dk_at dksJ5_hashCode_2_0 17 rfl rfl)
theorem dJ5_hashCode_2_18 : decode cJ5_hashCode_2 18 = .ok (.imul, 1) := dk_104 (dk_at dksJ5_hashCode_2_0 18 rfl rfl)
theorem dJ5_hashCode_2_19 : decode cJ5_hashCode_2 19 = .ok (.aload_n 1, 1) := dk_43 (dk_at dksJ5_hashCode_2_0 19 rfl rfl)
theorem dJ5_hashCode_2_20 : decode cJ5_hashCode_2 20 = .ok (.iload 5, 2) := dk_21 5 (dk_at dksJ5_hashCode_2_0 20 rfl rfl)
theorem dJ5_hashCode_2_22 : decode cJ5_hashCode_2 22 = .ok (.baload, 1) := dk_51 (dk_at dksJ5_hashCode_2_0 22 rfl rfl)
theorem dJ5_hashCode_2_23 : decode cJ5_hashCode_2 23 = .ok (.iadd, 1) := dk_96 (dk_at dksJ5_hashCode_2_0 23 rfl rfl)
theorem dJ5_hashCode_2_24 : decode cJ5_hashCode_2 24 = .ok (.istore_n 0, 1) := dk_59 (dk_at dksJ5_hashCode_2_1 0 rfl rfl)
theorem dJ5_hashCode_2_25 : decode cJ5_hashCode_2 25 = .ok (.iinc 5 1, 3) := dk_132 5 1 (dk_at dksJ5_hashCode_2_1 1 rfl rfl)
theorem dJ5_hashCode_2_28 : decode cJ5_hashCode_2 28 = .ok (.goto (-20), 3) := dk_167 255 236 (dk_at dksJ5_hashCode_2_1 4 rfl rfl)
theorem dJ5_hashCode_2_31 : decode cJ5_hashCode_2 31 = .ok (.iload_n 0, 1) := dk_26 (dk_at dksJ5_hashCode_2_1 7 rfl rfl)
theorem dJ5_hashCode_2_32 : decode cJ5_hashCode_2 32 = .ok (.ireturn, 1) := dk_172 (dk_at dksJ5_hashCode_2_1 8 rfl rfl)
def dkwJ5_hashCode_3_1 : List UInt8 := [59, 132, 5, 1, 167, 255, 236, 26, 172]
abbrev dktJ5_hashCode_3_1 : List UInt8 := dkwJ5_hashCode_3_1 ++ []
def dkwJ5_hashCode_3_0 : List UInt8 := [28, 29, 96, 54, 4, 28, 54, 5, 21, 5, 21, 4, 162, 0, 19, 16, 31, 26, 104, 43, 21, 5, 53, 96]
abbrev dktJ5_hashCode_3_0 : List UInt8 := dkwJ5_hashCode_3_0 ++ dktJ5_hashCode_3_1
theorem dksJ5_hashCode_3_0 : cJ5_hashCode_3.data.toList.drop 0 = dktJ5_hashCode_3_0 := by decide +kernel
theorem dksJ5_hashCode_3_1 : cJ5_hashCode_3.data.toList.drop 24 = dktJ5_hashCode_3_1 := dk_seg dksJ5_hashCode_3_0 24 rfl rfl
theorem dJ5_hashCode_3_0 : decode cJ5_hashCode_3 0 = .ok (.iload_n 2, 1) := dk_28 (dk_at dksJ5_hashCode_3_0 0 rfl rfl)
theorem dJ5_hashCode_3_1 : decode cJ5_hashCode_3 1 = .ok (.iload_n 3, 1) := dk_29 (dk_at dksJ5_hashCode_3_0 1 rfl rfl)
theorem dJ5_hashCode_3_2 : decode cJ5_hashCode_3 2 = .ok (.iadd, 1) := dk_96 (dk_at dksJ5_hashCode_3_0 2 rfl rfl)
theorem dJ5_hashCode_3_3 : decode cJ5_hashCode_3 3 = .ok (.istore 4, 2) := dk_54 4 (dk_at dksJ5_hashCode_3_0 3 rfl rfl)
theorem dJ5_hashCode_3_5 : decode cJ5_hashCode_3 5 = .ok (.iload_n 2, 1) := dk_28 (dk_at dksJ5_hashCode_3_0 5 rfl rfl)
theorem dJ5_hashCode_3_6 : decode cJ5_hashCode_3 6 = .ok (.istore 5, 2) := dk_54 5 (dk_at dksJ5_hashCode_3_0 6 rfl rfl)
theorem dJ5_hashCode_3_8 : decode cJ5_hashCode_3 8 = .ok (.iload 5, 2) := dk_21 5 (dk_at dksJ5_hashCode_3_0 8 rfl rfl)
theorem dJ5_hashCode_3_10 : decode cJ5_hashCode_3 10 = .ok (.iload 4, 2) := dk_21 4 (dk_at dksJ5_hashCode_3_0 10 rfl rfl)
theorem dJ5_hashCode_3_12 : decode cJ5_hashCode_3 12 = .ok (.if_icmp .ge 19, 3) := dk_162 0 19 (dk_at dksJ5_hashCode_3_0 12 rfl rfl)
theorem dJ5_hashCode_3_15 : decode cJ5_hashCode_3 15 = .ok (.bipush 31, 2) := dk_16 31 (dk_at dksJ5_hashCode_3_0 15 rfl rfl)
theorem dJ5_hashCode_3_17 : decode cJ5_hashCode_3 17 = .ok (.iload_n 0, 1) := dk_26 (dk_at dksJ5_hashCode_3_0 17 rfl rfl)
theorem dJ5_hashCode_3_18 : decode cJ5_hashCode_3 18 = .ok (.imul, 1) := dk_104 (dk_at dksJ5_hashCode_3_0 18 rfl rfl)
theorem dJ5_hashCode_3_19 : decode cJ5_hashCode_3 19 = .ok (.aload_n 1, 1) := dk_43 (dk_at dksJ5_hashCode_3_0 19 rfl rfl)
theorem dJ5_hashCode_3_20 : decode cJ5_hashCode_3 20 = .ok (.iload 5, 2) := dk_21 5 (dk_at dksJ5_hashCode_3_0 20 rfl rfl)
theorem dJ5_hashCode_3_22 : decode cJ5_hashCode_3 22 = .ok (.saload, 1) := dk_53 (dk_at dksJ5_hashCode_3_0 22 rfl rfl)
theorem dJ5_hashCode_3_23 : decode cJ5_hashCode_3 23 = .ok (.iadd, 1) := dk_96 (dk_at dksJ5_hashCode_3_0 23 rfl rfl)
theorem dJ5_hashCode_3_24 : decode cJ5_hashCode_3 24 = .ok (.istore_n 0, 1) := dk_59 (dk_at dksJ5_hashCode_3_1 0 rfl rfl)
theorem dJ5_hashCode_3_25 : decode cJ5_hashCode_3 25 = .ok (.iinc 5 1, 3) := dk_132 5 1 (dk_at dksJ5_hashCode_3_1 1 rfl rfl)
theorem dJ5_hashCode_3_28 : decode cJ5_hashCode_3 28 = .ok (.goto (-20), 3) := dk_167 255 236 (dk_at dksJ5_hashCode_3_1 4 rfl rfl)
theorem dJ5_hashCode_3_31 : decode cJ5_hashCode_3 31 = .ok (.iload_n 0, 1) := dk_26 (dk_at dksJ5_hashCode_3_1 7 rfl rfl)
theorem dJ5_hashCode_3_32 : decode cJ5_hashCode_3 32 = .ok (.ireturn, 1) := dk_172 (dk_at dksJ5_hashCode_3_1 8 rfl rfl)
def dkwJ5_hashCode_4_1 : List UInt8 := [59, 132, 5, 1, 167, 255, 236, 26, 172]
abbrev dktJ5_hashCode_4_1 : List UInt8 := dkwJ5_hashCode_4_1 ++ []
def dkwJ5_hashCode_4_0 : List UInt8 := [28, 29, 96, 54, 4, 28, 54, 5, 21, 5, 21, 4, 162, 0, 19, 16, 31, 26, 104, 43, 21, 5, 46, 96]
abbrev dktJ5_hashCode_4_0 : List UInt8 := dkwJ5_hashCode_4_0 ++ dktJ5_hashCode_4_1
theorem dksJ5_hashCode_4_0 : cJ5_hashCode_4.data.toList.drop 0 = dktJ5_hashCode_4_0 := by decide +kernel
theorem dksJ5_hashCode_4_1 : cJ5_hashCode_4.data.toList.drop 24 = dktJ5_hashCode_4_1 := dk_seg dksJ5_hashCode_4_0 24 rfl rfl
theorem dJ5_hashCode_4_0 : decode cJ5_hashCode_4 0 = .ok (.iload_n 2, 1) := dk_28 (dk_at dksJ5_hashCode_4_0 0 rfl rfl)
theorem dJ5_hashCode_4_1 : decode cJ5_hashCode_4 1 = .ok (.iload_n 3, 1) := dk_29 (dk_at dksJ5_hashCode_4_0 1 rfl rfl)
theorem dJ5_hashCode_4_2 : decode cJ5_hashCode_4 2 = .ok (.iadd, 1) := dk_96 (dk_at dksJ5_hashCode_4_0 2 rfl rfl)
theorem dJ5_hashCode_4_3 : decode cJ5_hashCode_4 3 = .ok (.istore 4, 2) := dk_54 4 (dk_at dksJ5_hashCode_4_0 3 rfl rfl)
theorem dJ5_hashCode_4_5 : decode cJ5_hashCode_4 5 = .ok (.iload_n 2, 1) := dk_28 (dk_at dksJ5_hashCode_4_0 5 rfl rfl)
theorem dJ5_hashCode_4_6 : decode cJ5_hashCode_4 6 = .ok (.istore 5, 2) := dk_54 5 (dk_at dksJ5_hashCode_4_0 6 rfl rfl)
theorem dJ5_hashCode_4_8 : decode cJ5_hashCode_4 8 = .ok (.iload 5, 2) := dk_21 5 (dk_at dksJ5_hashCode_4_0 8 rfl rfl)
theorem dJ5_hashCode_4_10 : decode cJ5_hashCode_4 10 = .ok (.iload 4, 2) := dk_21 4 (dk_at dksJ5_hashCode_4_0 10 rfl rfl)
theorem dJ5_hashCode_4_12 : decode cJ5_hashCode_4 12 = .ok (.if_icmp .ge 19, 3) := dk_162 0 19 (dk_at dksJ5_hashCode_4_0 12 rfl rfl)
theorem dJ5_hashCode_4_15 : decode cJ5_hashCode_4 15 = .ok (.bipush 31, 2) := dk_16 31 (dk_at dksJ5_hashCode_4_0 15 rfl rfl)
theorem dJ5_hashCode_4_17 : decode cJ5_hashCode_4 17 = .ok (.iload_n 0, 1) := dk_26 (dk_at dksJ5_hashCode_4_0 17 rfl rfl)
theorem dJ5_hashCode_4_18 : decode cJ5_hashCode_4 18 = .ok (.imul, 1) := dk_104 (dk_at dksJ5_hashCode_4_0 18 rfl rfl)
theorem dJ5_hashCode_4_19 : decode cJ5_hashCode_4 19 = .ok (.aload_n 1, 1) := dk_43 (dk_at dksJ5_hashCode_4_0 19 rfl rfl)
theorem dJ5_hashCode_4_20 : decode cJ5_hashCode_4 20 = .ok (.iload 5, 2) := dk_21 5 (dk_at dksJ5_hashCode_4_0 20 rfl rfl)
theorem dJ5_hashCode_4_22 : decode cJ5_hashCode_4 22 = .ok (.iaload, 1) := dk_46 (dk_at dksJ5_hashCode_4_0 22 rfl rfl)
theorem dJ5_hashCode_4_23 : decode cJ5_hashCode_4 23 = .ok (.iadd, 1) := dk_96 (dk_at dksJ5_hashCode_4_0 23 rfl rfl)
theorem dJ5_hashCode_4_24 : decode cJ5_hashCode_4 24 = .ok (.istore_n 0, 1) := dk_59 (dk_at dksJ5_hashCode_4_1 0 rfl rfl)
theorem dJ5_hashCode_4_25 : decode cJ5_hashCode_4 25 = .ok (.iinc 5 1, 3) := dk_132 5 1 (dk_at dksJ5_hashCode_4_1 1 rfl rfl)
theorem dJ5_hashCode_4_28 : decode cJ5_hashCode_4 28 = .ok (.goto (-20), 3) := dk_167 255 236 (dk_at dksJ5_hashCode_4_1 4 rfl rfl)
theorem dJ5_hashCode_4_31 : decode cJ5_hashCode_4 31 = .ok (.iload_n 0, 1) := dk_26 (dk_at dksJ5_hashCode_4_1 7 rfl rfl)
theorem dJ5_hashCode_4_32 : decode cJ5_hashCode_4 32 = .ok (.ireturn, 1) := dk_172 (dk_at dksJ5_hashCode_4_1 8 rfl rfl)
def dkwJ6_copyOf_1 : List UInt8 := [27, 184, 1, 48, 184, 0, 150, 44, 176]
abbrev dktJ6_copyOf_1 : List UInt8 := dkwJ6_copyOf_1 ++ []
def dkwJ6_copyOf_0 : List UInt8 := [27, 42, 190, 160, 0, 11, 42, 182, 1, 54, 192, 1, 55, 176, 27, 188, 8, 77, 42, 3, 44, 3, 42, 190]
abbrev dktJ6_copyOf_0 : List UInt8 := dkwJ6_copyOf_0 ++ dktJ6_copyOf_1
theorem dksJ6_copyOf_0 : cJ6_copyOf.data.toList.drop 0 = dktJ6_copyOf_0 := by decide +kernel
theorem dksJ6_copyOf_1 : cJ6_copyOf.data.toList.drop 24 = dktJ6_copyOf_1 := dk_seg dksJ6_copyOf_0 24 rfl rfl
theorem dJ6_copyOf_0 : decode cJ6_copyOf 0 = .ok (.iload_n 1, 1) := dk_27 (dk_at dksJ6_copyOf_0 0 rfl rfl)
theorem dJ6_copyOf_1 : decode cJ6_copyOf 1 = .ok (.aload_n 0, 1) := dk_42 (dk_at dksJ6_copyOf_0 1 rfl rfl)
theorem dJ6_copyOf_2 : decode cJ6_copyOf 2 = .ok (.arraylength, 1) := dk_190 (dk_at dksJ6_copyOf_0 2 rfl rfl)
theorem dJ6_copyOf_3 : decode cJ6_copyOf 3 = .ok (.if_icmp .ne 11, 3) := dk_160 0 11 (dk_at dksJ6_copyOf_0 3 rfl rfl)
theorem dJ6_copyOf_6 : decode cJ6_copyOf 6 = .ok (.aload_n 0, 1) := dk_42 (dk_at dksJ6_copyOf_0 6 rfl rfl)
theorem dJ6_copyOf_7 : decode cJ6_copyOf 7 = .ok (.invokevirtual 310, 3) := dk_182 1 54 (dk_at dksJ6_copyOf_0 7 rfl rfl)
theorem dJ6_copyOf_10 : decode cJ6_copyOf 10 = .ok (.checkcast 311, 3) := dk_192 1 55 (dk_at dksJ6_copyOf_0 10 rfl rfl)
theorem dJ6_copyOf_13 : decode cJ6_copyOf 13 = .ok (.areturn, 1) := dk_176 (dk_at dksJ6_copyOf_0 13 rfl rfl)
theorem dJ6_copyOf_14 : decode cJ6_copyOf 14 = .ok (.iload_n 1, 1) := dk_27 (dk_at dksJ6_copyOf_0 14 rfl rfl)
theorem dJ6_copyOf_15 : decode cJ6_copyOf 15 = .ok (.newarray .byte, 2) := dk_188_8 (dk_at dksJ6_copyOf_0 15 rfl rfl)
theorem dJ6_copyOf_17 : decode cJ6_copyOf 17 = .ok (.astore_n 2, 1) := dk_77 (dk_at dksJ6_copyOf_0 17 rfl rfl)
theorem dJ6_copyOf_18 : decode cJ6_copyOf 18 = .ok (.aload_n 0, 1) := dk_42 (dk_at dksJ6_copyOf_0 18 rfl rfl)
theorem dJ6_copyOf_19 : decode cJ6_copyOf 19 = .ok (.iconst 0, 1) := dk_3 (dk_at dksJ6_copyOf_0 19 rfl rfl)
theorem dJ6_copyOf_20 : decode cJ6_copyOf 20 = .ok (.aload_n 2, 1) := dk_44 (dk_at dksJ6_copyOf_0 20 rfl rfl)
theorem dJ6_copyOf_21 : decode cJ6_copyOf 21 = .ok (.iconst 0, 1) := dk_3 (dk_at dksJ6_copyOf_0 21 rfl rfl)
theorem dJ6_copyOf_22 : decode cJ6_copyOf 22 = .ok (.aload_n 0, 1) := dk_42 (dk_at dksJ6_copyOf_0 22 rfl rfl)
theorem dJ6_copyOf_23 : decode cJ6_copyOf 23 = .ok (.arraylength, 1) := dk_190 (dk_at dksJ6_copyOf_0 23 rfl rfl)
theorem dJ6_copyOf_24 : decode cJ6_copyOf 24 = .ok (.iload_n 1, 1) := dk_27 (dk_at dksJ6_copyOf_1 0 rfl rfl)
theorem dJ6_copyOf_25 : decode cJ6_copyOf 25 = .ok (.invokestatic 304, 3) := dk_184 1 48 (dk_at dksJ6_copyOf_1 1 rfl rfl)
theorem dJ6_copyOf_28 : decode cJ6_copyOf 28 = .ok (.invokestatic 150, 3) := dk_184 0 150 (dk_at dksJ6_copyOf_1 4 rfl rfl)
theorem dJ6_copyOf_31 : decode cJ6_copyOf 31 = .ok (.aload_n 2, 1) := dk_44 (dk_at dksJ6_copyOf_1 7 rfl rfl)
theorem dJ6_copyOf_32 : decode cJ6_copyOf 32 = .ok (.areturn, 1) := dk_176 (dk_at dksJ6_copyOf_1 8 rfl rfl)
def dkwJ6_copyOfRange_1 : List UInt8 := [176]
abbrev dktJ6_copyOfRange_1 : List UInt8 := dkwJ6_copyOfRange_1 ++ []
def dkwJ6_copyOfRange_0 : List UInt8 := [27, 154, 0, 9, 28, 42, 190, 159, 0, 10, 42, 27, 28, 184, 1, 83, 176, 42, 182, 1, 54, 192, 1, 55]
abbrev dktJ6_copyOfRange_0 : List UInt8 := dkwJ6_copyOfRange_0 ++ dktJ6_copyOfRange_1
theorem dksJ6_copyOfRange_0 : cJ6_copyOfRange.data.toList.drop 0 = dktJ6_copyOfRange_0 := by decide +kernel
theorem dksJ6_copyOfRange_1 : cJ6_copyOfRange.data.toList.drop 24 = dktJ6_copyOfRange_1 := dk_seg dksJ6_copyOfRange_0 24 rfl rfl
theorem dJ6_copyOfRange_0 : decode cJ6_copyOfRange 0 = .ok (.iload_n 1, 1) := dk_27 (dk_at dksJ6_copyOfRange_0 0 rfl rfl)
theorem dJ6_copyOfRange_1 : decode cJ6_copyOfRange 1 = .ok (.ifCond .ne 9, 3) := dk_154 0 9 (dk_at dksJ6_copyOfRange_0 1 rfl rfl)
theorem dJ6_copyOfRange_4 : decode cJ6_copyOfRange 4 = .ok (.iload_n 2, 1) := dk_28 (dk_at dksJ6_copyOfRange_0 4 rfl rfl)
theorem dJ6_copyOfRange_5 : decode cJ6_copyOfRange 5 = .ok (.aload_n 0, 1) := dk_42 (dk_at dksJ6_copyOfRange_0 5 rfl rfl)
theorem dJ6_copyOfRange_6 : decode cJ6_copyOfRange 6 = .ok (.arraylength, 1) := dk_190 (dk_at dksJ6_copyOfRange_0 6 rfl rfl)
theorem dJ6_copyOfRange_7 : decode cJ6_copyOfRange 7 = .ok (.if_icmp .eq 10, 3) := dk_159 0 10 (dk_at dksJ6_copyOfRange_0 7 rfl rfl)
theorem dJ6_copyOfRange_10 : decode cJ6_copyOfRange 10 = .ok (.aload_n 0, 1) := dk_42 (dk_at dksJ6_copyOfRange_0 10 rfl rfl)
theorem dJ6_copyOfRange_11 : decode cJ6_copyOfRange 11 = .ok (.iload_n 1, 1) := dk_27 (dk_at dksJ6_copyOfRange_0 11 rfl rfl)
theorem dJ6_copyOfRange_12 : decode cJ6_copyOfRange 12 = .ok (.iload_n 2, 1) := dk_28 (dk_at dksJ6_copyOfRange_0 12 rfl rfl)
theorem dJ6_copyOfRange_13 : decode cJ6_copyOfRange 13 = .ok (.invokestatic 339, 3) := dk_184 1 83 (dk_at dksJ6_copyOfRange_0 13 rfl rfl)
theorem dJ6_copyOfRange_16 : decode cJ6_copyOfRange 16 = .ok (.areturn, 1) := dk_176 (dk_at dksJ6_copyOfRange_0 16 rfl rfl)
theorem dJ6_copyOfRange_17 : decode cJ6_copyOfRange 17 = .ok (.aload_n 0, 1) := dk_42 (dk_at dksJ6_copyOfRange_0 17 rfl rfl)
theorem dJ6_copyOfRange_18 : decode cJ6_copyOfRange 18 = .ok (.invokevirtual 310, 3) := dk_182 1 54 (dk_at dksJ6_copyOfRange_0 18 rfl rfl)
theorem dJ6_copyOfRange_21 : decode cJ6_copyOfRange 21 = .ok (.checkcast 311, 3) := dk_192 1 55 (dk_at dksJ6_copyOfRange_0 21 rfl rfl)
theorem dJ6_copyOfRange_24 : decode cJ6_copyOfRange 24 = .ok (.areturn, 1) := dk_176 (dk_at dksJ6_copyOfRange_1 0 rfl rfl)
def dkwJ6_copyOfRangeByte_1 : List UInt8 := [184, 1, 48, 184, 0, 150, 25, 4, 176]
abbrev dktJ6_copyOfRangeByte_1 : List UInt8 := dkwJ6_copyOfRangeByte_1 ++ []
def dkwJ6_copyOfRangeByte_0 : List UInt8 := [27, 28, 184, 1, 87, 28, 27, 100, 62, 29, 188, 8, 58, 4, 42, 27, 25, 4, 3, 42, 190, 27, 100, 29]
abbrev dktJ6_copyOfRangeByte_0 : List UInt8 := dkwJ6_copyOfRangeByte_0 ++ dktJ6_copyOfRangeByte_1
theorem dksJ6_copyOfRangeByte_0 : cJ6_copyOfRangeByte.data.toList.drop 0 = dktJ6_copyOfRangeByte_0 := by decide +kernel
theorem dksJ6_copyOfRangeByte_1 : cJ6_copyOfRangeByte.data.toList.drop 24 = dktJ6_copyOfRangeByte_1 := dk_seg dksJ6_copyOfRangeByte_0 24 rfl rfl
theorem dJ6_copyOfRangeByte_0 : decode cJ6_copyOfRangeByte 0 = .ok (.iload_n 1, 1) := dk_27 (dk_at dksJ6_copyOfRangeByte_0 0 rfl rfl)
theorem dJ6_copyOfRangeByte_1 : decode cJ6_copyOfRangeByte 1 = .ok (.iload_n 2, 1) := dk_28 (dk_at dksJ6_copyOfRangeByte_0 1 rfl rfl)
theorem dJ6_copyOfRangeByte_2 : decode cJ6_copyOfRangeByte 2 = .ok (.invokestatic 343, 3) := dk_184 1 87 (dk_at dksJ6_copyOfRangeByte_0 2 rfl rfl)
theorem dJ6_copyOfRangeByte_5 : decode cJ6_copyOfRangeByte 5 = .ok (.iload_n 2, 1) := dk_28 (dk_at dksJ6_copyOfRangeByte_0 5 rfl rfl)
theorem dJ6_copyOfRangeByte_6 : decode cJ6_copyOfRangeByte 6 = .ok (.iload_n 1, 1) := dk_27 (dk_at dksJ6_copyOfRangeByte_0 6 rfl rfl)
theorem dJ6_copyOfRangeByte_7 : decode cJ6_copyOfRangeByte 7 = .ok (.isub, 1) := dk_100 (dk_at dksJ6_copyOfRangeByte_0 7 rfl rfl)
theorem dJ6_copyOfRangeByte_8 : decode cJ6_copyOfRangeByte 8 = .ok (.istore_n 3, 1) := dk_62 (dk_at dksJ6_copyOfRangeByte_0 8 rfl rfl)
theorem dJ6_copyOfRangeByte_9 : decode cJ6_copyOfRangeByte 9 = .ok (.iload_n 3, 1) := dk_29 (dk_at dksJ6_copyOfRangeByte_0 9 rfl rfl)
theorem dJ6_copyOfRangeByte_10 : decode cJ6_copyOfRangeByte 10 = .ok (.newarray .byte, 2) := dk_188_8 (dk_at dksJ6_copyOfRangeByte_0 10 rfl rfl)
theorem dJ6_copyOfRangeByte_12 : decode cJ6_copyOfRangeByte 12 = .ok (.astore 4, 2) := dk_58 4 (dk_at dksJ6_copyOfRangeByte_0 12 rfl rfl)
theorem dJ6_copyOfRangeByte_14 : decode cJ6_copyOfRangeByte 14 = .ok (.aload_n 0, 1) := dk_42 (dk_at dksJ6_copyOfRangeByte_0 14 rfl rfl)
theorem dJ6_copyOfRangeByte_15 : decode cJ6_copyOfRangeByte 15 = .ok (.iload_n 1, 1) := dk_27 (dk_at dksJ6_copyOfRangeByte_0 15 rfl rfl)
theorem dJ6_copyOfRangeByte_16 : decode cJ6_copyOfRangeByte 16 = .ok (.aload 4, 2) := dk_25 4 (dk_at dksJ6_copyOfRangeByte_0 16 rfl rfl)
theorem dJ6_copyOfRangeByte_18 : decode cJ6_copyOfRangeByte 18 = .ok (.iconst 0, 1) := dk_3 (dk_at dksJ6_copyOfRangeByte_0 18 rfl rfl)
theorem dJ6_copyOfRangeByte_19 : decode cJ6_copyOfRangeByte 19 = .ok (.aload_n 0, 1) := dk_42 (dk_at dksJ6_copyOfRangeByte_0 19 rfl rfl)
theorem dJ6_copyOfRangeByte_20 : decode cJ6_copyOfRangeByte 20 = .ok (.arraylength, 1) := dk_190 (dk_at dksJ6_copyOfRangeByte_0 20 rfl rfl)
theorem dJ6_copyOfRangeByte_21 : decode cJ6_copyOfRangeByte 21 = .ok (.iload_n 1, 1) := dk_27 (dk_at dksJ6_copyOfRangeByte_0 21 rfl rfl)
theorem dJ6_copyOfRangeByte_22 : decode cJ6_copyOfRangeByte 22 = .ok (.isub, 1) := dk_100 (dk_at dksJ6_copyOfRangeByte_0 22 rfl rfl)
theorem dJ6_copyOfRangeByte_23 : decode cJ6_copyOfRangeByte 23 = .ok (.iload_n 3, 1) := dk_29 (dk_at dksJ6_copyOfRangeByte_0 23 rfl rfl)
theorem dJ6_copyOfRangeByte_24 : decode cJ6_copyOfRangeByte 24 = .ok (.invokestatic 304, 3) := dk_184 1 48 (dk_at dksJ6_copyOfRangeByte_1 0 rfl rfl)
theorem dJ6_copyOfRangeByte_27 : decode cJ6_copyOfRangeByte 27 = .ok (.invokestatic 150, 3) := dk_184 0 150 (dk_at dksJ6_copyOfRangeByte_1 3 rfl rfl)
theorem dJ6_copyOfRangeByte_30 : decode cJ6_copyOfRangeByte 30 = .ok (.aload 4, 2) := dk_25 4 (dk_at dksJ6_copyOfRangeByte_1 6 rfl rfl)
theorem dJ6_copyOfRangeByte_32 : decode cJ6_copyOfRangeByte 32 = .ok (.areturn, 1) := dk_176 (dk_at dksJ6_copyOfRangeByte_1 8 rfl rfl)
def dkwJ6_checkLength_1 : List UInt8 := [182, 0, 50, 27, 182, 0, 54, 182, 0, 61, 183, 0, 65, 191, 177]
abbrev dktJ6_checkLength_1 : List UInt8 := dkwJ6_checkLength_1 ++ []
def dkwJ6_checkLength_0 : List UInt8 := [27, 26, 162, 0, 35, 187, 0, 43, 89, 187, 0, 45, 89, 183, 0, 47, 26, 182, 0, 54, 19, 1, 81]
abbrev dktJ6_checkLength_0 : List UInt8 := dkwJ6_checkLength_0 ++ dktJ6_checkLength_1
theorem dksJ6_checkLength_0 : cJ6_checkLength.data.toList.drop 0 = dktJ6_checkLength_0 := by decide +kernel
theorem dksJ6_checkLength_1 : cJ6_checkLength.data.toList.drop 23 = dktJ6_checkLength_1 := dk_seg dksJ6_checkLength_0 23 rfl rfl
theorem dJ6_checkLength_0 : decode cJ6_checkLength 0 = .ok (.iload_n 1, 1) := dk_27 (dk_at dksJ6_checkLength_0 0 rfl rfl)
theorem dJ6_checkLength_1 : decode cJ6_checkLength 1 = .ok (.iload_n 0, 1) := dk_26 (dk_at dksJ6_checkLength_0 1 rfl rfl)
theorem dJ6_checkLength_2 : decode cJ6_checkLength 2 = .ok (.if_icmp .ge 35, 3) := dk_162 0 35 (dk_at dksJ6_checkLength_0 2 rfl rfl)
theorem dJ6_checkLength_5 : decode cJ6_checkLength 5 = .ok (.new 43, 3) := dk_187 0 43 (dk_at dksJ6_checkLength_0 5 rfl rfl)
theorem dJ6_checkLength_8 : decode cJ6_checkLength 8 = .ok (.dup, 1) := dk_89 (dk_at dksJ6_checkLength_0 8 rfl rfl)
theorem dJ6_checkLength_9 : decode cJ6_checkLength 9 = .ok (.new 45, 3) := dk_187 0 45 (dk_at dksJ6_checkLength_0 9 rfl rfl)
theorem dJ6_checkLength_12 : decode cJ6_checkLength 12 = .ok (.dup, 1) := dk_89 (dk_at dksJ6_checkLength_0 12 rfl rfl)
theorem dJ6_checkLength_13 : decode cJ6_checkLength 13 = .ok (.invokespecial 47, 3) := dk_183 0 47 (dk_at dksJ6_checkLength_0 13 rfl rfl)
theorem dJ6_checkLength_16 : decode cJ6_checkLength 16 = .ok (.iload_n 0, 1) := dk_26 (dk_at dksJ6_checkLength_0 16 rfl rfl)
theorem dJ6_checkLength_17 : decode cJ6_checkLength 17 = .ok (.invokevirtual 54, 3) := dk_182 0 54 (dk_at dksJ6_checkLength_0 17 rfl rfl)
theorem dJ6_checkLength_20 : decode cJ6_checkLength 20 = .ok (.ldc_w 337, 3) := dk_19 1 81 (dk_at dksJ6_checkLength_0 20 rfl rfl)
theorem dJ6_checkLength_23 : decode cJ6_checkLength 23 = .ok (.invokevirtual 50, 3) := dk_182 0 50 (dk_at dksJ6_checkLength_1 0 rfl rfl)
theorem dJ6_checkLength_26 : decode cJ6_checkLength 26 = .ok (.iload_n 1, 1) := dk_27 (dk_at dksJ6_checkLength_1 3 rfl rfl)
theorem dJ6_checkLength_27 : decode cJ6_checkLength 27 = .ok (.invokevirtual 54, 3) := dk_182 0 54 (dk_at dksJ6_checkLength_1 4 rfl rfl)
theorem dJ6_checkLength_30 : decode cJ6_checkLength 30 = .ok (.invokevirtual 61, 3) := dk_182 0 61 (dk_at dksJ6_checkLength_1 7 rfl rfl)
theorem dJ6_checkLength_33 : decode cJ6_checkLength 33 = .ok (.invokespecial 65, 3) := dk_183 0 65 (dk_at dksJ6_checkLength_1 10 rfl rfl)
theorem dJ6_checkLength_36 : decode cJ6_checkLength 36 = .ok (.athrow, 1) := dk_191 (dk_at dksJ6_checkLength_1 13 rfl rfl)
theorem dJ6_checkLength_37 : decode cJ6_checkLength 37 = .ok (.return_, 1) := dk_177 (dk_at dksJ6_checkLength_1 14 rfl rfl)
def dkwJ7_canEncode_0 : List UInt8 := [26, 17, 0, 255, 163, 0, 7, 4, 167, 0, 4, 3, 172]
abbrev dktJ7_canEncode_0 : List UInt8 := dkwJ7_canEncode_0 ++ []
theorem dksJ7_canEncode_0 : cJ7_canEncode.data.toList.drop 0 = dktJ7_canEncode_0 := by decide +kernel
theorem dJ7_canEncode_0 : decode cJ7_canEncode 0 = .ok (.iload_n 0, 1) := dk_26 (dk_at dksJ7_canEncode_0 0 rfl rfl)
theorem dJ7_canEncode_1 : decode cJ7_canEncode 1 = .ok (.sipush 255, 3) := dk_17 0 255 (dk_at dksJ7_canEncode_0 1 rfl rfl)
theorem dJ7_canEncode_4 : decode cJ7_canEncode 4 = .ok (.if_icmp .gt 7, 3) := dk_163 0 7 (dk_at dksJ7_canEncode_0 4 rfl rfl)
theorem dJ7_canEncode_7 : decode cJ7_canEncode 7 = .ok (.iconst 1, 1) := dk_4 (dk_at dksJ7_canEncode_0 7 rfl rfl)
theorem dJ7_canEncode_8 : decode cJ7_canEncode 8 = .ok (.goto 4, 3) := dk_167 0 4 (dk_at dksJ7_canEncode_0 8 rfl rfl)
theorem dJ7_canEncode_11 : decode cJ7_canEncode 11 = .ok (.iconst 0, 1) := dk_3 (dk_at dksJ7_canEncode_0 11 rfl rfl)
theorem dJ7_canEncode_12 : decode cJ7_canEncode 12 = .ok (.ireturn, 1) := dk_172 (dk_at dksJ7_canEncode_0 12 rfl rfl)
def dkwJ7_inflate_0 : List UInt8 := [42, 27, 44, 29, 21, 4, 184, 0, 240, 177]
abbrev dktJ7_inflate_0 : List UInt8 := dkwJ7_inflate_0 ++ []
theorem dksJ7_inflate_0 : cJ7_inflate.data.toList.drop 0 = dktJ7_inflate_0 := by decide +kernel
theorem dJ7_inflate_0 : decode cJ7_inflate 0 = .ok (.aload_n 0, 1) := dk_42 (dk_at dksJ7_inflate_0 0 rfl rfl)
theorem dJ7_inflate_1 : decode cJ7_inflate 1 = .ok (.iload_n 1, 1) := dk_27 (dk_at dksJ7_inflate_0 1 rfl rfl)
theorem dJ7_inflate_2 : decode cJ7_inflate 2 = .ok (.aload_n 2, 1) := dk_44 (dk_at dksJ7_inflate_0 2 rfl rfl)
theorem dJ7_inflate_3 : decode cJ7_inflate 3 = .ok (.iload_n 3, 1) := dk_29 (dk_at dksJ7_inflate_0 3 rfl rfl)
theorem dJ7_inflate_4 : decode cJ7_inflate 4 = .ok (.iload 4, 2) := dk_21 4 (dk_at dksJ7_inflate_0 4 rfl rfl)
theorem dJ7_inflate_6 : decode cJ7_inflate 6 = .ok (.invokestatic 240, 3) := dk_184 0 240 (dk_at dksJ7_inflate_0 6 rfl rfl)
theorem dJ7_inflate_9 : decode cJ7_inflate 9 = .ok (.return_, 1) := dk_177 (dk_at dksJ7_inflate_0 9 rfl rfl)
def dkwJ7_hashCode_2 : List UInt8 := [3, 167, 0, 22, 42, 3, 51, 17, 0, 255, 126, 167, 0, 12, 42, 3, 42, 190, 3, 7, 184, 0, 84, 172]
abbrev dktJ7_hashCode_2 : List UInt8 := dkwJ7_hashCode_2 ++ []
def dkwJ7_hashCode_1 : List UInt8 := [171, 0, 0, 0, 0, 40, 0, 0, 0, 2, 0, 0, 0, 0, 0, 0, 0, 26, 0, 0, 0, 1, 0, 0, 0, 30]
abbrev dktJ7_hashCode_1 : List UInt8 := dkwJ7_hashCode_1 ++ dktJ7_hashCode_2
def dkwJ7_hashCode_0 : List UInt8 := [42, 190]
abbrev dktJ7_hashCode_0 : List UInt8 := dkwJ7_hashCode_0 ++ dktJ7_hashCode_1
theorem dksJ7_hashCode_0 : cJ7_hashCode.data.toList.drop 0 = dktJ7_hashCode_0 := by decide +kernel
theorem dksJ7_hashCode_1 : cJ7_hashCode.data.toList.drop 2 = dktJ7_hashCode_1 := dk_seg dksJ7_hashCode_0 2 rfl rfl
theorem dksJ7_hashCode_2 : cJ7_hashCode.data.toList.drop 28 = dktJ7_hashCode_2 := dk_seg dksJ7_hashCode_1 26 rfl rfl
theorem dJ7_hashCode_0 : decode cJ7_hashCode 0 = .ok (.aload_n 0, 1) := dk_42 (dk_at dksJ7_hashCode_0 0 rfl rfl)
theorem dJ7_hashCode_1 : decode cJ7_hashCode 1 = .ok (.arraylength, 1) := dk_190 (dk_at dksJ7_hashCode_0 1 rfl rfl)
theorem dJ7_hashCode_2 : decode cJ7_hashCode 2 = .ok (.lookupswitch 40 #[(0, 26), (1, 30)], 26) := by decide +kernel
theorem dJ7_hashCode_28 : decode cJ7_hashCode 28 = .ok (.iconst 0, 1) := dk_3 (dk_at dksJ7_hashCode_2 0 rfl rfl)
theorem dJ7_hashCode_29 : decode cJ7_hashCode 29 = .ok (.goto 22, 3) := dk_167 0 22 (dk_at dksJ7_hashCode_2 1 rfl rfl)
theorem dJ7_hashCode_32 : decode cJ7_hashCode 32 = .ok (.aload_n 0, 1) := dk_42 (dk_at dksJ7_hashCode_2 4 rfl rfl)
theorem dJ7_hashCode_33 : decode cJ7_hashCode 33 = .ok (.iconst 0, 1) := dk_3 (dk_at dksJ7_hashCode_2 5 rfl rfl)
theorem dJ7_hashCode_34 : decode cJ7_hashCode 34 = .ok (.baload, 1) := dk_51 (dk_at dksJ7_hashCode_2 6 rfl rfl)
theorem dJ7_hashCode_35 : decode cJ7_hashCode 35 = .ok (.sipush 255, 3) := dk_17 0 255 (dk_at dksJ7_hashCode_2 7 rfl rfl)
theorem dJ7_hashCode_38 : decode cJ7_hashCode 38 = .ok (.iand, 1) := dk_126 (dk_at dksJ7_hashCode_2 10 rfl rfl)
theorem dJ7_hashCode_39 : decode cJ7_hashCode 39 = .ok (.goto 12, 3) := dk_167 0 12 (dk_at dksJ7_hashCode_2 11 rfl rfl)
theorem dJ7_hashCode_42 : decode cJ7_hashCode 42 = .ok (.aload_n 0, 1) := dk_42 (dk_at dksJ7_hashCode_2 14 rfl rfl)
theorem dJ7_hashCode_43 : decode cJ7_hashCode 43 = .ok (.iconst 0, 1) := dk_3 (dk_at dksJ7_hashCode_2 15 rfl rfl)
theorem dJ7_hashCode_44 : decode cJ7_hashCode 44 = .ok (.aload_n 0, 1) := dk_42 (dk_at dksJ7_hashCode_2 16 rfl rfl)
theorem dJ7_hashCode_45 : decode cJ7_hashCode 45 = .ok (.arraylength, 1) := dk_190 (dk_at dksJ7_hashCode_2 17 rfl rfl)
theorem dJ7_hashCode_46 : decode cJ7_hashCode 46 = .ok (.iconst 0, 1) := dk_3 (dk_at dksJ7_hashCode_2 18 rfl rfl)
theorem dJ7_hashCode_47 : decode cJ7_hashCode 47 = .ok (.iconst 4, 1) := dk_7 (dk_at dksJ7_hashCode_2 19 rfl rfl)
theorem dJ7_hashCode_48 : decode cJ7_hashCode 48 = .ok (.invokestatic 84, 3) := dk_184 0 84 (dk_at dksJ7_hashCode_2 20 rfl rfl)
theorem dJ7_hashCode_51 : decode cJ7_hashCode 51 = .ok (.ireturn, 1) := dk_172 (dk_at dksJ7_hashCode_2 23 rfl rfl)
def dkwJ7_equals_1 : List UInt8 := [3, 172, 132, 2, 1, 167, 255, 236, 4, 172, 3, 172]
abbrev dktJ7_equals_1 : List UInt8 := dkwJ7_equals_1 ++ []
def dkwJ7_equals_0 : List UInt8 := [42, 190, 43, 190, 160, 0, 30, 3, 61, 28, 42, 190, 162, 0, 20, 42, 28, 51, 43, 28, 51, 159, 0, 5]
abbrev dktJ7_equals_0 : List UInt8 := dkwJ7_equals_0 ++ dktJ7_equals_1
theorem dksJ7_equals_0 : cJ7_equals.data.toList.drop 0 = dktJ7_equals_0 := by decide +kernel
theorem dksJ7_equals_1 : cJ7_equals.data.toList.drop 24 = dktJ7_equals_1 := dk_seg dksJ7_equals_0 24 rfl rfl
theorem dJ7_equals_0 : decode cJ7_equals 0 = .ok (.aload_n 0, 1) := dk_42 (dk_at dksJ7_equals_0 0 rfl rfl)
theorem dJ7_equals_1 : decode cJ7_equals 1 = .ok (.arraylength, 1) := dk_190 (dk_at dksJ7_equals_0 1 rfl rfl)
theorem dJ7_equals_2 : decode cJ7_equals 2 = .ok (.aload_n 1, 1) := dk_43 (dk_at dksJ7_equals_0 2 rfl rfl)
theorem dJ7_equals_3 : decode cJ7_equals 3 = .ok (.arraylength, 1) := dk_190 (dk_at dksJ7_equals_0 3 rfl rfl)
theorem dJ7_equals_4 : decode cJ7_equals 4 = .ok (.if_icmp .ne 30, 3) := dk_160 0 30 (dk_at dksJ7_equals_0 4 rfl rfl)
theorem dJ7_equals_7 : decode cJ7_equals 7 = .ok (.iconst 0, 1) := dk_3 (dk_at dksJ7_equals_0 7 rfl rfl)
theorem dJ7_equals_8 : decode cJ7_equals 8 = .ok (.istore_n 2, 1) := dk_61 (dk_at dksJ7_equals_0 8 rfl rfl)
theorem dJ7_equals_9 : decode cJ7_equals 9 = .ok (.iload_n 2, 1) := dk_28 (dk_at dksJ7_equals_0 9 rfl rfl)
theorem dJ7_equals_10 : decode cJ7_equals 10 = .ok (.aload_n 0, 1) := dk_42 (dk_at dksJ7_equals_0 10 rfl rfl)
theorem dJ7_equals_11 : decode cJ7_equals 11 = .ok (.arraylength, 1) := dk_190 (dk_at dksJ7_equals_0 11 rfl rfl)
theorem dJ7_equals_12 : decode cJ7_equals 12 = .ok (.if_icmp .ge 20, 3) := dk_162 0 20 (dk_at dksJ7_equals_0 12 rfl rfl)
theorem dJ7_equals_15 : decode cJ7_equals 15 = .ok (.aload_n 0, 1) := dk_42 (dk_at dksJ7_equals_0 15 rfl rfl)
theorem dJ7_equals_16 : decode cJ7_equals 16 = .ok (.iload_n 2, 1) := dk_28 (dk_at dksJ7_equals_0 16 rfl rfl)
theorem dJ7_equals_17 : decode cJ7_equals 17 = .ok (.baload, 1) := dk_51 (dk_at dksJ7_equals_0 17 rfl rfl)
theorem dJ7_equals_18 : decode cJ7_equals 18 = .ok (.aload_n 1, 1) := dk_43 (dk_at dksJ7_equals_0 18 rfl rfl)
theorem dJ7_equals_19 : decode cJ7_equals 19 = .ok (.iload_n 2, 1) := dk_28 (dk_at dksJ7_equals_0 19 rfl rfl)
theorem dJ7_equals_20 : decode cJ7_equals 20 = .ok (.baload, 1) := dk_51 (dk_at dksJ7_equals_0 20 rfl rfl)
theorem dJ7_equals_21 : decode cJ7_equals 21 = .ok (.if_icmp .eq 5, 3) := dk_159 0 5 (dk_at dksJ7_equals_0 21 rfl rfl)
theorem dJ7_equals_24 : decode cJ7_equals 24 = .ok (.iconst 0, 1) := dk_3 (dk_at dksJ7_equals_1 0 rfl rfl)
theorem dJ7_equals_25 : decode cJ7_equals 25 = .ok (.ireturn, 1) := dk_172 (dk_at dksJ7_equals_1 1 rfl rfl)
theorem dJ7_equals_26 : decode cJ7_equals 26 = .ok (.iinc 2 1, 3) := dk_132 2 1 (dk_at dksJ7_equals_1 2 rfl rfl)
theorem dJ7_equals_29 : decode cJ7_equals 29 = .ok (.goto (-20), 3) := dk_167 255 236 (dk_at dksJ7_equals_1 5 rfl rfl)
theorem dJ7_equals_32 : decode cJ7_equals 32 = .ok (.iconst 1, 1) := dk_4 (dk_at dksJ7_equals_1 8 rfl rfl)
theorem dJ7_equals_33 : decode cJ7_equals 33 = .ok (.ireturn, 1) := dk_172 (dk_at dksJ7_equals_1 9 rfl rfl)
theorem dJ7_equals_34 : decode cJ7_equals 34 = .ok (.iconst 0, 1) := dk_3 (dk_at dksJ7_equals_1 10 rfl rfl)
theorem dJ7_equals_35 : decode cJ7_equals 35 = .ok (.ireturn, 1) := dk_172 (dk_at dksJ7_equals_1 11 rfl rfl)
def dkwJ7_charAt_0 : List UInt8 := [27, 42, 190, 184, 0, 9, 42, 27, 51, 17, 0, 255, 126, 146, 172]
abbrev dktJ7_charAt_0 : List UInt8 := dkwJ7_charAt_0 ++ []
theorem dksJ7_charAt_0 : cJ7_charAt.data.toList.drop 0 = dktJ7_charAt_0 := by decide +kernel
theorem dJ7_charAt_0 : decode cJ7_charAt 0 = .ok (.iload_n 1, 1) := dk_27 (dk_at dksJ7_charAt_0 0 rfl rfl)
theorem dJ7_charAt_1 : decode cJ7_charAt 1 = .ok (.aload_n 0, 1) := dk_42 (dk_at dksJ7_charAt_0 1 rfl rfl)
theorem dJ7_charAt_2 : decode cJ7_charAt 2 = .ok (.arraylength, 1) := dk_190 (dk_at dksJ7_charAt_0 2 rfl rfl)
theorem dJ7_charAt_3 : decode cJ7_charAt 3 = .ok (.invokestatic 9, 3) := dk_184 0 9 (dk_at dksJ7_charAt_0 3 rfl rfl)
theorem dJ7_charAt_6 : decode cJ7_charAt 6 = .ok (.aload_n 0, 1) := dk_42 (dk_at dksJ7_charAt_0 6 rfl rfl)
theorem dJ7_charAt_7 : decode cJ7_charAt 7 = .ok (.iload_n 1, 1) := dk_27 (dk_at dksJ7_charAt_0 7 rfl rfl)
theorem dJ7_charAt_8 : decode cJ7_charAt 8 = .ok (.baload, 1) := dk_51 (dk_at dksJ7_charAt_0 8 rfl rfl)
theorem dJ7_charAt_9 : decode cJ7_charAt 9 = .ok (.sipush 255, 3) := dk_17 0 255 (dk_at dksJ7_charAt_0 9 rfl rfl)
theorem dJ7_charAt_12 : decode cJ7_charAt 12 = .ok (.iand, 1) := dk_126 (dk_at dksJ7_charAt_0 12 rfl rfl)
theorem dJ7_charAt_13 : decode cJ7_charAt 13 = .ok (.i2c, 1) := dk_146 (dk_at dksJ7_charAt_0 13 rfl rfl)
theorem dJ7_charAt_14 : decode cJ7_charAt 14 = .ok (.ireturn, 1) := dk_172 (dk_at dksJ7_charAt_0 14 rfl rfl)
def dkwJ8_checkFromIndexSize_1 : List UInt8 := [172]
abbrev dktJ8_checkFromIndexSize_1 : List UInt8 := dkwJ8_checkFromIndexSize_1 ++ []
def dkwJ8_checkFromIndexSize_0 : List UInt8 := [28, 26, 128, 27, 128, 155, 0, 10, 27, 28, 26, 100, 164, 0, 11, 45, 26, 27, 28, 184, 0, 103, 191, 26]
abbrev dktJ8_checkFromIndexSize_0 : List UInt8 := dkwJ8_checkFromIndexSize_0 ++ dktJ8_checkFromIndexSize_1
theorem dksJ8_checkFromIndexSize_0 : cJ8_checkFromIndexSize.data.toList.drop 0 = dktJ8_checkFromIndexSize_0 := by decide +kernel
theorem dksJ8_checkFromIndexSize_1 : cJ8_checkFromIndexSize.data.toList.drop 24 = dktJ8_checkFromIndexSize_1 := dk_seg dksJ8_checkFromIndexSize_0 24 rfl rfl
theorem dJ8_checkFromIndexSize_0 : decode cJ8_checkFromIndexSize 0 = .ok (.iload_n 2, 1) := dk_28 (dk_at dksJ8_checkFromIndexSize_0 0 rfl rfl)
theorem dJ8_checkFromIndexSize_1 : decode cJ8_checkFromIndexSize 1 = .ok (.iload_n 0, 1) := dk_26 (dk_at dksJ8_checkFromIndexSize_0 1 rfl rfl)
theorem dJ8_checkFromIndexSize_2 : decode cJ8_checkFromIndexSize 2 = .ok (.ior, 1) := dk_128 (dk_at dksJ8_checkFromIndexSize_0 2 rfl rfl)
theorem dJ8_checkFromIndexSize_3 : decode cJ8_checkFromIndexSize 3 = .ok (.iload_n 1, 1) := dk_27 (dk_at dksJ8_checkFromIndexSize_0 3 rfl rfl)
theorem dJ8_checkFromIndexSize_4 : decode cJ8_checkFromIndexSize 4 = .ok (.ior, 1) := dk_128 (dk_at dksJ8_checkFromIndexSize_0 4 rfl rfl)
theorem dJ8_checkFromIndexSize_5 : decode cJ8_checkFromIndexSize 5 = .ok (.ifCond .lt 10, 3) := dk_155 0 10 (dk_at dksJ8_checkFromIndexSize_0 5 rfl rfl)
theorem dJ8_checkFromIndexSize_8 : decode cJ8_checkFromIndexSize 8 = .ok (.iload_n 1, 1) := dk_27 (dk_at dksJ8_checkFromIndexSize_0 8 rfl rfl)
theorem dJ8_checkFromIndexSize_9 : decode cJ8_checkFromIndexSize 9 = .ok (.iload_n 2, 1) := dk_28 (dk_at dksJ8_checkFromIndexSize_0 9 rfl rfl)
theorem dJ8_checkFromIndexSize_10 : decode cJ8_checkFromIndexSize 10 = .ok (.iload_n 0, 1) := dk_26 (dk_at dksJ8_checkFromIndexSize_0 10 rfl rfl)
theorem dJ8_checkFromIndexSize_11 : decode cJ8_checkFromIndexSize 11 = .ok (.isub, 1) := dk_100 (dk_at dksJ8_checkFromIndexSize_0 11 rfl rfl)
theorem dJ8_checkFromIndexSize_12 : decode cJ8_checkFromIndexSize 12 = .ok (.if_icmp .le 11, 3) := dk_164 0 11 (dk_at dksJ8_checkFromIndexSize_0 12 rfl rfl)
theorem dJ8_checkFromIndexSize_15 : decode cJ8_checkFromIndexSize 15 = .ok (.aload_n 3, 1) := dk_45 (dk_at dksJ8_checkFromIndexSize_0 15 rfl rfl)
theorem dJ8_checkFromIndexSize_16 : decode cJ8_checkFromIndexSize 16 = .ok (.iload_n 0, 1) := dk_26 (dk_at dksJ8_checkFromIndexSize_0 16 rfl rfl)
theorem dJ8_checkFromIndexSize_17 : decode cJ8_checkFromIndexSize 17 = .ok (.iload_n 1, 1) := dk_27 (dk_at dksJ8_checkFromIndexSize_0 17 rfl rfl)
theorem dJ8_checkFromIndexSize_18 : decode cJ8_checkFromIndexSize 18 = .ok (.iload_n 2, 1) := dk_28 (dk_at dksJ8_checkFromIndexSize_0 18 rfl rfl)
theorem dJ8_checkFromIndexSize_19 : decode cJ8_checkFromIndexSize 19 = .ok (.invokestatic 103, 3) := dk_184 0 103 (dk_at dksJ8_checkFromIndexSize_0 19 rfl rfl)
theorem dJ8_checkFromIndexSize_22 : decode cJ8_checkFromIndexSize 22 = .ok (.athrow, 1) := dk_191 (dk_at dksJ8_checkFromIndexSize_0 22 rfl rfl)
theorem dJ8_checkFromIndexSize_23 : decode cJ8_checkFromIndexSize 23 = .ok (.iload_n 0, 1) := dk_26 (dk_at dksJ8_checkFromIndexSize_0 23 rfl rfl)
theorem dJ8_checkFromIndexSize_24 : decode cJ8_checkFromIndexSize 24 = .ok (.ireturn, 1) := dk_172 (dk_at dksJ8_checkFromIndexSize_1 0 rfl rfl)
def dkwJ8_checkIndex_0 : List UInt8 := [26, 155, 0, 8, 26, 27, 161, 0, 10, 44, 26, 27, 184, 0, 95, 191, 26, 172]
abbrev dktJ8_checkIndex_0 : List UInt8 := dkwJ8_checkIndex_0 ++ []
theorem dksJ8_checkIndex_0 : cJ8_checkIndex.data.toList.drop 0 = dktJ8_checkIndex_0 := by decide +kernel
theorem dJ8_checkIndex_0 : decode cJ8_checkIndex 0 = .ok (.iload_n 0, 1) := dk_26 (dk_at dksJ8_checkIndex_0 0 rfl rfl)
theorem dJ8_checkIndex_1 : decode cJ8_checkIndex 1 = .ok (.ifCond .lt 8, 3) := dk_155 0 8 (dk_at dksJ8_checkIndex_0 1 rfl rfl)
theorem dJ8_checkIndex_4 : decode cJ8_checkIndex 4 = .ok (.iload_n 0, 1) := dk_26 (dk_at dksJ8_checkIndex_0 4 rfl rfl)
theorem dJ8_checkIndex_5 : decode cJ8_checkIndex 5 = .ok (.iload_n 1, 1) := dk_27 (dk_at dksJ8_checkIndex_0 5 rfl rfl)
theorem dJ8_checkIndex_6 : decode cJ8_checkIndex 6 = .ok (.if_icmp .lt 10, 3) := dk_161 0 10 (dk_at dksJ8_checkIndex_0 6 rfl rfl)
theorem dJ8_checkIndex_9 : decode cJ8_checkIndex 9 = .ok (.aload_n 2, 1) := dk_44 (dk_at dksJ8_checkIndex_0 9 rfl rfl)
theorem dJ8_checkIndex_10 : decode cJ8_checkIndex 10 = .ok (.iload_n 0, 1) := dk_26 (dk_at dksJ8_checkIndex_0 10 rfl rfl)
theorem dJ8_checkIndex_11 : decode cJ8_checkIndex 11 = .ok (.iload_n 1, 1) := dk_27 (dk_at dksJ8_checkIndex_0 11 rfl rfl)
theorem dJ8_checkIndex_12 : decode cJ8_checkIndex 12 = .ok (.invokestatic 95, 3) := dk_184 0 95 (dk_at dksJ8_checkIndex_0 12 rfl rfl)
theorem dJ8_checkIndex_15 : decode cJ8_checkIndex 15 = .ok (.athrow, 1) := dk_191 (dk_at dksJ8_checkIndex_0 15 rfl rfl)
theorem dJ8_checkIndex_16 : decode cJ8_checkIndex 16 = .ok (.iload_n 0, 1) := dk_26 (dk_at dksJ8_checkIndex_0 16 rfl rfl)
theorem dJ8_checkIndex_17 : decode cJ8_checkIndex 17 = .ok (.ireturn, 1) := dk_172 (dk_at dksJ8_checkIndex_0 17 rfl rfl)
def dkwJ8_checkFromToIndex_0 : List UInt8 := [26, 155, 0, 13, 26, 27, 163, 0, 8, 27, 28, 164, 0, 11, 45, 26, 27, 28, 184, 0, 99, 191, 26, 172]
abbrev dktJ8_checkFromToIndex_0 : List UInt8 := dkwJ8_checkFromToIndex_0 ++ []
theorem dksJ8_checkFromToIndex_0 : cJ8_checkFromToIndex.data.toList.drop 0 = dktJ8_checkFromToIndex_0 := by decide +kernel
theorem dJ8_checkFromToIndex_0 : decode cJ8_checkFromToIndex 0 = .ok (.iload_n 0, 1) := dk_26 (dk_at dksJ8_checkFromToIndex_0 0 rfl rfl)
theorem dJ8_checkFromToIndex_1 : decode cJ8_checkFromToIndex 1 = .ok (.ifCond .lt 13, 3) := dk_155 0 13 (dk_at dksJ8_checkFromToIndex_0 1 rfl rfl)
theorem dJ8_checkFromToIndex_4 : decode cJ8_checkFromToIndex 4 = .ok (.iload_n 0, 1) := dk_26 (dk_at dksJ8_checkFromToIndex_0 4 rfl rfl)
theorem dJ8_checkFromToIndex_5 : decode cJ8_checkFromToIndex 5 = .ok (.iload_n 1, 1) := dk_27 (dk_at dksJ8_checkFromToIndex_0 5 rfl rfl)
theorem dJ8_checkFromToIndex_6 : decode cJ8_checkFromToIndex 6 = .ok (.if_icmp .gt 8, 3) := dk_163 0 8 (dk_at dksJ8_checkFromToIndex_0 6 rfl rfl)
theorem dJ8_checkFromToIndex_9 : decode cJ8_checkFromToIndex 9 = .ok (.iload_n 1, 1) := dk_27 (dk_at dksJ8_checkFromToIndex_0 9 rfl rfl)
theorem dJ8_checkFromToIndex_10 : decode cJ8_checkFromToIndex 10 = .ok (.iload_n 2, 1) := dk_28 (dk_at dksJ8_checkFromToIndex_0 10 rfl rfl)
theorem dJ8_checkFromToIndex_11 : decode cJ8_checkFromToIndex 11 = .ok (.if_icmp .le 11, 3) := dk_164 0 11 (dk_at dksJ8_checkFromToIndex_0 11 rfl rfl)
theorem dJ8_checkFromToIndex_14 : decode cJ8_checkFromToIndex 14 = .ok (.aload_n 3, 1) := dk_45 (dk_at dksJ8_checkFromToIndex_0 14 rfl rfl)
theorem dJ8_checkFromToIndex_15 : decode cJ8_checkFromToIndex 15 = .ok (.iload_n 0, 1) := dk_26 (dk_at dksJ8_checkFromToIndex_0 15 rfl rfl)
theorem dJ8_checkFromToIndex_16 : decode cJ8_checkFromToIndex 16 = .ok (.iload_n 1, 1) := dk_27 (dk_at dksJ8_checkFromToIndex_0 16 rfl rfl)
theorem dJ8_checkFromToIndex_17 : decode cJ8_checkFromToIndex 17 = .ok (.iload_n 2, 1) := dk_28 (dk_at dksJ8_checkFromToIndex_0 17 rfl rfl)
theorem dJ8_checkFromToIndex_18 : decode cJ8_checkFromToIndex 18 = .ok (.invokestatic 99, 3) := dk_184 0 99 (dk_at dksJ8_checkFromToIndex_0 18 rfl rfl)
theorem dJ8_checkFromToIndex_21 : decode cJ8_checkFromToIndex 21 = .ok (.athrow, 1) := dk_191 (dk_at dksJ8_checkFromToIndex_0 21 rfl rfl)
theorem dJ8_checkFromToIndex_22 : decode cJ8_checkFromToIndex 22 = .ok (.iload_n 0, 1) := dk_26 (dk_at dksJ8_checkFromToIndex_0 22 rfl rfl)
theorem dJ8_checkFromToIndex_23 : decode cJ8_checkFromToIndex 23 = .ok (.ireturn, 1) := dk_172 (dk_at dksJ8_checkFromToIndex_0 23 rfl rfl)
def dkwJ9_init_1 : List UInt8 := [182, 0, 27, 87, 177]
abbrev dktJ9_init_1 : List UInt8 := dkwJ9_init_1 ++ []
def dkwJ9_init_0 : List UInt8 := [42, 183, 0, 1, 42, 42, 181, 0, 7, 42, 178, 0, 13, 181, 0, 17, 42, 178, 0, 20, 181, 0, 24, 42]
abbrev dktJ9_init_0 : List UInt8 := dkwJ9_init_0 ++ dktJ9_init_1
theorem dksJ9_init_0 : cJ9_init.data.toList.drop 0 = dktJ9_init_0 := by decide +kernel
theorem dksJ9_init_1 : cJ9_init.data.toList.drop 24 = dktJ9_init_1 := dk_seg dksJ9_init_0 24 rfl rfl
theorem dJ9_init_0 : decode cJ9_init 0 = .ok (.aload_n 0, 1) := dk_42 (dk_at dksJ9_init_0 0 rfl rfl)
theorem dJ9_init_1 : decode cJ9_init 1 = .ok (.invokespecial 1, 3) := dk_183 0 1 (dk_at dksJ9_init_0 1 rfl rfl)
theorem dJ9_init_4 : decode cJ9_init 4 = .ok (.aload_n 0, 1) := dk_42 (dk_at dksJ9_init_0 4 rfl rfl)
theorem dJ9_init_5 : decode cJ9_init 5 = .ok (.aload_n 0, 1) := dk_42 (dk_at dksJ9_init_0 5 rfl rfl)
theorem dJ9_init_6 : decode cJ9_init 6 = .ok (.putfield 7, 3) := dk_181 0 7 (dk_at dksJ9_init_0 6 rfl rfl)
theorem dJ9_init_9 : decode cJ9_init 9 = .ok (.aload_n 0, 1) := dk_42 (dk_at dksJ9_init_0 9 rfl rfl)
theorem dJ9_init_10 : decode cJ9_init 10 = .ok (.getstatic 13, 3) := dk_178 0 13 (dk_at dksJ9_init_0 10 rfl rfl)
theorem dJ9_init_13 : decode cJ9_init 13 = .ok (.putfield 17, 3) := dk_181 0 17 (dk_at dksJ9_init_0 13 rfl rfl)
theorem dJ9_init_16 : decode cJ9_init 16 = .ok (.aload_n 0, 1) := dk_42 (dk_at dksJ9_init_0 16 rfl rfl)
theorem dJ9_init_17 : decode cJ9_init 17 = .ok (.getstatic 20, 3) := dk_178 0 20 (dk_at dksJ9_init_0 17 rfl rfl)
theorem dJ9_init_20 : decode cJ9_init 20 = .ok (.putfield 24, 3) := dk_181 0 24 (dk_at dksJ9_init_0 20 rfl rfl)
theorem dJ9_init_23 : decode cJ9_init 23 = .ok (.aload_n 0, 1) := dk_42 (dk_at dksJ9_init_0 23 rfl rfl)
theorem dJ9_init_24 : decode cJ9_init 24 = .ok (.invokevirtual 27, 3) := dk_182 0 27 (dk_at dksJ9_init_1 0 rfl rfl)
theorem dJ9_init_27 : decode cJ9_init 27 = .ok (.pop, 1) := dk_87 (dk_at dksJ9_init_1 3 rfl rfl)
theorem dJ9_init_28 : decode cJ9_init 28 = .ok (.return_, 1) := dk_177 (dk_at dksJ9_init_1 4 rfl rfl)
def dkwJ9_init_2_2 : List UInt8 := [44, 181, 0, 7, 29, 154, 0, 8, 42, 1, 181, 0, 24, 177]
abbrev dktJ9_init_2_2 : List UInt8 := dkwJ9_init_2_2 ++ []
def dkwJ9_init_2_1 : List UInt8 := [21, 4, 153, 0, 11, 42, 182, 0, 27, 87, 167, 0, 8, 42, 1, 181, 0, 17, 42, 43, 181, 0, 31, 42]
abbrev dktJ9_init_2_1 : List UInt8 := dkwJ9_init_2_1 ++ dktJ9_init_2_2
def dkwJ9_init_2_0 : List UInt8 := [42, 183, 0, 1, 42, 42, 181, 0, 7, 42, 178, 0, 13, 181, 0, 17, 42, 178, 0, 20, 181, 0, 24]
abbrev dktJ9_init_2_0 : List UInt8 := dkwJ9_init_2_0 ++ dktJ9_init_2_1
theorem dksJ9_init_2_0 : cJ9_init_2.data.toList.drop 0 = dktJ9_init_2_0 := by decide +kernel
theorem dksJ9_init_2_1 : cJ9_init_2.data.toList.drop 23 = dktJ9_init_2_1 := dk_seg dksJ9_init_2_0 23 rfl rfl
theorem dksJ9_init_2_2 : cJ9_init_2.data.toList.drop 47 = dktJ9_init_2_2 := dk_seg dksJ9_init_2_1 24 rfl rfl
theorem dJ9_init_2_0 : decode cJ9_init_2 0 = .ok (.aload_n 0, 1) := dk_42 (dk_at dksJ9_init_2_0 0 rfl rfl)
theorem dJ9_init_2_1 : decode cJ9_init_2 1 = .ok (.invokespecial 1, 3) := dk_183 0 1 (dk_at dksJ9_init_2_0 1 rfl rfl)
theorem dJ9_init_2_4 : decode cJ9_init_2 4 = .ok (.aload_n 0, 1) := dk_42 (dk_at dksJ9_init_2_0 4 rfl rfl)
theorem dJ9_init_2_5 : decode cJ9_init_2 5 = .ok (.aload_n 0, 1) := dk_42 (dk_at dksJ9_init_2_0 5 rfl rfl)
theorem dJ9_init_2_6 : decode cJ9_init_2 6 = .ok (.putfield 7, 3) := dk_181 0 7 (dk_at dksJ9_init_2_0 6 rfl rfl)
theorem dJ9_init_2_9 : decode cJ9_init_2 9 = .ok (.aload_n 0, 1) := dk_42 (dk_at dksJ9_init_2_0 9 rfl rfl)
theorem dJ9_init_2_10 : decode cJ9_init_2 10 = .ok (.getstatic 13, 3) := dk_178 0 13 (dk_at dksJ9_init_2_0 10 rfl rfl)
theorem dJ9_init_2_13 : decode cJ9_init_2 13 = .ok (.putfield 17, 3) := dk_181 0 17 (dk_at dksJ9_init_2_0 13 rfl rfl)
theorem dJ9_init_2_16 : decode cJ9_init_2 16 = .ok (.aload_n 0, 1) := dk_42 (dk_at dksJ9_init_2_0 16 rfl rfl)
theorem dJ9_init_2_17 : decode cJ9_init_2 17 = .ok (.getstatic 20, 3) := dk_178 0 20 (dk_at dksJ9_init_2_0 17 rfl rfl)
theorem dJ9_init_2_20 : decode cJ9_init_2 20 = .ok (.putfield 24, 3) := dk_181 0 24 (dk_at dksJ9_init_2_0 20 rfl rfl)
theorem dJ9_init_2_23 : decode cJ9_init_2 23 = .ok (.iload 4, 2) := dk_21 4 (dk_at dksJ9_init_2_1 0 rfl rfl)
theorem dJ9_init_2_25 : decode cJ9_init_2 25 = .ok (.ifCond .eq 11, 3) := dk_153 0 11 (dk_at dksJ9_init_2_1 2 rfl rfl)
theorem dJ9_init_2_28 : decode cJ9_init_2 28 = .ok (.aload_n 0, 1) := dk_42 (dk_at dksJ9_init_2_1 5 rfl rfl)
theorem dJ9_init_2_29 : decode cJ9_init_2 29 = .ok (.invokevirtual 27, 3) := dk_182 0 27 (dk_at dksJ9_init_2_1 6 rfl rfl)
theorem dJ9_init_2_32 : decode cJ9_init_2 32 = .ok (.pop, 1) := dk_87 (dk_at dksJ9_init_2_1 9 rfl rfl)
theorem dJ9_init_2_33 : decode cJ9_init_2 33 = .ok (.goto 8, 3) := dk_167 0 8 (dk_at dksJ9_init_2_1 10 rfl rfl)
theorem dJ9_init_2_36 : decode cJ9_init_2 36 = .ok (.aload_n 0, 1) := dk_42 (dk_at dksJ9_init_2_1 13 rfl rfl)
theorem dJ9_init_2_37 : decode cJ9_init_2 37 = .ok (.aconst_null, 1) := dk_1 (dk_at dksJ9_init_2_1 14 rfl rfl)
theorem dJ9_init_2_38 : decode cJ9_init_2 38 = .ok (.putfield 17, 3) := dk_181 0 17 (dk_at dksJ9_init_2_1 15 rfl rfl)
theorem dJ9_init_2_41 : decode cJ9_init_2 41 = .ok (.aload_n 0, 1) := dk_42 (dk_at dksJ9_init_2_1 18 rfl rfl)
theorem dJ9_init_2_42 : decode cJ9_init_2 42 = .ok (.aload_n 1, 1) := dk_43 (dk_at dksJ9_init_2_1 19 rfl rfl)
theorem dJ9_init_2_43 : decode cJ9_init_2 43 = .ok (.putfield 31, 3) := dk_181 0 31 (dk_at dksJ9_init_2_1 20 rfl rfl)
theorem dJ9_init_2_46 : decode cJ9_init_2 46 = .ok (.aload_n 0, 1) := dk_42 (dk_at dksJ9_init_2_1 23 rfl rfl)
theorem dJ9_init_2_47 : decode cJ9_init_2 47 = .ok (.aload_n 2, 1) := dk_44 (dk_at dksJ9_init_2_2 0 rfl rfl)
theorem dJ9_init_2_48 : decode cJ9_init_2 48 = .ok (.putfield 7, 3) := dk_181 0 7 (dk_at dksJ9_init_2_2 1 rfl rfl)
theorem dJ9_init_2_51 : decode cJ9_init_2 51 = .ok (.iload_n 3, 1) := dk_29 (dk_at dksJ9_init_2_2 4 rfl rfl)
theorem dJ9_init_2_52 : decode cJ9_init_2 52 = .ok (.ifCond .ne 8, 3) := dk_154 0 8 (dk_at dksJ9_init_2_2 5 rfl rfl)
theorem dJ9_init_2_55 : decode cJ9_init_2 55 = .ok (.aload_n 0, 1) := dk_42 (dk_at dksJ9_init_2_2 8 rfl rfl)
theorem dJ9_init_2_56 : decode cJ9_init_2 56 = .ok (.aconst_null, 1) := dk_1 (dk_at dksJ9_init_2_2 9 rfl rfl)
theorem dJ9_init_2_57 : decode cJ9_init_2 57 = .ok (.putfield 24, 3) := dk_181 0 24 (dk_at dksJ9_init_2_2 10 rfl rfl)
theorem dJ9_init_2_60 : decode cJ9_init_2 60 = .ok (.return_, 1) := dk_177 (dk_at dksJ9_init_2_2 13 rfl rfl)
def dkwJ9_toString_1 : List UInt8 := [43, 182, 0, 49, 18, 81, 182, 0, 49, 44, 182, 0, 49, 182, 0, 60, 167, 0, 4, 43, 176]
abbrev dktJ9_toString_1 : List UInt8 := dkwJ9_toString_1 ++ []
def dkwJ9_toString_0 : List UInt8 := [42, 182, 0, 69, 182, 0, 73, 76, 42, 182, 0, 78, 77, 44, 198, 0, 29, 187, 0, 44, 89, 183, 0, 46]
abbrev dktJ9_toString_0 : List UInt8 := dkwJ9_toString_0 ++ dktJ9_toString_1
theorem dksJ9_toString_0 : cJ9_toString.data.toList.drop 0 = dktJ9_toString_0 := by decide +kernel
theorem dksJ9_toString_1 : cJ9_toString.data.toList.drop 24 = dktJ9_toString_1 := dk_seg dksJ9_toString_0 24 rfl rfl
theorem dJ9_toString_0 : decode cJ9_toString 0 = .ok (.aload_n 0, 1) := dk_42 (dk_at dksJ9_toString_0 0 rfl rfl)
theorem dJ9_toString_1 : decode cJ9_toString 1 = .ok (.invokevirtual 69, 3) := dk_182 0 69 (dk_at dksJ9_toString_0 1 rfl rfl)
theorem dJ9_toString_4 : decode cJ9_toString 4 = .ok (.invokevirtual 73, 3) := dk_182 0 73 (dk_at dksJ9_toString_0 4 rfl rfl)
theorem dJ9_toString_7 : decode cJ9_toString 7 = .ok (.astore_n 1, 1) := dk_76 (dk_at dksJ9_toString_0 7 rfl rfl)
theorem dJ9_toString_8 : decode cJ9_toString 8 = .ok (.aload_n 0, 1) := dk_42 (dk_at dksJ9_toString_0 8 rfl rfl)
theorem dJ9_toString_9 : decode cJ9_toString 9 = .ok (.invokevirtual 78, 3) := dk_182 0 78 (dk_at dksJ9_toString_0 9 rfl rfl)
theorem dJ9_toString_12 : decode cJ9_toString 12 = .ok (.astore_n 2, 1) := dk_77 (dk_at dksJ9_toString_0 12 rfl rfl)
theorem dJ9_toString_13 : decode cJ9_toString 13 = .ok (.aload_n 2, 1) := dk_44 (dk_at dksJ9_toString_0 13 rfl rfl)
theorem dJ9_toString_14 : decode cJ9_toString 14 = .ok (.ifnull 29, 3) := dk_198 0 29 (dk_at dksJ9_toString_0 14 rfl rfl)
theorem dJ9_toString_17 : decode cJ9_toString 17 = .ok (.new 44, 3) := dk_187 0 44 (dk_at dksJ9_toString_0 17 rfl rfl)
theorem dJ9_toString_20 : decode cJ9_toString 20 = .ok (.dup, 1) := dk_89 (dk_at dksJ9_toString_0 20 rfl rfl)
theorem dJ9_toString_21 : decode cJ9_toString 21 = .ok (.invokespecial 46, 3) := dk_183 0 46 (dk_at dksJ9_toString_0 21 rfl rfl)
theorem dJ9_toString_24 : decode cJ9_toString 24 = .ok (.aload_n 1, 1) := dk_43 (dk_at dksJ9_toString_1 0 rfl rfl)
theorem dJ9_toString_25 : decode cJ9_toString 25 = .ok (.invokevirtual 49, 3) := dk_182 0 49 (dk_at dksJ9_toString_1 1 rfl rfl)
theorem dJ9_toString_28 : decode cJ9_toString 28 = .ok (.ldc 81, 2) := dk_18 81 (dk_at dksJ9_toString_1 4 rfl rfl)
theorem dJ9_toString_30 : decode cJ9_toString 30 = .ok (.invokevirtual 49, 3) := dk_182 0 49 (dk_at dksJ9_toString_1 6 rfl rfl)
theorem dJ9_toString_33 : decode cJ9_toString 33 = .ok (.aload_n 2, 1) := dk_44 (dk_at dksJ9_toString_1 9 rfl rfl)
theorem dJ9_toString_34 : decode cJ9_toString 34 = .ok (.invokevirtual 49, 3) := dk_182 0 49 (dk_at dksJ9_toString_1 10 rfl rfl)
theorem dJ9_toString_37 : decode cJ9_toString 37 = .ok (.invokevirtual 60, 3) := dk_182 0 60 (dk_at dksJ9_toString_1 13 rfl rfl)
theorem dJ9_toString_40 : decode cJ9_toString 40 = .ok (.goto 4, 3) := dk_167 0 4 (dk_at dksJ9_toString_1 16 rfl rfl)
theorem dJ9_toString_43 : decode cJ9_toString 43 = .ok (.aload_n 1, 1) := dk_43 (dk_at dksJ9_toString_1 19 rfl rfl)
theorem dJ9_toString_44 : decode cJ9_toString 44 = .ok (.areturn, 1) := dk_176 (dk_at dksJ9_toString_1 20 rfl rfl)
theorem dJ9_getLocalizedMessage_0 : decode cJ9_getLocalizedMessage 0 = .ok (.aload_n 0, 1) := by decide +kernel
theorem dJ9_getLocalizedMessage_1 : decode cJ9_getLocalizedMessage 1 = .ok (.invokevirtual 39, 3) := by decide +kernel
theorem dJ9_getLocalizedMessage_4 : decode cJ9_getLocalizedMessage 4 = .ok (.areturn, 1) := by decide +kernel
theorem dJ9_getMessage_0 : decode cJ9_getMessage 0 = .ok (.aload_n 0, 1) := by decide +kernel
theorem dJ9_getMessage_1 : decode cJ9_getMessage 1 = .ok (.getfield 31, 3) := by decide +kernel
theorem dJ9_getMessage_4 : decode cJ9_getMessage 4 = .ok (.areturn, 1) := by decide +kernel
def dkwJ10_init_0 : List UInt8 := [42, 43, 44, 29, 21, 4, 183, 0, 16, 177]
abbrev dktJ10_init_0 : List UInt8 := dkwJ10_init_0 ++ []
theorem dksJ10_init_0 : cJ10_init.data.toList.drop 0 = dktJ10_init_0 := by decide +kernel
theorem dJ10_init_0 : decode cJ10_init 0 = .ok (.aload_n 0, 1) := dk_42 (dk_at dksJ10_init_0 0 rfl rfl)
theorem dJ10_init_1 : decode cJ10_init 1 = .ok (.aload_n 1, 1) := dk_43 (dk_at dksJ10_init_0 1 rfl rfl)
theorem dJ10_init_2 : decode cJ10_init 2 = .ok (.aload_n 2, 1) := dk_44 (dk_at dksJ10_init_0 2 rfl rfl)
theorem dJ10_init_3 : decode cJ10_init 3 = .ok (.iload_n 3, 1) := dk_29 (dk_at dksJ10_init_0 3 rfl rfl)
theorem dJ10_init_4 : decode cJ10_init 4 = .ok (.iload 4, 2) := dk_21 4 (dk_at dksJ10_init_0 4 rfl rfl)
theorem dJ10_init_6 : decode cJ10_init 6 = .ok (.invokespecial 16, 3) := dk_183 0 16 (dk_at dksJ10_init_0 6 rfl rfl)
theorem dJ10_init_9 : decode cJ10_init 9 = .ok (.return_, 1) := dk_177 (dk_at dksJ10_init_0 9 rfl rfl)
theorem dJ10_init_2_0 : decode cJ10_init_2 0 = .ok (.aload_n 0, 1) := by decide +kernel
theorem dJ10_init_2_1 : decode cJ10_init_2 1 = .ok (.invokespecial 1, 3) := by decide +kernel
theorem dJ10_init_2_4 : decode cJ10_init_2 4 = .ok (.return_, 1) := by decide +kernel
theorem dJ11_init_0 : decode cJ11_init 0 = .ok (.aload_n 0, 1) := by decide +kernel
theorem dJ11_init_1 : decode cJ11_init 1 = .ok (.invokespecial 1, 3) := by decide +kernel
theorem dJ11_init_4 : decode cJ11_init 4 = .ok (.return_, 1) := by decide +kernel
theorem dJ12_init_0 : decode cJ12_init 0 = .ok (.aload_n 0, 1) := by decide +kernel
theorem dJ12_init_1 : decode cJ12_init 1 = .ok (.invokespecial 1, 3) := by decide +kernel
theorem dJ12_init_4 : decode cJ12_init 4 = .ok (.return_, 1) := by decide +kernel
def dkwJ13_stringSize_1 : List UInt8 := [164, 0, 7, 29, 27, 96, 172, 16, 10, 28, 104, 61, 132, 3, 1, 167, 255, 233, 16, 10, 27, 96, 172]
abbrev dktJ13_stringSize_1 : List UInt8 := dkwJ13_stringSize_1 ++ []
def dkwJ13_stringSize_0 : List UInt8 := [4, 60, 26, 155, 0, 8, 3, 60, 26, 116, 59, 16, 246, 61, 4, 62, 29, 16, 10, 162, 0, 23, 26, 28]
abbrev dktJ13_stringSize_0 : List UInt8 := dkwJ13_stringSize_0 ++ dktJ13_stringSize_1
theorem dksJ13_stringSize_0 : cJ13_stringSize.data.toList.drop 0 = dktJ13_stringSize_0 := by decide +kernel
theorem dksJ13_stringSize_1 : cJ13_stringSize.data.toList.drop 24 = dktJ13_stringSize_1 := dk_seg dksJ13_stringSize_0 24 rfl rfl
theorem dJ13_stringSize_0 : decode cJ13_stringSize 0 = .ok (.iconst 1, 1) := dk_4 (dk_at dksJ13_stringSize_0 0 rfl rfl)
theorem dJ13_stringSize_1 : decode cJ13_stringSize 1 = .ok (.istore_n 1, 1) := dk_60 (dk_at dksJ13_stringSize_0 1 rfl rfl)
theorem dJ13_stringSize_2 : decode cJ13_stringSize 2 = .ok (.iload_n 0, 1) := dk_26 (dk_at dksJ13_stringSize_0 2 rfl rfl)
theorem dJ13_stringSize_3 : decode cJ13_stringSize 3 = .ok (.ifCond .lt 8, 3) := dk_155 0 8 (dk_at dksJ13_stringSize_0 3 rfl rfl)
theorem dJ13_stringSize_6 : decode cJ13_stringSize 6 = .ok (.iconst 0, 1) := dk_3 (dk_at dksJ13_stringSize_0 6 rfl rfl)
theorem dJ13_stringSize_7 : decode cJ13_stringSize 7 = .ok (.istore_n 1, 1) := dk_60 (dk_at dksJ13_stringSize_0 7 rfl rfl)
theorem dJ13_stringSize_8 : decode cJ13_stringSize 8 = .ok (.iload_n 0, 1) := dk_26 (dk_at dksJ13_stringSize_0 8 rfl rfl)
theorem dJ13_stringSize_9 : decode cJ13_stringSize 9 = .ok (.ineg, 1) := dk_116 (dk_at dksJ13_stringSize_0 9 rfl rfl)
theorem dJ13_stringSize_10 : decode cJ13_stringSize 10 = .ok (.istore_n 0, 1) := dk_59 (dk_at dksJ13_stringSize_0 10 rfl rfl)
theorem dJ13_stringSize_11 : decode cJ13_stringSize 11 = .ok (.bipush (-10), 2) := dk_16 246 (dk_at dksJ13_stringSize_0 11 rfl rfl)
theorem dJ13_stringSize_13 : decode cJ13_stringSize 13 = .ok (.istore_n 2, 1) := dk_61 (dk_at dksJ13_stringSize_0 13 rfl rfl)
theorem dJ13_stringSize_14 : decode cJ13_stringSize 14 = .ok (.iconst 1, 1) := dk_4 (dk_at dksJ13_stringSize_0 14 rfl rfl)
theorem dJ13_stringSize_15 : decode cJ13_stringSize 15 = .ok (.istore_n 3, 1) := dk_62 (dk_at dksJ13_stringSize_0 15 rfl rfl)
theorem dJ13_stringSize_16 : decode cJ13_stringSize 16 = .ok (.iload_n 3, 1) := dk_29 (dk_at dksJ13_stringSize_0 16 rfl rfl)
theorem dJ13_stringSize_17 : decode cJ13_stringSize 17 = .ok (.bipush 10, 2) := dk_16 10 (dk_at dksJ13_stringSize_0 17 rfl rfl)
theorem dJ13_stringSize_19 : decode cJ13_stringSize 19 = .ok (.if_icmp .ge 23, 3) := dk_162 0 23 (dk_at dksJ13_stringSize_0 19 rfl rfl)
theorem dJ13_stringSize_22 : decode cJ13_stringSize 22 = .ok (.iload_n 0, 1) := dk_26 (dk_at dksJ13_stringSize_0 22 rfl rfl)
theorem dJ13_stringSize_23 : decode cJ13_stringSize 23 = .ok (.iload_n 2, 1) := dk_28 (dk_at dksJ13_stringSize_0 23 rfl rfl)
theorem dJ13_stringSize_24 : decode cJ13_stringSize 24 = .ok (.if_icmp .le 7, 3) := dk_164 0 7 (dk_at dksJ13_stringSize_1 0 rfl rfl)
theorem dJ13_stringSize_27 : decode cJ13_stringSize 27 = .ok (.iload_n 3, 1) := dk_29 (dk_at dksJ13_stringSize_1 3 rfl rfl)
theorem dJ13_stringSize_28 : decode cJ13_stringSize 28 = .ok (.iload_n 1, 1) := dk_27 (dk_at dksJ13_stringSize_1 4 rfl rfl)
theorem dJ13_stringSize_29 : decode cJ13_stringSize 29 = .ok (.iadd, 1) := dk_96 (dk_at dksJ13_stringSize_1 5 rfl rfl)
theorem dJ13_stringSize_30 : decode cJ13_stringSize 30 = .ok (.ireturn, 1) := dk_172 (dk_at dksJ13_stringSize_1 6 rfl rfl)
theorem dJ13_stringSize_31 : decode cJ13_stringSize 31 = .ok (.bipush 10, 2) := dk_16 10 (dk_at dksJ13_stringSize_1 7 rfl rfl)
theorem dJ13_stringSize_33 : decode cJ13_stringSize 33 = .ok (.iload_n 2, 1) := dk_28 (dk_at dksJ13_stringSize_1 9 rfl rfl)
theorem dJ13_stringSize_34 : decode cJ13_stringSize 34 = .ok (.imul, 1) := dk_104 (dk_at dksJ13_stringSize_1 10 rfl rfl)
theorem dJ13_stringSize_35 : decode cJ13_stringSize 35 = .ok (.istore_n 2, 1) := dk_61 (dk_at dksJ13_stringSize_1 11 rfl rfl)
theorem dJ13_stringSize_36 : decode cJ13_stringSize 36 = .ok (.iinc 3 1, 3) := dk_132 3 1 (dk_at dksJ13_stringSize_1 12 rfl rfl)
theorem dJ13_stringSize_39 : decode cJ13_stringSize 39 = .ok (.goto (-23), 3) := dk_167 255 233 (dk_at dksJ13_stringSize_1 15 rfl rfl)
theorem dJ13_stringSize_42 : decode cJ13_stringSize 42 = .ok (.bipush 10, 2) := dk_16 10 (dk_at dksJ13_stringSize_1 18 rfl rfl)
theorem dJ13_stringSize_44 : decode cJ13_stringSize 44 = .ok (.iload_n 1, 1) := dk_27 (dk_at dksJ13_stringSize_1 20 rfl rfl)
theorem dJ13_stringSize_45 : decode cJ13_stringSize 45 = .ok (.iadd, 1) := dk_96 (dk_at dksJ13_stringSize_1 21 rfl rfl)
theorem dJ13_stringSize_46 : decode cJ13_stringSize 46 = .ok (.ireturn, 1) := dk_172 (dk_at dksJ13_stringSize_1 22 rfl rfl)
def dkwJ13_getChars_5 : List UInt8 := [16, 45, 84, 21, 5, 172]
abbrev dktJ13_getChars_5 : List UInt8 := dkwJ13_getChars_5 ++ []
def dkwJ13_getChars_4 : List UInt8 := [132, 5, 255, 21, 5, 178, 0, 87, 26, 116, 51, 84, 21, 6, 153, 0, 12, 44, 132, 5, 255, 21, 5]
abbrev dktJ13_getChars_4 : List UInt8 := dkwJ13_getChars_4 ++ dktJ13_getChars_5
def dkwJ13_getChars_3 : List UInt8 := [167, 255, 209, 44, 132, 5, 255, 21, 5, 178, 0, 83, 26, 116, 51, 84, 26, 16, 247, 162, 0, 16, 44]
abbrev dktJ13_getChars_3 : List UInt8 := dkwJ13_getChars_3 ++ dktJ13_getChars_4
def dkwJ13_getChars_2 : List UInt8 := [21, 5, 178, 0, 83, 21, 4, 51, 84, 44, 132, 5, 255, 21, 5, 178, 0, 87, 21, 4, 51, 84]
abbrev dktJ13_getChars_2 : List UInt8 := dkwJ13_getChars_2 ++ dktJ13_getChars_3
def dkwJ13_getChars_1 : List UInt8 := [16, 156, 163, 0, 47, 26, 16, 100, 108, 62, 29, 16, 100, 104, 26, 100, 54, 4, 29, 59, 44, 132, 5, 255]
abbrev dktJ13_getChars_1 : List UInt8 := dkwJ13_getChars_1 ++ dktJ13_getChars_2
def dkwJ13_getChars_0 : List UInt8 := [27, 54, 5, 26, 156, 0, 7, 4, 167, 0, 4, 3, 54, 6, 21, 6, 154, 0, 6, 26, 116, 59, 26]
abbrev dktJ13_getChars_0 : List UInt8 := dkwJ13_getChars_0 ++ dktJ13_getChars_1
theorem dksJ13_getChars_0 : cJ13_getChars.data.toList.drop 0 = dktJ13_getChars_0 := by decide +kernel
theorem dksJ13_getChars_1 : cJ13_getChars.data.toList.drop 23 = dktJ13_getChars_1 := dk_seg dksJ13_getChars_0 23 rfl rfl
theorem dksJ13_getChars_2 : cJ13_getChars.data.toList.drop 47 = dktJ13_getChars_2 := dk_seg dksJ13_getChars_1 24 rfl rfl
theorem dksJ13_getChars_3 : cJ13_getChars.data.toList.drop 69 = dktJ13_getChars_3 := dk_seg dksJ13_getChars_2 22 rfl rfl
theorem dksJ13_getChars_4 : cJ13_getChars.data.toList.drop 92 = dktJ13_getChars_4 := dk_seg dksJ13_getChars_3 23 rfl rfl
theorem dksJ13_getChars_5 : cJ13_getChars.data.toList.drop 115 = dktJ13_getChars_5 := dk_seg dksJ13_getChars_4 23 rfl rfl
theorem dJ13_getChars_0 : decode cJ13_getChars 0 = .ok (.iload_n 1, 1) := dk_27 (dk_at dksJ13_getChars_0 0 rfl rfl)
theorem dJ13_getChars_1 : decode cJ13_getChars 1 = .ok (.istore 5, 2) := dk_54 5 (dk_at dksJ13_getChars_0 1 rfl rfl)
theorem dJ13_getChars_3 : decode cJ13_getChars 3 = .ok (.iload_n 0, 1) := dk_26 (dk_at dksJ13_getChars_0 3 rfl rfl)
theorem dJ13_getChars_4 : decode cJ13_getChars 4 = .ok (.ifCond .ge 7, 3) := dk_156 0 7 (dk_at dksJ13_getChars_0 4 rfl rfl)
theorem dJ13_getChars_7 : decode cJ13_getChars 7 = .ok (.iconst 1, 1) := dk_4 (dk_at dksJ13_getChars_0 7 rfl rfl)
theorem dJ13_getChars_8 : decode cJ13_getChars 8 = .ok (.goto 4, 3) := dk_167 0 4 (dk_at dksJ13_getChars_0 8 rfl rfl)
theorem dJ13_getChars_11 : decode cJ13_getChars 11 = .ok (.iconst 0, 1) := dk_3 (dk_at dksJ13_getChars_0 11 rfl rfl)
theorem dJ13_getChars_12 : decode cJ13_getChars 12 = .ok (.istore 6, 2) := dk_54 6 (dk_at dksJ13_getChars_0 12 rfl rfl)
theorem dJ13_getChars_14 : decode cJ13_getChars 14 = .ok (.iload 6, 2) := dk_21 6 (dk_at dksJ13_getChars_0 14 rfl rfl)
theorem dJ13_getChars_16 : decode cJ13_getChars 16 = .ok (.ifCond .ne 6, 3) := dk_154 0 6 (dk_at dksJ13_getChars_0 16 rfl rfl)
theorem dJ13_getChars_19 : decode cJ13_getChars 19 = .ok (.iload_n 0, 1) := dk_26 (dk_at dksJ13_getChars_0 19 rfl rfl)
theorem dJ13_getChars_20 : decode cJ13_getChars 20 = .ok (.ineg, 1) := dk_116 (dk_at dksJ13_getChars_0 20 rfl rfl)
theorem dJ13_getChars_21 : decode cJ13_getChars 21 = .ok (.istore_n 0, 1) := dk_59 (dk_at dksJ13_getChars_0 21 rfl rfl)
theorem dJ13_getChars_22 : decode cJ13_getChars 22 = .ok (.iload_n 0, 1) := dk_26 (dk_at dksJ13_getChars_0 22 rfl rfl)
theorem dJ13_getChars_23 : decode cJ13_getChars 23 = .ok (.bipush (-100), 2) := dk_16 156 (dk_at dksJ13_getChars_1 0 rfl rfl)
theorem dJ13_getChars_25 : decode cJ13_getChars 25 = .ok (.if_icmp .gt 47, 3) := dk_163 0 47 (dk_at dksJ13_getChars_1 2 rfl rfl)
theorem dJ13_getChars_28 : decode cJ13_getChars 28 = .ok (.iload_n 0, 1) := dk_26 (dk_at dksJ13_getChars_1 5 rfl rfl)
theorem dJ13_getChars_29 : decode cJ13_getChars 29 = .ok (.bipush 100, 2) := dk_16 100 (dk_at dksJ13_getChars_1 6 rfl rfl)
theorem dJ13_getChars_31 : decode cJ13_getChars 31 = .ok (.idiv, 1) := dk_108 (dk_at dksJ13_getChars_1 8 rfl rfl)
theorem dJ13_getChars_32 : decode cJ13_getChars 32 = .ok (.istore_n 3, 1) := dk_62 (dk_at dksJ13_getChars_1 9 rfl rfl)
theorem dJ13_getChars_33 : decode cJ13_getChars 33 = .ok (.iload_n 3, 1) := dk_29 (dk_at dksJ13_getChars_1 10 rfl rfl)
theorem dJ13_getChars_34 : decode cJ13_getChars 34 = .ok (.bipush 100, 2) := dk_16 100 (dk_at dksJ13_getChars_1 11 rfl rfl)
theorem dJ13_getChars_36 : decode cJ13_getChars 36 = .ok (.imul, 1) := dk_104 (dk_at dksJ13_getChars_1 13 rfl rfl)
theorem dJ13_getChars_37 : decode cJ13_getChars 37 = .ok (.iload_n 0, 1) := dk_26 (dk_at dksJ13_getChars_1 14 rfl rfl)
theorem dJ13_getChars_38 : decode cJ13_getChars 38 = .ok (.isub, 1) := dk_100 (dk_at dksJ13_getChars_1 15 rfl rfl)
theorem dJ13_getChars_39 : decode cJ13_getChars 39 = .ok (.istore 4, 2) := dk_54 4 (dk_at dksJ13_getChars_1 16 rfl rfl)
theorem dJ13_getChars_41 : decode cJ13_getChars 41 = .ok (.iload_n 3, 1) := dk_29 (dk_at dksJ13_getChars_1 18 rfl rfl)
theorem dJ13_getChars_42 : decode cJ13_getChars 42 = .ok (.istore_n 0, 1) := dk_59 (dk_at dksJ13_getChars_1 19 rfl rfl)
theorem dJ13_getChars_43 : decode cJ13_getChars 43 = .ok (.aload_n 2, 1) := dk_44 (dk_at dksJ13_getChars_1 20 rfl rfl)
theorem dJ13_getChars_44 : decode cJ13_getChars 44 = .ok (.iinc 5 (-1), 3) := dk_132 5 255 (dk_at dksJ13_getChars_1 21 rfl rfl)
theorem dJ13_getChars_47 : decode cJ13_getChars 47 = .ok (.iload 5, 2) := dk_21 5 (dk_at dksJ13_getChars_2 0 rfl rfl)
theorem dJ13_getChars_49 : decode cJ13_getChars 49 = .ok (.getstatic 83, 3) := dk_178 0 83 (dk_at dksJ13_getChars_2 2 rfl rfl)
theorem dJ13_getChars_52 : decode cJ13_getChars 52 = .ok (.iload 4, 2) := dk_21 4 (dk_at dksJ13_getChars_2 5 rfl rfl)
theorem dJ13_getChars_54 : decode cJ13_getChars 54 = .ok (.baload, 1) := dk_51 (dk_at dksJ13_getChars_2 7 rfl rfl)
theorem dJ13_getChars_55 : decode cJ13_getChars 55 = .ok (.bastore, 1) := dk_84 (dk_at dksJ13_getChars_2 8 rfl rfl)
theorem dJ13_getChars_56 : decode cJ13_getChars 56 = .ok (.aload_n 2, 1) := dk_44 (dk_at dksJ13_getChars_2 9 rfl rfl)
theorem dJ13_getChars_57 : decode cJ13_getChars 57 = .ok (.iinc 5 (-1), 3) := dk_132 5 255 (dk_at dksJ13_getChars_2 10 rfl rfl)
theorem dJ13_getChars_60 : decode cJ13_getChars 60 = .ok (.iload 5, 2) := dk_21 5 (dk_at dksJ13_getChars_2 13 rfl rfl)
theorem dJ13_getChars_62 : decode cJ13_getChars 62 = .ok (.getstatic 87, 3) := dk_178 0 87 (dk_at dksJ13_getChars_2 15 rfl rfl)
theorem dJ13_getChars_65 : decode cJ13_getChars 65 = .ok (.iload 4, 2) := dk_21 4 (dk_at dksJ13_getChars_2 18 rfl rfl)
theorem dJ13_getChars_67 : decode cJ13_getChars 67 = .ok (.baload, 1) := dk_51 (dk_at dksJ13_getChars_2 20 rfl rfl)
theorem dJ13_getChars_68 : decode cJ13_getChars 68 = .ok (.bastore, 1) := dk_84 (dk_at dksJ13_getChars_2 21 rfl rfl)
theorem dJ13_getChars_69 : decode cJ13_getChars 69 = .ok (.goto (-47), 3) := dk_167 255 209 (dk_at dksJ13_getChars_3 0 rfl rfl)
theorem dJ13_getChars_72 : decode cJ13_getChars 72 = .ok (.aload_n 2, 1) := dk_44 (dk_at dksJ13_getChars_3 3 rfl rfl)
theorem dJ13_getChars_73 : decode cJ13_getChars 73 = .ok (.iinc 5 (-1), 3) := dk_132 5 255 (dk_at dksJ13_getChars_3 4 rfl rfl)
theorem dJ13_getChars_76 : decode cJ13_getChars 76 = .ok (.iload 5, 2) := dk_21 5 (dk_at dksJ13_getChars_3 7 rfl rfl)
theorem dJ13_getChars_78 : decode cJ13_getChars 78 = .ok (.getstatic 83, 3) := dk_178 0 83 (dk_at dksJ13_getChars_3 9 rfl rfl)
theorem dJ13_getChars_81 : decode cJ13_getChars 81 = .ok (.iload_n 0, 1) := dk_26 (dk_at dksJ13_getChars_3 12 rfl rfl)
theorem dJ13_getChars_82 : decode cJ13_getChars 82 = .ok (.ineg, 1) := dk_116 (dk_at dksJ13_getChars_3 13 rfl rfl)
theorem dJ13_getChars_83 : decode cJ13_getChars 83 = .ok (.baload, 1) := dk_51 (dk_at dksJ13_getChars_3 14 rfl rfl)
theorem dJ13_getChars_84 : decode cJ13_getChars 84 = .ok (.bastore, 1) := dk_84 (dk_at dksJ13_getChars_3 15 rfl rfl)
theorem dJ13_getChars_85 : decode cJ13_getChars 85 = .ok (.iload_n 0, 1) := dk_26 (dk_at dksJ13_getChars_3 16 rfl rfl)
theorem dJ13_getChars_86 : decode cJ13_getChars 86 = .ok (.bipush (-9), 2) := dk_16 247 (dk_at dksJ13_getChars_3 17 rfl rfl)
theorem dJ13_getChars_88 : decode cJ13_getChars 88 = .ok (.if_icmp .ge 16, 3) := dk_162 0 16 (dk_at dksJ13_getChars_3 19 rfl rfl)
theorem dJ13_getChars_91 : decode cJ13_getChars 91 = .ok (.aload_n 2, 1) := dk_44 (dk_at dksJ13_getChars_3 22 rfl rfl)
theorem dJ13_getChars_92 : decode cJ13_getChars 92 = .ok (.iinc 5 (-1), 3) := dk_132 5 255 (dk_at dksJ13_getChars_4 0 rfl rfl)
theorem dJ13_getChars_95 : decode cJ13_getChars 95 = .ok (.iload 5, 2) := dk_21 5 (dk_at dksJ13_getChars_4 3 rfl rfl)
theorem dJ13_getChars_97 : decode cJ13_getChars 97 = .ok (.getstatic 87, 3) := dk_178 0 87 (dk_at dksJ13_getChars_4 5 rfl rfl)
theorem dJ13_getChars_100 : decode cJ13_getChars 100 = .ok (.iload_n 0, 1) := dk_26 (dk_at dksJ13_getChars_4 8 rfl rfl)
theorem dJ13_getChars_101 : decode cJ13_getChars 101 = .ok (.ineg, 1) := dk_116 (dk_at dksJ13_getChars_4 9 rfl rfl)
theorem dJ13_getChars_102 : decode cJ13_getChars 102 = .ok (.baload, 1) := dk_51 (dk_at dksJ13_getChars_4 10 rfl rfl)
theorem dJ13_getChars_103 : decode cJ13_getChars 103 = .ok (.bastore, 1) := dk_84 (dk_at dksJ13_getChars_4 11 rfl rfl)
theorem dJ13_getChars_104 : decode cJ13_getChars 104 = .ok (.iload 6, 2) := dk_21 6 (dk_at dksJ13_getChars_4 12 rfl rfl)
theorem dJ13_getChars_106 : decode cJ13_getChars 106 = .ok (.ifCond .eq 12, 3) := dk_153 0 12 (dk_at dksJ13_getChars_4 14 rfl rfl)
theorem dJ13_getChars_109 : decode cJ13_getChars 109 = .ok (.aload_n 2, 1) := dk_44 (dk_at dksJ13_getChars_4 17 rfl rfl)
theorem dJ13_getChars_110 : decode cJ13_getChars 110 = .ok (.iinc 5 (-1), 3) := dk_132 5 255 (dk_at dksJ13_getChars_4 18 rfl rfl)
theorem dJ13_getChars_113 : decode cJ13_getChars 113 = .ok (.iload 5, 2) := dk_21 5 (dk_at dksJ13_getChars_4 21 rfl rfl)
theorem dJ13_getChars_115 : decode cJ13_getChars 115 = .ok (.bipush 45, 2) := dk_16 45 (dk_at dksJ13_getChars_5 0 rfl rfl)
theorem dJ13_getChars_117 : decode cJ13_getChars 117 = .ok (.bastore, 1) := dk_84 (dk_at dksJ13_getChars_5 2 rfl rfl)
theorem dJ13_getChars_118 : decode cJ13_getChars 118 = .ok (.iload 5, 2) := dk_21 5 (dk_at dksJ13_getChars_5 3 rfl rfl)
theorem dJ13_getChars_120 : decode cJ13_getChars 120 = .ok (.ireturn, 1) := dk_172 (dk_at dksJ13_getChars_5 5 rfl rfl)
theorem dJ14_init_0 : decode cJ14_init 0 = .ok (.return_, 1) := by decide +kernel
def dkwJ15_getUTF16Char_0 : List UInt8 := [43, 28, 184, 0, 185, 172]
abbrev dktJ15_getUTF16Char_0 : List UInt8 := dkwJ15_getUTF16Char_0 ++ []
theorem dksJ15_getUTF16Char_0 : cJ15_getUTF16Char.data.toList.drop 0 = dktJ15_getUTF16Char_0 := by decide +kernel
theorem dJ15_getUTF16Char_0 : decode cJ15_getUTF16Char 0 = .ok (.aload_n 1, 1) := dk_43 (dk_at dksJ15_getUTF16Char_0 0 rfl rfl)
theorem dJ15_getUTF16Char_1 : decode cJ15_getUTF16Char 1 = .ok (.iload_n 2, 1) := dk_28 (dk_at dksJ15_getUTF16Char_0 1 rfl rfl)
theorem dJ15_getUTF16Char_2 : decode cJ15_getUTF16Char 2 = .ok (.invokestatic 185, 3) := dk_184 0 185 (dk_at dksJ15_getUTF16Char_0 2 rfl rfl)
theorem dJ15_getUTF16Char_5 : decode cJ15_getUTF16Char 5 = .ok (.ireturn, 1) := dk_172 (dk_at dksJ15_getUTF16Char_0 5 rfl rfl)
