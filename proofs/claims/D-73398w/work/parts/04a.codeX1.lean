set_option maxRecDepth 100000
def dkwX1_feed_3 : List UInt8 := [182, 0, 65, 42, 180, 0, 61, 172]
abbrev dktX1_feed_3 : List UInt8 := dkwX1_feed_3 ++ []
def dkwX1_feed_2 : List UInt8 := [182, 0, 65, 42, 28, 182, 0, 65, 42, 29, 182, 0, 65, 42, 21, 4, 182, 0, 65, 42, 21, 5]
abbrev dktX1_feed_2 : List UInt8 := dkwX1_feed_2 ++ dktX1_feed_3
def dkwX1_feed_1 : List UInt8 := [184, 0, 58, 96, 54, 6, 42, 180, 0, 61, 21, 6, 96, 17, 1, 144, 164, 0, 5, 2, 172, 42, 27]
abbrev dktX1_feed_1 : List UInt8 := dkwX1_feed_1 ++ dktX1_feed_2
def dkwX1_feed_0 : List UInt8 := [27, 184, 0, 58, 28, 184, 0, 58, 96, 29, 184, 0, 58, 96, 21, 4, 184, 0, 58, 96, 21, 5]
abbrev dktX1_feed_0 : List UInt8 := dkwX1_feed_0 ++ dktX1_feed_1
theorem dksX1_feed_0 : cX1_feed.data.toList.drop 0 = dktX1_feed_0 := by decide +kernel
theorem dksX1_feed_1 : cX1_feed.data.toList.drop 22 = dktX1_feed_1 := dk_seg dksX1_feed_0 22 rfl rfl
theorem dksX1_feed_2 : cX1_feed.data.toList.drop 45 = dktX1_feed_2 := dk_seg dksX1_feed_1 23 rfl rfl
theorem dksX1_feed_3 : cX1_feed.data.toList.drop 67 = dktX1_feed_3 := dk_seg dksX1_feed_2 22 rfl rfl
theorem dX1_feed_0 : decode cX1_feed 0 = .ok (.iload_n 1, 1) := dk_27 (dk_at dksX1_feed_0 0 rfl rfl)
theorem dX1_feed_1 : decode cX1_feed 1 = .ok (.invokestatic 58, 3) := dk_184 0 58 (dk_at dksX1_feed_0 1 rfl rfl)
theorem dX1_feed_4 : decode cX1_feed 4 = .ok (.iload_n 2, 1) := dk_28 (dk_at dksX1_feed_0 4 rfl rfl)
theorem dX1_feed_5 : decode cX1_feed 5 = .ok (.invokestatic 58, 3) := dk_184 0 58 (dk_at dksX1_feed_0 5 rfl rfl)
theorem dX1_feed_8 : decode cX1_feed 8 = .ok (.iadd, 1) := dk_96 (dk_at dksX1_feed_0 8 rfl rfl)
theorem dX1_feed_9 : decode cX1_feed 9 = .ok (.iload_n 3, 1) := dk_29 (dk_at dksX1_feed_0 9 rfl rfl)
theorem dX1_feed_10 : decode cX1_feed 10 = .ok (.invokestatic 58, 3) := dk_184 0 58 (dk_at dksX1_feed_0 10 rfl rfl)
theorem dX1_feed_13 : decode cX1_feed 13 = .ok (.iadd, 1) := dk_96 (dk_at dksX1_feed_0 13 rfl rfl)
theorem dX1_feed_14 : decode cX1_feed 14 = .ok (.iload 4, 2) := dk_21 4 (dk_at dksX1_feed_0 14 rfl rfl)
theorem dX1_feed_16 : decode cX1_feed 16 = .ok (.invokestatic 58, 3) := dk_184 0 58 (dk_at dksX1_feed_0 16 rfl rfl)
theorem dX1_feed_19 : decode cX1_feed 19 = .ok (.iadd, 1) := dk_96 (dk_at dksX1_feed_0 19 rfl rfl)
theorem dX1_feed_20 : decode cX1_feed 20 = .ok (.iload 5, 2) := dk_21 5 (dk_at dksX1_feed_0 20 rfl rfl)
theorem dX1_feed_22 : decode cX1_feed 22 = .ok (.invokestatic 58, 3) := dk_184 0 58 (dk_at dksX1_feed_1 0 rfl rfl)
theorem dX1_feed_25 : decode cX1_feed 25 = .ok (.iadd, 1) := dk_96 (dk_at dksX1_feed_1 3 rfl rfl)
theorem dX1_feed_26 : decode cX1_feed 26 = .ok (.istore 6, 2) := dk_54 6 (dk_at dksX1_feed_1 4 rfl rfl)
theorem dX1_feed_28 : decode cX1_feed 28 = .ok (.aload_n 0, 1) := dk_42 (dk_at dksX1_feed_1 6 rfl rfl)
theorem dX1_feed_29 : decode cX1_feed 29 = .ok (.getfield 61, 3) := dk_180 0 61 (dk_at dksX1_feed_1 7 rfl rfl)
theorem dX1_feed_32 : decode cX1_feed 32 = .ok (.iload 6, 2) := dk_21 6 (dk_at dksX1_feed_1 10 rfl rfl)
theorem dX1_feed_34 : decode cX1_feed 34 = .ok (.iadd, 1) := dk_96 (dk_at dksX1_feed_1 12 rfl rfl)
theorem dX1_feed_35 : decode cX1_feed 35 = .ok (.sipush 400, 3) := dk_17 1 144 (dk_at dksX1_feed_1 13 rfl rfl)
theorem dX1_feed_38 : decode cX1_feed 38 = .ok (.if_icmp .le 5, 3) := dk_164 0 5 (dk_at dksX1_feed_1 16 rfl rfl)
theorem dX1_feed_41 : decode cX1_feed 41 = .ok (.iconst (-1), 1) := dk_2 (dk_at dksX1_feed_1 19 rfl rfl)
theorem dX1_feed_42 : decode cX1_feed 42 = .ok (.ireturn, 1) := dk_172 (dk_at dksX1_feed_1 20 rfl rfl)
theorem dX1_feed_43 : decode cX1_feed 43 = .ok (.aload_n 0, 1) := dk_42 (dk_at dksX1_feed_1 21 rfl rfl)
theorem dX1_feed_44 : decode cX1_feed 44 = .ok (.iload_n 1, 1) := dk_27 (dk_at dksX1_feed_1 22 rfl rfl)
theorem dX1_feed_45 : decode cX1_feed 45 = .ok (.invokevirtual 65, 3) := dk_182 0 65 (dk_at dksX1_feed_2 0 rfl rfl)
theorem dX1_feed_48 : decode cX1_feed 48 = .ok (.aload_n 0, 1) := dk_42 (dk_at dksX1_feed_2 3 rfl rfl)
theorem dX1_feed_49 : decode cX1_feed 49 = .ok (.iload_n 2, 1) := dk_28 (dk_at dksX1_feed_2 4 rfl rfl)
theorem dX1_feed_50 : decode cX1_feed 50 = .ok (.invokevirtual 65, 3) := dk_182 0 65 (dk_at dksX1_feed_2 5 rfl rfl)
theorem dX1_feed_53 : decode cX1_feed 53 = .ok (.aload_n 0, 1) := dk_42 (dk_at dksX1_feed_2 8 rfl rfl)
theorem dX1_feed_54 : decode cX1_feed 54 = .ok (.iload_n 3, 1) := dk_29 (dk_at dksX1_feed_2 9 rfl rfl)
theorem dX1_feed_55 : decode cX1_feed 55 = .ok (.invokevirtual 65, 3) := dk_182 0 65 (dk_at dksX1_feed_2 10 rfl rfl)
theorem dX1_feed_58 : decode cX1_feed 58 = .ok (.aload_n 0, 1) := dk_42 (dk_at dksX1_feed_2 13 rfl rfl)
theorem dX1_feed_59 : decode cX1_feed 59 = .ok (.iload 4, 2) := dk_21 4 (dk_at dksX1_feed_2 14 rfl rfl)
theorem dX1_feed_61 : decode cX1_feed 61 = .ok (.invokevirtual 65, 3) := dk_182 0 65 (dk_at dksX1_feed_2 16 rfl rfl)
theorem dX1_feed_64 : decode cX1_feed 64 = .ok (.aload_n 0, 1) := dk_42 (dk_at dksX1_feed_2 19 rfl rfl)
theorem dX1_feed_65 : decode cX1_feed 65 = .ok (.iload 5, 2) := dk_21 5 (dk_at dksX1_feed_2 20 rfl rfl)
theorem dX1_feed_67 : decode cX1_feed 67 = .ok (.invokevirtual 65, 3) := dk_182 0 65 (dk_at dksX1_feed_3 0 rfl rfl)
theorem dX1_feed_70 : decode cX1_feed 70 = .ok (.aload_n 0, 1) := dk_42 (dk_at dksX1_feed_3 3 rfl rfl)
theorem dX1_feed_71 : decode cX1_feed 71 = .ok (.getfield 61, 3) := dk_180 0 61 (dk_at dksX1_feed_3 4 rfl rfl)
theorem dX1_feed_74 : decode cX1_feed 74 = .ok (.ireturn, 1) := dk_172 (dk_at dksX1_feed_3 7 rfl rfl)
def dkwX1_bytes_1 : List UInt8 := [3, 96, 60, 132, 2, 248, 167, 255, 231, 27, 172]
abbrev dktX1_bytes_1 : List UInt8 := dkwX1_bytes_1 ++ []
def dkwX1_bytes_0 : List UInt8 := [3, 60, 16, 24, 61, 28, 155, 0, 27, 27, 26, 28, 122, 17, 0, 255, 126, 153, 0, 7, 4, 167, 0, 4]
abbrev dktX1_bytes_0 : List UInt8 := dkwX1_bytes_0 ++ dktX1_bytes_1
theorem dksX1_bytes_0 : cX1_bytes.data.toList.drop 0 = dktX1_bytes_0 := by decide +kernel
theorem dksX1_bytes_1 : cX1_bytes.data.toList.drop 24 = dktX1_bytes_1 := dk_seg dksX1_bytes_0 24 rfl rfl
theorem dX1_bytes_0 : decode cX1_bytes 0 = .ok (.iconst 0, 1) := dk_3 (dk_at dksX1_bytes_0 0 rfl rfl)
theorem dX1_bytes_1 : decode cX1_bytes 1 = .ok (.istore_n 1, 1) := dk_60 (dk_at dksX1_bytes_0 1 rfl rfl)
theorem dX1_bytes_2 : decode cX1_bytes 2 = .ok (.bipush 24, 2) := dk_16 24 (dk_at dksX1_bytes_0 2 rfl rfl)
theorem dX1_bytes_4 : decode cX1_bytes 4 = .ok (.istore_n 2, 1) := dk_61 (dk_at dksX1_bytes_0 4 rfl rfl)
theorem dX1_bytes_5 : decode cX1_bytes 5 = .ok (.iload_n 2, 1) := dk_28 (dk_at dksX1_bytes_0 5 rfl rfl)
theorem dX1_bytes_6 : decode cX1_bytes 6 = .ok (.ifCond .lt 27, 3) := dk_155 0 27 (dk_at dksX1_bytes_0 6 rfl rfl)
theorem dX1_bytes_9 : decode cX1_bytes 9 = .ok (.iload_n 1, 1) := dk_27 (dk_at dksX1_bytes_0 9 rfl rfl)
theorem dX1_bytes_10 : decode cX1_bytes 10 = .ok (.iload_n 0, 1) := dk_26 (dk_at dksX1_bytes_0 10 rfl rfl)
theorem dX1_bytes_11 : decode cX1_bytes 11 = .ok (.iload_n 2, 1) := dk_28 (dk_at dksX1_bytes_0 11 rfl rfl)
theorem dX1_bytes_12 : decode cX1_bytes 12 = .ok (.ishr, 1) := dk_122 (dk_at dksX1_bytes_0 12 rfl rfl)
theorem dX1_bytes_13 : decode cX1_bytes 13 = .ok (.sipush 255, 3) := dk_17 0 255 (dk_at dksX1_bytes_0 13 rfl rfl)
theorem dX1_bytes_16 : decode cX1_bytes 16 = .ok (.iand, 1) := dk_126 (dk_at dksX1_bytes_0 16 rfl rfl)
theorem dX1_bytes_17 : decode cX1_bytes 17 = .ok (.ifCond .eq 7, 3) := dk_153 0 7 (dk_at dksX1_bytes_0 17 rfl rfl)
theorem dX1_bytes_20 : decode cX1_bytes 20 = .ok (.iconst 1, 1) := dk_4 (dk_at dksX1_bytes_0 20 rfl rfl)
theorem dX1_bytes_21 : decode cX1_bytes 21 = .ok (.goto 4, 3) := dk_167 0 4 (dk_at dksX1_bytes_0 21 rfl rfl)
theorem dX1_bytes_24 : decode cX1_bytes 24 = .ok (.iconst 0, 1) := dk_3 (dk_at dksX1_bytes_1 0 rfl rfl)
theorem dX1_bytes_25 : decode cX1_bytes 25 = .ok (.iadd, 1) := dk_96 (dk_at dksX1_bytes_1 1 rfl rfl)
theorem dX1_bytes_26 : decode cX1_bytes 26 = .ok (.istore_n 1, 1) := dk_60 (dk_at dksX1_bytes_1 2 rfl rfl)
theorem dX1_bytes_27 : decode cX1_bytes 27 = .ok (.iinc 2 (-8), 3) := dk_132 2 248 (dk_at dksX1_bytes_1 3 rfl rfl)
theorem dX1_bytes_30 : decode cX1_bytes 30 = .ok (.goto (-25), 3) := dk_167 255 231 (dk_at dksX1_bytes_1 6 rfl rfl)
theorem dX1_bytes_33 : decode cX1_bytes 33 = .ok (.iload_n 1, 1) := dk_27 (dk_at dksX1_bytes_1 9 rfl rfl)
theorem dX1_bytes_34 : decode cX1_bytes 34 = .ok (.ireturn, 1) := dk_172 (dk_at dksX1_bytes_1 10 rfl rfl)
def dkwX1_bring_2 : List UInt8 := [167, 255, 213, 177]
abbrev dktX1_bring_2 : List UInt8 := dkwX1_bring_2 ++ []
def dkwX1_bring_1 : List UInt8 := [42, 180, 0, 61, 27, 28, 122, 145, 84, 42, 89, 180, 0, 61, 4, 96, 181, 0, 61, 132, 2, 248]
abbrev dktX1_bring_1 : List UInt8 := dkwX1_bring_1 ++ dktX1_bring_2
def dkwX1_bring_0 : List UInt8 := [16, 24, 61, 28, 155, 0, 45, 27, 28, 122, 17, 0, 255, 126, 154, 0, 6, 167, 0, 26, 42, 180, 0, 69]
abbrev dktX1_bring_0 : List UInt8 := dkwX1_bring_0 ++ dktX1_bring_1
theorem dksX1_bring_0 : cX1_bring.data.toList.drop 0 = dktX1_bring_0 := by decide +kernel
theorem dksX1_bring_1 : cX1_bring.data.toList.drop 24 = dktX1_bring_1 := dk_seg dksX1_bring_0 24 rfl rfl
theorem dksX1_bring_2 : cX1_bring.data.toList.drop 46 = dktX1_bring_2 := dk_seg dksX1_bring_1 22 rfl rfl
theorem dX1_bring_0 : decode cX1_bring 0 = .ok (.bipush 24, 2) := dk_16 24 (dk_at dksX1_bring_0 0 rfl rfl)
theorem dX1_bring_2 : decode cX1_bring 2 = .ok (.istore_n 2, 1) := dk_61 (dk_at dksX1_bring_0 2 rfl rfl)
theorem dX1_bring_3 : decode cX1_bring 3 = .ok (.iload_n 2, 1) := dk_28 (dk_at dksX1_bring_0 3 rfl rfl)
theorem dX1_bring_4 : decode cX1_bring 4 = .ok (.ifCond .lt 45, 3) := dk_155 0 45 (dk_at dksX1_bring_0 4 rfl rfl)
theorem dX1_bring_7 : decode cX1_bring 7 = .ok (.iload_n 1, 1) := dk_27 (dk_at dksX1_bring_0 7 rfl rfl)
theorem dX1_bring_8 : decode cX1_bring 8 = .ok (.iload_n 2, 1) := dk_28 (dk_at dksX1_bring_0 8 rfl rfl)
theorem dX1_bring_9 : decode cX1_bring 9 = .ok (.ishr, 1) := dk_122 (dk_at dksX1_bring_0 9 rfl rfl)
theorem dX1_bring_10 : decode cX1_bring 10 = .ok (.sipush 255, 3) := dk_17 0 255 (dk_at dksX1_bring_0 10 rfl rfl)
theorem dX1_bring_13 : decode cX1_bring 13 = .ok (.iand, 1) := dk_126 (dk_at dksX1_bring_0 13 rfl rfl)
theorem dX1_bring_14 : decode cX1_bring 14 = .ok (.ifCond .ne 6, 3) := dk_154 0 6 (dk_at dksX1_bring_0 14 rfl rfl)
theorem dX1_bring_17 : decode cX1_bring 17 = .ok (.goto 26, 3) := dk_167 0 26 (dk_at dksX1_bring_0 17 rfl rfl)
theorem dX1_bring_20 : decode cX1_bring 20 = .ok (.aload_n 0, 1) := dk_42 (dk_at dksX1_bring_0 20 rfl rfl)
theorem dX1_bring_21 : decode cX1_bring 21 = .ok (.getfield 69, 3) := dk_180 0 69 (dk_at dksX1_bring_0 21 rfl rfl)
theorem dX1_bring_24 : decode cX1_bring 24 = .ok (.aload_n 0, 1) := dk_42 (dk_at dksX1_bring_1 0 rfl rfl)
theorem dX1_bring_25 : decode cX1_bring 25 = .ok (.getfield 61, 3) := dk_180 0 61 (dk_at dksX1_bring_1 1 rfl rfl)
theorem dX1_bring_28 : decode cX1_bring 28 = .ok (.iload_n 1, 1) := dk_27 (dk_at dksX1_bring_1 4 rfl rfl)
theorem dX1_bring_29 : decode cX1_bring 29 = .ok (.iload_n 2, 1) := dk_28 (dk_at dksX1_bring_1 5 rfl rfl)
theorem dX1_bring_30 : decode cX1_bring 30 = .ok (.ishr, 1) := dk_122 (dk_at dksX1_bring_1 6 rfl rfl)
theorem dX1_bring_31 : decode cX1_bring 31 = .ok (.i2b, 1) := dk_145 (dk_at dksX1_bring_1 7 rfl rfl)
theorem dX1_bring_32 : decode cX1_bring 32 = .ok (.bastore, 1) := dk_84 (dk_at dksX1_bring_1 8 rfl rfl)
theorem dX1_bring_33 : decode cX1_bring 33 = .ok (.aload_n 0, 1) := dk_42 (dk_at dksX1_bring_1 9 rfl rfl)
theorem dX1_bring_34 : decode cX1_bring 34 = .ok (.dup, 1) := dk_89 (dk_at dksX1_bring_1 10 rfl rfl)
theorem dX1_bring_35 : decode cX1_bring 35 = .ok (.getfield 61, 3) := dk_180 0 61 (dk_at dksX1_bring_1 11 rfl rfl)
theorem dX1_bring_38 : decode cX1_bring 38 = .ok (.iconst 1, 1) := dk_4 (dk_at dksX1_bring_1 14 rfl rfl)
theorem dX1_bring_39 : decode cX1_bring 39 = .ok (.iadd, 1) := dk_96 (dk_at dksX1_bring_1 15 rfl rfl)
theorem dX1_bring_40 : decode cX1_bring 40 = .ok (.putfield 61, 3) := dk_181 0 61 (dk_at dksX1_bring_1 16 rfl rfl)
theorem dX1_bring_43 : decode cX1_bring 43 = .ok (.iinc 2 (-8), 3) := dk_132 2 248 (dk_at dksX1_bring_1 19 rfl rfl)
theorem dX1_bring_46 : decode cX1_bring 46 = .ok (.goto (-43), 3) := dk_167 255 213 (dk_at dksX1_bring_2 0 rfl rfl)
theorem dX1_bring_49 : decode cX1_bring 49 = .ok (.return_, 1) := dk_177 (dk_at dksX1_bring_2 3 rfl rfl)
def dkwX1_end_0 : List UInt8 := [27, 155, 0, 11, 27, 42, 180, 0, 61, 164, 0, 5, 3, 172, 42, 27, 181, 0, 61, 4, 172]
abbrev dktX1_end_0 : List UInt8 := dkwX1_end_0 ++ []
theorem dksX1_end_0 : cX1_end.data.toList.drop 0 = dktX1_end_0 := by decide +kernel
theorem dX1_end_0 : decode cX1_end 0 = .ok (.iload_n 1, 1) := dk_27 (dk_at dksX1_end_0 0 rfl rfl)
theorem dX1_end_1 : decode cX1_end 1 = .ok (.ifCond .lt 11, 3) := dk_155 0 11 (dk_at dksX1_end_0 1 rfl rfl)
theorem dX1_end_4 : decode cX1_end 4 = .ok (.iload_n 1, 1) := dk_27 (dk_at dksX1_end_0 4 rfl rfl)
theorem dX1_end_5 : decode cX1_end 5 = .ok (.aload_n 0, 1) := dk_42 (dk_at dksX1_end_0 5 rfl rfl)
theorem dX1_end_6 : decode cX1_end 6 = .ok (.getfield 61, 3) := dk_180 0 61 (dk_at dksX1_end_0 6 rfl rfl)
theorem dX1_end_9 : decode cX1_end 9 = .ok (.if_icmp .le 5, 3) := dk_164 0 5 (dk_at dksX1_end_0 9 rfl rfl)
theorem dX1_end_12 : decode cX1_end 12 = .ok (.iconst 0, 1) := dk_3 (dk_at dksX1_end_0 12 rfl rfl)
theorem dX1_end_13 : decode cX1_end 13 = .ok (.ireturn, 1) := dk_172 (dk_at dksX1_end_0 13 rfl rfl)
theorem dX1_end_14 : decode cX1_end 14 = .ok (.aload_n 0, 1) := dk_42 (dk_at dksX1_end_0 14 rfl rfl)
theorem dX1_end_15 : decode cX1_end 15 = .ok (.iload_n 1, 1) := dk_27 (dk_at dksX1_end_0 15 rfl rfl)
theorem dX1_end_16 : decode cX1_end 16 = .ok (.putfield 61, 3) := dk_181 0 61 (dk_at dksX1_end_0 16 rfl rfl)
theorem dX1_end_19 : decode cX1_end 19 = .ok (.iconst 1, 1) := dk_4 (dk_at dksX1_end_0 19 rfl rfl)
theorem dX1_end_20 : decode cX1_end 20 = .ok (.ireturn, 1) := dk_172 (dk_at dksX1_end_0 20 rfl rfl)
def dkwX1_init_9 : List UInt8 := [42, 1, 181, 0, 158, 177]
abbrev dktX1_init_9 : List UInt8 := dkwX1_init_9 ++ []
def dkwX1_init_8 : List UInt8 := [181, 0, 148, 42, 187, 0, 136, 89, 42, 183, 0, 138, 181, 0, 151, 42, 16, 40, 189, 0, 136, 181, 0, 154]
abbrev dktX1_init_8 : List UInt8 := dkwX1_init_8 ++ dktX1_init_9
def dkwX1_init_7 : List UInt8 := [181, 0, 141, 42, 187, 0, 136, 89, 42, 183, 0, 138, 181, 0, 145, 42, 187, 0, 136, 89, 42, 183, 0, 138]
abbrev dktX1_init_7 : List UInt8 := dkwX1_init_7 ++ dktX1_init_8
def dkwX1_init_6 : List UInt8 := [181, 0, 126, 42, 187, 0, 129, 89, 183, 0, 131, 181, 0, 132, 42, 187, 0, 136, 89, 42, 183, 0, 138]
abbrev dktX1_init_6 : List UInt8 := dkwX1_init_6 ++ dktX1_init_7
def dkwX1_init_5 : List UInt8 := [181, 0, 115, 42, 187, 0, 119, 89, 183, 0, 121, 181, 0, 122, 42, 187, 0, 119, 89, 183, 0, 121]
abbrev dktX1_init_5 : List UInt8 := dkwX1_init_5 ++ dktX1_init_6
def dkwX1_init_4 : List UInt8 := [181, 0, 105, 42, 17, 1, 144, 188, 8, 181, 0, 69, 42, 7, 189, 0, 109, 181, 0, 111, 42, 5, 188, 10]
abbrev dktX1_init_4 : List UInt8 := dkwX1_init_4 ++ dktX1_init_5
def dkwX1_init_3 : List UInt8 := [186, 0, 101, 0, 0, 183, 0, 98, 83, 89, 5, 187, 0, 93, 89, 186, 0, 104, 0, 0, 183, 0, 98, 83]
abbrev dktX1_init_3 : List UInt8 := dkwX1_init_3 ++ dktX1_init_4
def dkwX1_init_2 : List UInt8 := [3, 187, 0, 93, 89, 186, 0, 95, 0, 0, 183, 0, 98, 83, 89, 4, 187, 0, 93, 89, 42]
abbrev dktX1_init_2 : List UInt8 := dkwX1_init_2 ++ dktX1_init_3
def dkwX1_init_1 : List UInt8 := [89, 4, 187, 0, 79, 89, 186, 0, 88, 0, 0, 183, 0, 85, 83, 181, 0, 89, 42, 6, 189, 0, 93, 89]
abbrev dktX1_init_1 : List UInt8 := dkwX1_init_1 ++ dktX1_init_2
def dkwX1_init_0 : List UInt8 := [42, 183, 0, 73, 42, 5, 189, 0, 79, 89, 3, 187, 0, 79, 89, 186, 0, 81, 0, 0, 183, 0, 85, 83]
abbrev dktX1_init_0 : List UInt8 := dkwX1_init_0 ++ dktX1_init_1
theorem dksX1_init_0 : cX1_init.data.toList.drop 0 = dktX1_init_0 := by decide +kernel
theorem dksX1_init_1 : cX1_init.data.toList.drop 24 = dktX1_init_1 := dk_seg dksX1_init_0 24 rfl rfl
theorem dksX1_init_2 : cX1_init.data.toList.drop 48 = dktX1_init_2 := dk_seg dksX1_init_1 24 rfl rfl
theorem dksX1_init_3 : cX1_init.data.toList.drop 69 = dktX1_init_3 := dk_seg dksX1_init_2 21 rfl rfl
theorem dksX1_init_4 : cX1_init.data.toList.drop 93 = dktX1_init_4 := dk_seg dksX1_init_3 24 rfl rfl
theorem dksX1_init_5 : cX1_init.data.toList.drop 117 = dktX1_init_5 := dk_seg dksX1_init_4 24 rfl rfl
theorem dksX1_init_6 : cX1_init.data.toList.drop 139 = dktX1_init_6 := dk_seg dksX1_init_5 22 rfl rfl
theorem dksX1_init_7 : cX1_init.data.toList.drop 162 = dktX1_init_7 := dk_seg dksX1_init_6 23 rfl rfl
theorem dksX1_init_8 : cX1_init.data.toList.drop 186 = dktX1_init_8 := dk_seg dksX1_init_7 24 rfl rfl
theorem dksX1_init_9 : cX1_init.data.toList.drop 210 = dktX1_init_9 := dk_seg dksX1_init_8 24 rfl rfl
theorem dX1_init_0 : decode cX1_init 0 = .ok (.aload_n 0, 1) := dk_42 (dk_at dksX1_init_0 0 rfl rfl)
theorem dX1_init_1 : decode cX1_init 1 = .ok (.invokespecial 73, 3) := dk_183 0 73 (dk_at dksX1_init_0 1 rfl rfl)
theorem dX1_init_4 : decode cX1_init 4 = .ok (.aload_n 0, 1) := dk_42 (dk_at dksX1_init_0 4 rfl rfl)
theorem dX1_init_5 : decode cX1_init 5 = .ok (.iconst 2, 1) := dk_5 (dk_at dksX1_init_0 5 rfl rfl)
theorem dX1_init_6 : decode cX1_init 6 = .ok (.anewarray 79, 3) := dk_189 0 79 (dk_at dksX1_init_0 6 rfl rfl)
theorem dX1_init_9 : decode cX1_init 9 = .ok (.dup, 1) := dk_89 (dk_at dksX1_init_0 9 rfl rfl)
theorem dX1_init_10 : decode cX1_init 10 = .ok (.iconst 0, 1) := dk_3 (dk_at dksX1_init_0 10 rfl rfl)
theorem dX1_init_11 : decode cX1_init 11 = .ok (.new 79, 3) := dk_187 0 79 (dk_at dksX1_init_0 11 rfl rfl)
theorem dX1_init_14 : decode cX1_init 14 = .ok (.dup, 1) := dk_89 (dk_at dksX1_init_0 14 rfl rfl)
theorem dX1_init_15 : decode cX1_init 15 = .ok (.invokedynamic 81, 5) := by decide +kernel
theorem dX1_init_20 : decode cX1_init 20 = .ok (.invokespecial 85, 3) := dk_183 0 85 (dk_at dksX1_init_0 20 rfl rfl)
theorem dX1_init_23 : decode cX1_init 23 = .ok (.aastore, 1) := dk_83 (dk_at dksX1_init_0 23 rfl rfl)
theorem dX1_init_24 : decode cX1_init 24 = .ok (.dup, 1) := dk_89 (dk_at dksX1_init_1 0 rfl rfl)
theorem dX1_init_25 : decode cX1_init 25 = .ok (.iconst 1, 1) := dk_4 (dk_at dksX1_init_1 1 rfl rfl)
theorem dX1_init_26 : decode cX1_init 26 = .ok (.new 79, 3) := dk_187 0 79 (dk_at dksX1_init_1 2 rfl rfl)
theorem dX1_init_29 : decode cX1_init 29 = .ok (.dup, 1) := dk_89 (dk_at dksX1_init_1 5 rfl rfl)
theorem dX1_init_30 : decode cX1_init 30 = .ok (.invokedynamic 88, 5) := by decide +kernel
theorem dX1_init_35 : decode cX1_init 35 = .ok (.invokespecial 85, 3) := dk_183 0 85 (dk_at dksX1_init_1 11 rfl rfl)
theorem dX1_init_38 : decode cX1_init 38 = .ok (.aastore, 1) := dk_83 (dk_at dksX1_init_1 14 rfl rfl)
theorem dX1_init_39 : decode cX1_init 39 = .ok (.putfield 89, 3) := dk_181 0 89 (dk_at dksX1_init_1 15 rfl rfl)
theorem dX1_init_42 : decode cX1_init 42 = .ok (.aload_n 0, 1) := dk_42 (dk_at dksX1_init_1 18 rfl rfl)
theorem dX1_init_43 : decode cX1_init 43 = .ok (.iconst 3, 1) := dk_6 (dk_at dksX1_init_1 19 rfl rfl)
theorem dX1_init_44 : decode cX1_init 44 = .ok (.anewarray 93, 3) := dk_189 0 93 (dk_at dksX1_init_1 20 rfl rfl)
theorem dX1_init_47 : decode cX1_init 47 = .ok (.dup, 1) := dk_89 (dk_at dksX1_init_1 23 rfl rfl)
theorem dX1_init_48 : decode cX1_init 48 = .ok (.iconst 0, 1) := dk_3 (dk_at dksX1_init_2 0 rfl rfl)
theorem dX1_init_49 : decode cX1_init 49 = .ok (.new 93, 3) := dk_187 0 93 (dk_at dksX1_init_2 1 rfl rfl)
theorem dX1_init_52 : decode cX1_init 52 = .ok (.dup, 1) := dk_89 (dk_at dksX1_init_2 4 rfl rfl)
theorem dX1_init_53 : decode cX1_init 53 = .ok (.invokedynamic 95, 5) := by decide +kernel
theorem dX1_init_58 : decode cX1_init 58 = .ok (.invokespecial 98, 3) := dk_183 0 98 (dk_at dksX1_init_2 10 rfl rfl)
theorem dX1_init_61 : decode cX1_init 61 = .ok (.aastore, 1) := dk_83 (dk_at dksX1_init_2 13 rfl rfl)
theorem dX1_init_62 : decode cX1_init 62 = .ok (.dup, 1) := dk_89 (dk_at dksX1_init_2 14 rfl rfl)
theorem dX1_init_63 : decode cX1_init 63 = .ok (.iconst 1, 1) := dk_4 (dk_at dksX1_init_2 15 rfl rfl)
theorem dX1_init_64 : decode cX1_init 64 = .ok (.new 93, 3) := dk_187 0 93 (dk_at dksX1_init_2 16 rfl rfl)
theorem dX1_init_67 : decode cX1_init 67 = .ok (.dup, 1) := dk_89 (dk_at dksX1_init_2 19 rfl rfl)
theorem dX1_init_68 : decode cX1_init 68 = .ok (.aload_n 0, 1) := dk_42 (dk_at dksX1_init_2 20 rfl rfl)
theorem dX1_init_69 : decode cX1_init 69 = .ok (.invokedynamic 101, 5) := by decide +kernel
theorem dX1_init_74 : decode cX1_init 74 = .ok (.invokespecial 98, 3) := dk_183 0 98 (dk_at dksX1_init_3 5 rfl rfl)
theorem dX1_init_77 : decode cX1_init 77 = .ok (.aastore, 1) := dk_83 (dk_at dksX1_init_3 8 rfl rfl)
theorem dX1_init_78 : decode cX1_init 78 = .ok (.dup, 1) := dk_89 (dk_at dksX1_init_3 9 rfl rfl)
theorem dX1_init_79 : decode cX1_init 79 = .ok (.iconst 2, 1) := dk_5 (dk_at dksX1_init_3 10 rfl rfl)
theorem dX1_init_80 : decode cX1_init 80 = .ok (.new 93, 3) := dk_187 0 93 (dk_at dksX1_init_3 11 rfl rfl)
theorem dX1_init_83 : decode cX1_init 83 = .ok (.dup, 1) := dk_89 (dk_at dksX1_init_3 14 rfl rfl)
theorem dX1_init_84 : decode cX1_init 84 = .ok (.invokedynamic 104, 5) := by decide +kernel
theorem dX1_init_89 : decode cX1_init 89 = .ok (.invokespecial 98, 3) := dk_183 0 98 (dk_at dksX1_init_3 20 rfl rfl)
theorem dX1_init_92 : decode cX1_init 92 = .ok (.aastore, 1) := dk_83 (dk_at dksX1_init_3 23 rfl rfl)
theorem dX1_init_93 : decode cX1_init 93 = .ok (.putfield 105, 3) := dk_181 0 105 (dk_at dksX1_init_4 0 rfl rfl)
theorem dX1_init_96 : decode cX1_init 96 = .ok (.aload_n 0, 1) := dk_42 (dk_at dksX1_init_4 3 rfl rfl)
theorem dX1_init_97 : decode cX1_init 97 = .ok (.sipush 400, 3) := dk_17 1 144 (dk_at dksX1_init_4 4 rfl rfl)
theorem dX1_init_100 : decode cX1_init 100 = .ok (.newarray .byte, 2) := dk_188_8 (dk_at dksX1_init_4 7 rfl rfl)
theorem dX1_init_102 : decode cX1_init 102 = .ok (.putfield 69, 3) := dk_181 0 69 (dk_at dksX1_init_4 9 rfl rfl)
theorem dX1_init_105 : decode cX1_init 105 = .ok (.aload_n 0, 1) := dk_42 (dk_at dksX1_init_4 12 rfl rfl)
theorem dX1_init_106 : decode cX1_init 106 = .ok (.iconst 4, 1) := dk_7 (dk_at dksX1_init_4 13 rfl rfl)
theorem dX1_init_107 : decode cX1_init 107 = .ok (.anewarray 109, 3) := dk_189 0 109 (dk_at dksX1_init_4 14 rfl rfl)
theorem dX1_init_110 : decode cX1_init 110 = .ok (.putfield 111, 3) := dk_181 0 111 (dk_at dksX1_init_4 17 rfl rfl)
theorem dX1_init_113 : decode cX1_init 113 = .ok (.aload_n 0, 1) := dk_42 (dk_at dksX1_init_4 20 rfl rfl)
theorem dX1_init_114 : decode cX1_init 114 = .ok (.iconst 2, 1) := dk_5 (dk_at dksX1_init_4 21 rfl rfl)
theorem dX1_init_115 : decode cX1_init 115 = .ok (.newarray .int, 2) := dk_188_10 (dk_at dksX1_init_4 22 rfl rfl)
theorem dX1_init_117 : decode cX1_init 117 = .ok (.putfield 115, 3) := dk_181 0 115 (dk_at dksX1_init_5 0 rfl rfl)
theorem dX1_init_120 : decode cX1_init 120 = .ok (.aload_n 0, 1) := dk_42 (dk_at dksX1_init_5 3 rfl rfl)
theorem dX1_init_121 : decode cX1_init 121 = .ok (.new 119, 3) := dk_187 0 119 (dk_at dksX1_init_5 4 rfl rfl)
theorem dX1_init_124 : decode cX1_init 124 = .ok (.dup, 1) := dk_89 (dk_at dksX1_init_5 7 rfl rfl)
theorem dX1_init_125 : decode cX1_init 125 = .ok (.invokespecial 121, 3) := dk_183 0 121 (dk_at dksX1_init_5 8 rfl rfl)
theorem dX1_init_128 : decode cX1_init 128 = .ok (.putfield 122, 3) := dk_181 0 122 (dk_at dksX1_init_5 11 rfl rfl)
theorem dX1_init_131 : decode cX1_init 131 = .ok (.aload_n 0, 1) := dk_42 (dk_at dksX1_init_5 14 rfl rfl)
theorem dX1_init_132 : decode cX1_init 132 = .ok (.new 119, 3) := dk_187 0 119 (dk_at dksX1_init_5 15 rfl rfl)
theorem dX1_init_135 : decode cX1_init 135 = .ok (.dup, 1) := dk_89 (dk_at dksX1_init_5 18 rfl rfl)
theorem dX1_init_136 : decode cX1_init 136 = .ok (.invokespecial 121, 3) := dk_183 0 121 (dk_at dksX1_init_5 19 rfl rfl)
theorem dX1_init_139 : decode cX1_init 139 = .ok (.putfield 126, 3) := dk_181 0 126 (dk_at dksX1_init_6 0 rfl rfl)
theorem dX1_init_142 : decode cX1_init 142 = .ok (.aload_n 0, 1) := dk_42 (dk_at dksX1_init_6 3 rfl rfl)
theorem dX1_init_143 : decode cX1_init 143 = .ok (.new 129, 3) := dk_187 0 129 (dk_at dksX1_init_6 4 rfl rfl)
theorem dX1_init_146 : decode cX1_init 146 = .ok (.dup, 1) := dk_89 (dk_at dksX1_init_6 7 rfl rfl)
theorem dX1_init_147 : decode cX1_init 147 = .ok (.invokespecial 131, 3) := dk_183 0 131 (dk_at dksX1_init_6 8 rfl rfl)
theorem dX1_init_150 : decode cX1_init 150 = .ok (.putfield 132, 3) := dk_181 0 132 (dk_at dksX1_init_6 11 rfl rfl)
theorem dX1_init_153 : decode cX1_init 153 = .ok (.aload_n 0, 1) := dk_42 (dk_at dksX1_init_6 14 rfl rfl)
theorem dX1_init_154 : decode cX1_init 154 = .ok (.new 136, 3) := dk_187 0 136 (dk_at dksX1_init_6 15 rfl rfl)
theorem dX1_init_157 : decode cX1_init 157 = .ok (.dup, 1) := dk_89 (dk_at dksX1_init_6 18 rfl rfl)
theorem dX1_init_158 : decode cX1_init 158 = .ok (.aload_n 0, 1) := dk_42 (dk_at dksX1_init_6 19 rfl rfl)
theorem dX1_init_159 : decode cX1_init 159 = .ok (.invokespecial 138, 3) := dk_183 0 138 (dk_at dksX1_init_6 20 rfl rfl)
theorem dX1_init_162 : decode cX1_init 162 = .ok (.putfield 141, 3) := dk_181 0 141 (dk_at dksX1_init_7 0 rfl rfl)
theorem dX1_init_165 : decode cX1_init 165 = .ok (.aload_n 0, 1) := dk_42 (dk_at dksX1_init_7 3 rfl rfl)
theorem dX1_init_166 : decode cX1_init 166 = .ok (.new 136, 3) := dk_187 0 136 (dk_at dksX1_init_7 4 rfl rfl)
theorem dX1_init_169 : decode cX1_init 169 = .ok (.dup, 1) := dk_89 (dk_at dksX1_init_7 7 rfl rfl)
theorem dX1_init_170 : decode cX1_init 170 = .ok (.aload_n 0, 1) := dk_42 (dk_at dksX1_init_7 8 rfl rfl)
theorem dX1_init_171 : decode cX1_init 171 = .ok (.invokespecial 138, 3) := dk_183 0 138 (dk_at dksX1_init_7 9 rfl rfl)
theorem dX1_init_174 : decode cX1_init 174 = .ok (.putfield 145, 3) := dk_181 0 145 (dk_at dksX1_init_7 12 rfl rfl)
theorem dX1_init_177 : decode cX1_init 177 = .ok (.aload_n 0, 1) := dk_42 (dk_at dksX1_init_7 15 rfl rfl)
theorem dX1_init_178 : decode cX1_init 178 = .ok (.new 136, 3) := dk_187 0 136 (dk_at dksX1_init_7 16 rfl rfl)
theorem dX1_init_181 : decode cX1_init 181 = .ok (.dup, 1) := dk_89 (dk_at dksX1_init_7 19 rfl rfl)
theorem dX1_init_182 : decode cX1_init 182 = .ok (.aload_n 0, 1) := dk_42 (dk_at dksX1_init_7 20 rfl rfl)
theorem dX1_init_183 : decode cX1_init 183 = .ok (.invokespecial 138, 3) := dk_183 0 138 (dk_at dksX1_init_7 21 rfl rfl)
theorem dX1_init_186 : decode cX1_init 186 = .ok (.putfield 148, 3) := dk_181 0 148 (dk_at dksX1_init_8 0 rfl rfl)
theorem dX1_init_189 : decode cX1_init 189 = .ok (.aload_n 0, 1) := dk_42 (dk_at dksX1_init_8 3 rfl rfl)
theorem dX1_init_190 : decode cX1_init 190 = .ok (.new 136, 3) := dk_187 0 136 (dk_at dksX1_init_8 4 rfl rfl)
theorem dX1_init_193 : decode cX1_init 193 = .ok (.dup, 1) := dk_89 (dk_at dksX1_init_8 7 rfl rfl)
theorem dX1_init_194 : decode cX1_init 194 = .ok (.aload_n 0, 1) := dk_42 (dk_at dksX1_init_8 8 rfl rfl)
theorem dX1_init_195 : decode cX1_init 195 = .ok (.invokespecial 138, 3) := dk_183 0 138 (dk_at dksX1_init_8 9 rfl rfl)
theorem dX1_init_198 : decode cX1_init 198 = .ok (.putfield 151, 3) := dk_181 0 151 (dk_at dksX1_init_8 12 rfl rfl)
theorem dX1_init_201 : decode cX1_init 201 = .ok (.aload_n 0, 1) := dk_42 (dk_at dksX1_init_8 15 rfl rfl)
theorem dX1_init_202 : decode cX1_init 202 = .ok (.bipush 40, 2) := dk_16 40 (dk_at dksX1_init_8 16 rfl rfl)
theorem dX1_init_204 : decode cX1_init 204 = .ok (.anewarray 136, 3) := dk_189 0 136 (dk_at dksX1_init_8 18 rfl rfl)
theorem dX1_init_207 : decode cX1_init 207 = .ok (.putfield 154, 3) := dk_181 0 154 (dk_at dksX1_init_8 21 rfl rfl)
theorem dX1_init_210 : decode cX1_init 210 = .ok (.aload_n 0, 1) := dk_42 (dk_at dksX1_init_9 0 rfl rfl)
theorem dX1_init_211 : decode cX1_init 211 = .ok (.aconst_null, 1) := dk_1 (dk_at dksX1_init_9 1 rfl rfl)
theorem dX1_init_212 : decode cX1_init 212 = .ok (.putfield 158, 3) := dk_181 0 158 (dk_at dksX1_init_9 2 rfl rfl)
theorem dX1_init_215 : decode cX1_init 215 = .ok (.return_, 1) := dk_177 (dk_at dksX1_init_9 5 rfl rfl)
def dkwX1_quarter_0 : List UInt8 := [26, 5, 27, 104, 96, 28, 96, 7, 108, 172]
abbrev dktX1_quarter_0 : List UInt8 := dkwX1_quarter_0 ++ []
theorem dksX1_quarter_0 : cX1_quarter.data.toList.drop 0 = dktX1_quarter_0 := by decide +kernel
theorem dX1_quarter_0 : decode cX1_quarter 0 = .ok (.iload_n 0, 1) := dk_26 (dk_at dksX1_quarter_0 0 rfl rfl)
theorem dX1_quarter_1 : decode cX1_quarter 1 = .ok (.iconst 2, 1) := dk_5 (dk_at dksX1_quarter_0 1 rfl rfl)
theorem dX1_quarter_2 : decode cX1_quarter 2 = .ok (.iload_n 1, 1) := dk_27 (dk_at dksX1_quarter_0 2 rfl rfl)
theorem dX1_quarter_3 : decode cX1_quarter 3 = .ok (.imul, 1) := dk_104 (dk_at dksX1_quarter_0 3 rfl rfl)
theorem dX1_quarter_4 : decode cX1_quarter 4 = .ok (.iadd, 1) := dk_96 (dk_at dksX1_quarter_0 4 rfl rfl)
theorem dX1_quarter_5 : decode cX1_quarter 5 = .ok (.iload_n 2, 1) := dk_28 (dk_at dksX1_quarter_0 5 rfl rfl)
theorem dX1_quarter_6 : decode cX1_quarter 6 = .ok (.iadd, 1) := dk_96 (dk_at dksX1_quarter_0 6 rfl rfl)
theorem dX1_quarter_7 : decode cX1_quarter 7 = .ok (.iconst 4, 1) := dk_7 (dk_at dksX1_quarter_0 7 rfl rfl)
theorem dX1_quarter_8 : decode cX1_quarter 8 = .ok (.idiv, 1) := dk_108 (dk_at dksX1_quarter_0 8 rfl rfl)
theorem dX1_quarter_9 : decode cX1_quarter 9 = .ok (.ireturn, 1) := dk_172 (dk_at dksX1_quarter_0 9 rfl rfl)
def dkwX1_middle_0 : List UInt8 := [26, 27, 28, 184, 0, 12, 172]
abbrev dktX1_middle_0 : List UInt8 := dkwX1_middle_0 ++ []
theorem dksX1_middle_0 : cX1_middle.data.toList.drop 0 = dktX1_middle_0 := by decide +kernel
theorem dX1_middle_0 : decode cX1_middle 0 = .ok (.iload_n 0, 1) := dk_26 (dk_at dksX1_middle_0 0 rfl rfl)
theorem dX1_middle_1 : decode cX1_middle 1 = .ok (.iload_n 1, 1) := dk_27 (dk_at dksX1_middle_0 1 rfl rfl)
theorem dX1_middle_2 : decode cX1_middle 2 = .ok (.iload_n 2, 1) := dk_28 (dk_at dksX1_middle_0 2 rfl rfl)
theorem dX1_middle_3 : decode cX1_middle 3 = .ok (.invokestatic 12, 3) := dk_184 0 12 (dk_at dksX1_middle_0 3 rfl rfl)
theorem dX1_middle_6 : decode cX1_middle 6 = .ok (.ireturn, 1) := dk_172 (dk_at dksX1_middle_0 6 rfl rfl)
def dkwX1_lambda_new_0_0 : List UInt8 := [26, 27, 184, 0, 3, 172]
abbrev dktX1_lambda_new_0_0 : List UInt8 := dkwX1_lambda_new_0_0 ++ []
theorem dksX1_lambda_new_0_0 : cX1_lambda_new_0.data.toList.drop 0 = dktX1_lambda_new_0_0 := by decide +kernel
theorem dX1_lambda_new_0_0 : decode cX1_lambda_new_0 0 = .ok (.iload_n 0, 1) := dk_26 (dk_at dksX1_lambda_new_0_0 0 rfl rfl)
theorem dX1_lambda_new_0_1 : decode cX1_lambda_new_0 1 = .ok (.iload_n 1, 1) := dk_27 (dk_at dksX1_lambda_new_0_0 1 rfl rfl)
theorem dX1_lambda_new_0_2 : decode cX1_lambda_new_0 2 = .ok (.invokestatic 3, 3) := dk_184 0 3 (dk_at dksX1_lambda_new_0_0 2 rfl rfl)
theorem dX1_lambda_new_0_5 : decode cX1_lambda_new_0 5 = .ok (.ireturn, 1) := dk_172 (dk_at dksX1_lambda_new_0_0 5 rfl rfl)
def dkwX1_lifted_0 : List UInt8 := [27, 28, 96, 184, 0, 18, 172]
abbrev dktX1_lifted_0 : List UInt8 := dkwX1_lifted_0 ++ []
theorem dksX1_lifted_0 : cX1_lifted.data.toList.drop 0 = dktX1_lifted_0 := by decide +kernel
theorem dX1_lifted_0 : decode cX1_lifted 0 = .ok (.iload_n 1, 1) := dk_27 (dk_at dksX1_lifted_0 0 rfl rfl)
theorem dX1_lifted_1 : decode cX1_lifted 1 = .ok (.iload_n 2, 1) := dk_28 (dk_at dksX1_lifted_0 1 rfl rfl)
theorem dX1_lifted_2 : decode cX1_lifted 2 = .ok (.iadd, 1) := dk_96 (dk_at dksX1_lifted_0 2 rfl rfl)
theorem dX1_lifted_3 : decode cX1_lifted 3 = .ok (.invokestatic 18, 3) := dk_184 0 18 (dk_at dksX1_lifted_0 3 rfl rfl)
theorem dX1_lifted_6 : decode cX1_lifted 6 = .ok (.ireturn, 1) := dk_172 (dk_at dksX1_lifted_0 6 rfl rfl)
def dkwX1_between_0 : List UInt8 := [3, 17, 3, 231, 26, 184, 0, 3, 184, 0, 9, 172]
abbrev dktX1_between_0 : List UInt8 := dkwX1_between_0 ++ []
theorem dksX1_between_0 : cX1_between.data.toList.drop 0 = dktX1_between_0 := by decide +kernel
theorem dX1_between_0 : decode cX1_between 0 = .ok (.iconst 0, 1) := dk_3 (dk_at dksX1_between_0 0 rfl rfl)
theorem dX1_between_1 : decode cX1_between 1 = .ok (.sipush 999, 3) := dk_17 3 231 (dk_at dksX1_between_0 1 rfl rfl)
theorem dX1_between_4 : decode cX1_between 4 = .ok (.iload_n 0, 1) := dk_26 (dk_at dksX1_between_0 4 rfl rfl)
theorem dX1_between_5 : decode cX1_between 5 = .ok (.invokestatic 3, 3) := dk_184 0 3 (dk_at dksX1_between_0 5 rfl rfl)
theorem dX1_between_8 : decode cX1_between 8 = .ok (.invokestatic 9, 3) := dk_184 0 9 (dk_at dksX1_between_0 8 rfl rfl)
theorem dX1_between_11 : decode cX1_between 11 = .ok (.ireturn, 1) := dk_172 (dk_at dksX1_between_0 11 rfl rfl)
def dkwX1_lambda_new_1_0 : List UInt8 := [26, 27, 104, 28, 108, 184, 0, 18, 172]
abbrev dktX1_lambda_new_1_0 : List UInt8 := dkwX1_lambda_new_1_0 ++ []
theorem dksX1_lambda_new_1_0 : cX1_lambda_new_1.data.toList.drop 0 = dktX1_lambda_new_1_0 := by decide +kernel
theorem dX1_lambda_new_1_0 : decode cX1_lambda_new_1 0 = .ok (.iload_n 0, 1) := dk_26 (dk_at dksX1_lambda_new_1_0 0 rfl rfl)
theorem dX1_lambda_new_1_1 : decode cX1_lambda_new_1 1 = .ok (.iload_n 1, 1) := dk_27 (dk_at dksX1_lambda_new_1_0 1 rfl rfl)
theorem dX1_lambda_new_1_2 : decode cX1_lambda_new_1 2 = .ok (.imul, 1) := dk_104 (dk_at dksX1_lambda_new_1_0 2 rfl rfl)
theorem dX1_lambda_new_1_3 : decode cX1_lambda_new_1 3 = .ok (.iload_n 2, 1) := dk_28 (dk_at dksX1_lambda_new_1_0 3 rfl rfl)
theorem dX1_lambda_new_1_4 : decode cX1_lambda_new_1 4 = .ok (.idiv, 1) := dk_108 (dk_at dksX1_lambda_new_1_0 4 rfl rfl)
theorem dX1_lambda_new_1_5 : decode cX1_lambda_new_1 5 = .ok (.invokestatic 18, 3) := dk_184 0 18 (dk_at dksX1_lambda_new_1_0 5 rfl rfl)
theorem dX1_lambda_new_1_8 : decode cX1_lambda_new_1 8 = .ok (.ireturn, 1) := dk_172 (dk_at dksX1_lambda_new_1_0 8 rfl rfl)
def dkwX1_fault_2 : List UInt8 := [77, 44, 180, 0, 185, 172]
abbrev dktX1_fault_2 : List UInt8 := dkwX1_fault_2 ++ []
def dkwX1_fault_1 : List UInt8 := [154, 0, 14, 42, 44, 182, 0, 169, 181, 0, 172, 167, 0, 11, 42, 44, 182, 0, 175, 181, 0, 179, 2, 172]
abbrev dktX1_fault_1 : List UInt8 := dkwX1_fault_1 ++ dktX1_fault_2
def dkwX1_fault_0 : List UInt8 := [27, 133, 9, 10, 184, 0, 162, 154, 0, 6, 16, 254, 172, 187, 0, 166, 89, 42, 183, 0, 168, 77, 27]
abbrev dktX1_fault_0 : List UInt8 := dkwX1_fault_0 ++ dktX1_fault_1
theorem dksX1_fault_0 : cX1_fault.data.toList.drop 0 = dktX1_fault_0 := by decide +kernel
theorem dksX1_fault_1 : cX1_fault.data.toList.drop 23 = dktX1_fault_1 := dk_seg dksX1_fault_0 23 rfl rfl
theorem dksX1_fault_2 : cX1_fault.data.toList.drop 47 = dktX1_fault_2 := dk_seg dksX1_fault_1 24 rfl rfl
theorem dX1_fault_0 : decode cX1_fault 0 = .ok (.iload_n 1, 1) := dk_27 (dk_at dksX1_fault_0 0 rfl rfl)
theorem dX1_fault_1 : decode cX1_fault 1 = .ok (.i2l, 1) := dk_133 (dk_at dksX1_fault_0 1 rfl rfl)
theorem dX1_fault_2 : decode cX1_fault 2 = .ok (.lconst 0, 1) := dk_9 (dk_at dksX1_fault_0 2 rfl rfl)
theorem dX1_fault_3 : decode cX1_fault 3 = .ok (.lconst 1, 1) := dk_10 (dk_at dksX1_fault_0 3 rfl rfl)
theorem dX1_fault_4 : decode cX1_fault 4 = .ok (.invokestatic 162, 3) := dk_184 0 162 (dk_at dksX1_fault_0 4 rfl rfl)
theorem dX1_fault_7 : decode cX1_fault 7 = .ok (.ifCond .ne 6, 3) := dk_154 0 6 (dk_at dksX1_fault_0 7 rfl rfl)
theorem dX1_fault_10 : decode cX1_fault 10 = .ok (.bipush (-2), 2) := dk_16 254 (dk_at dksX1_fault_0 10 rfl rfl)
theorem dX1_fault_12 : decode cX1_fault 12 = .ok (.ireturn, 1) := dk_172 (dk_at dksX1_fault_0 12 rfl rfl)
theorem dX1_fault_13 : decode cX1_fault 13 = .ok (.new 166, 3) := dk_187 0 166 (dk_at dksX1_fault_0 13 rfl rfl)
theorem dX1_fault_16 : decode cX1_fault 16 = .ok (.dup, 1) := dk_89 (dk_at dksX1_fault_0 16 rfl rfl)
theorem dX1_fault_17 : decode cX1_fault 17 = .ok (.aload_n 0, 1) := dk_42 (dk_at dksX1_fault_0 17 rfl rfl)
theorem dX1_fault_18 : decode cX1_fault 18 = .ok (.invokespecial 168, 3) := dk_183 0 168 (dk_at dksX1_fault_0 18 rfl rfl)
theorem dX1_fault_21 : decode cX1_fault 21 = .ok (.astore_n 2, 1) := dk_77 (dk_at dksX1_fault_0 21 rfl rfl)
theorem dX1_fault_22 : decode cX1_fault 22 = .ok (.iload_n 1, 1) := dk_27 (dk_at dksX1_fault_0 22 rfl rfl)
theorem dX1_fault_23 : decode cX1_fault 23 = .ok (.ifCond .ne 14, 3) := dk_154 0 14 (dk_at dksX1_fault_1 0 rfl rfl)
theorem dX1_fault_26 : decode cX1_fault 26 = .ok (.aload_n 0, 1) := dk_42 (dk_at dksX1_fault_1 3 rfl rfl)
theorem dX1_fault_27 : decode cX1_fault 27 = .ok (.aload_n 2, 1) := dk_44 (dk_at dksX1_fault_1 4 rfl rfl)
theorem dX1_fault_28 : decode cX1_fault 28 = .ok (.invokevirtual 169, 3) := dk_182 0 169 (dk_at dksX1_fault_1 5 rfl rfl)
theorem dX1_fault_31 : decode cX1_fault 31 = .ok (.putfield 172, 3) := dk_181 0 172 (dk_at dksX1_fault_1 8 rfl rfl)
theorem dX1_fault_34 : decode cX1_fault 34 = .ok (.goto 11, 3) := dk_167 0 11 (dk_at dksX1_fault_1 11 rfl rfl)
theorem dX1_fault_37 : decode cX1_fault 37 = .ok (.aload_n 0, 1) := dk_42 (dk_at dksX1_fault_1 14 rfl rfl)
theorem dX1_fault_38 : decode cX1_fault 38 = .ok (.aload_n 2, 1) := dk_44 (dk_at dksX1_fault_1 15 rfl rfl)
theorem dX1_fault_39 : decode cX1_fault 39 = .ok (.invokevirtual 175, 3) := dk_182 0 175 (dk_at dksX1_fault_1 16 rfl rfl)
theorem dX1_fault_42 : decode cX1_fault 42 = .ok (.putfield 179, 3) := dk_181 0 179 (dk_at dksX1_fault_1 19 rfl rfl)
theorem dX1_fault_45 : decode cX1_fault 45 = .ok (.iconst (-1), 1) := dk_2 (dk_at dksX1_fault_1 22 rfl rfl)
theorem dX1_fault_46 : decode cX1_fault 46 = .ok (.ireturn, 1) := dk_172 (dk_at dksX1_fault_1 23 rfl rfl)
theorem dX1_fault_47 : decode cX1_fault 47 = .ok (.astore_n 2, 1) := dk_77 (dk_at dksX1_fault_2 0 rfl rfl)
theorem dX1_fault_48 : decode cX1_fault 48 = .ok (.aload_n 2, 1) := dk_44 (dk_at dksX1_fault_2 1 rfl rfl)
theorem dX1_fault_49 : decode cX1_fault 49 = .ok (.getfield 185, 3) := dk_180 0 185 (dk_at dksX1_fault_2 2 rfl rfl)
theorem dX1_fault_52 : decode cX1_fault 52 = .ok (.ireturn, 1) := dk_172 (dk_at dksX1_fault_2 5 rfl rfl)
def dkwX1_isIn_0 : List UInt8 := [30, 32, 148, 155, 0, 14, 30, 22, 4, 148, 157, 0, 7, 4, 167, 0, 4, 3, 172]
abbrev dktX1_isIn_0 : List UInt8 := dkwX1_isIn_0 ++ []
theorem dksX1_isIn_0 : cX1_isIn.data.toList.drop 0 = dktX1_isIn_0 := by decide +kernel
theorem dX1_isIn_0 : decode cX1_isIn 0 = .ok (.lload_n 0, 1) := dk_30 (dk_at dksX1_isIn_0 0 rfl rfl)
theorem dX1_isIn_1 : decode cX1_isIn 1 = .ok (.lload_n 2, 1) := dk_32 (dk_at dksX1_isIn_0 1 rfl rfl)
theorem dX1_isIn_2 : decode cX1_isIn 2 = .ok (.lcmp, 1) := dk_148 (dk_at dksX1_isIn_0 2 rfl rfl)
theorem dX1_isIn_3 : decode cX1_isIn 3 = .ok (.ifCond .lt 14, 3) := dk_155 0 14 (dk_at dksX1_isIn_0 3 rfl rfl)
theorem dX1_isIn_6 : decode cX1_isIn 6 = .ok (.lload_n 0, 1) := dk_30 (dk_at dksX1_isIn_0 6 rfl rfl)
theorem dX1_isIn_7 : decode cX1_isIn 7 = .ok (.lload 4, 2) := dk_22 4 (dk_at dksX1_isIn_0 7 rfl rfl)
theorem dX1_isIn_9 : decode cX1_isIn 9 = .ok (.lcmp, 1) := dk_148 (dk_at dksX1_isIn_0 9 rfl rfl)
theorem dX1_isIn_10 : decode cX1_isIn 10 = .ok (.ifCond .gt 7, 3) := dk_157 0 7 (dk_at dksX1_isIn_0 10 rfl rfl)
theorem dX1_isIn_13 : decode cX1_isIn 13 = .ok (.iconst 1, 1) := dk_4 (dk_at dksX1_isIn_0 13 rfl rfl)
theorem dX1_isIn_14 : decode cX1_isIn 14 = .ok (.goto 4, 3) := dk_167 0 4 (dk_at dksX1_isIn_0 14 rfl rfl)
theorem dX1_isIn_17 : decode cX1_isIn 17 = .ok (.iconst 0, 1) := dk_3 (dk_at dksX1_isIn_0 17 rfl rfl)
theorem dX1_isIn_18 : decode cX1_isIn 18 = .ok (.ireturn, 1) := dk_172 (dk_at dksX1_isIn_0 18 rfl rfl)
def dkwX1_sortOf_11 : List UInt8 := [16, 6, 167, 0, 19, 16, 7, 167, 0, 14, 16, 8, 167, 0, 9, 16, 9, 167, 0, 4, 2, 172]
abbrev dktX1_sortOf_11 : List UInt8 := dkwX1_sortOf_11 ++ []
def dkwX1_sortOf_10 : List UInt8 := [3, 167, 0, 44, 4, 167, 0, 40, 5, 167, 0, 36, 6, 167, 0, 32, 7, 167, 0, 28, 8, 167, 0, 24]
abbrev dktX1_sortOf_10 : List UInt8 := dkwX1_sortOf_10 ++ dktX1_sortOf_11
def dkwX1_sortOf_9 : List UInt8 := [170, 0, 0, 0, 0, 98, 0, 0, 0, 0, 0, 0, 0, 9, 0, 0, 0, 54, 0, 0, 0, 58, 0, 0, 0, 62, 0, 0, 0, 66, 0, 0, 0, 70, 0, 0, 0, 74, 0, 0, 0, 78, 0, 0, 0, 83, 0, 0, 0, 88, 0, 0, 0, 93]
abbrev dktX1_sortOf_9 : List UInt8 := dkwX1_sortOf_9 ++ dktX1_sortOf_10
def dkwX1_sortOf_8 : List UInt8 := [28]
abbrev dktX1_sortOf_8 : List UInt8 := dkwX1_sortOf_8 ++ dktX1_sortOf_9
def dkwX1_sortOf_7 : List UInt8 := [182, 0, 36, 153, 0, 21, 16, 8, 61, 167, 0, 15, 43, 18, 56, 182, 0, 36, 153, 0, 6, 16, 9, 61]
abbrev dktX1_sortOf_7 : List UInt8 := dkwX1_sortOf_7 ++ dktX1_sortOf_8
def dkwX1_sortOf_6 : List UInt8 := [61, 167, 0, 45, 43, 18, 52, 182, 0, 36, 153, 0, 36, 16, 7, 61, 167, 0, 30, 43, 18, 54]
abbrev dktX1_sortOf_6 : List UInt8 := dkwX1_sortOf_6 ++ dktX1_sortOf_7
def dkwX1_sortOf_5 : List UInt8 := [18, 48, 182, 0, 36, 153, 0, 65, 8, 61, 167, 0, 60, 43, 18, 50, 182, 0, 36, 153, 0, 51, 16, 6]
abbrev dktX1_sortOf_5 : List UInt8 := dkwX1_sortOf_5 ++ dktX1_sortOf_6
def dkwX1_sortOf_4 : List UInt8 := [153, 0, 93, 6, 61, 167, 0, 88, 43, 18, 46, 182, 0, 36, 153, 0, 79, 7, 61, 167, 0, 74, 43]
abbrev dktX1_sortOf_4 : List UInt8 := dkwX1_sortOf_4 ++ dktX1_sortOf_5
def dkwX1_sortOf_3 : List UInt8 := [61, 167, 0, 116, 43, 18, 42, 182, 0, 36, 153, 0, 107, 5, 61, 167, 0, 102, 43, 18, 44, 182, 0, 36]
abbrev dktX1_sortOf_3 : List UInt8 := dkwX1_sortOf_3 ++ dktX1_sortOf_4
def dkwX1_sortOf_2 : List UInt8 := [43, 18, 34, 182, 0, 36, 153, 0, 135, 3, 61, 167, 0, 130, 43, 18, 40, 182, 0, 36, 153, 0, 121, 4]
abbrev dktX1_sortOf_2 : List UInt8 := dkwX1_sortOf_2 ++ dktX1_sortOf_3
def dkwX1_sortOf_1 : List UInt8 := [171, 0, 0, 0, 0, 0, 232, 0, 0, 0, 10, 191, 190, 141, 10, 0, 0, 0, 105, 202, 113, 117, 174, 0, 0, 0, 91, 0, 1, 130, 66, 0, 0, 0, 220, 0, 1, 188, 98, 0, 0, 0, 190, 0, 46, 163, 80, 0, 0, 0, 147, 0, 47, 255, 121, 0, 0, 0, 119, 0, 50, 175, 11, 0, 0, 0, 161, 0, 54, 128, 125, 0, 0, 0, 133, 6, 66, 39, 26, 0, 0, 0, 205, 6, 131, 9, 74, 0, 0, 0, 175]
abbrev dktX1_sortOf_1 : List UInt8 := dkwX1_sortOf_1 ++ dktX1_sortOf_2
def dkwX1_sortOf_0 : List UInt8 := [42, 185, 0, 22, 1, 0, 76, 2, 61, 43, 182, 0, 28]
abbrev dktX1_sortOf_0 : List UInt8 := dkwX1_sortOf_0 ++ dktX1_sortOf_1
theorem dksX1_sortOf_0 : cX1_sortOf.data.toList.drop 0 = dktX1_sortOf_0 := by decide +kernel
theorem dksX1_sortOf_1 : cX1_sortOf.data.toList.drop 13 = dktX1_sortOf_1 := dk_seg dksX1_sortOf_0 13 rfl rfl
theorem dksX1_sortOf_2 : cX1_sortOf.data.toList.drop 104 = dktX1_sortOf_2 := dk_seg dksX1_sortOf_1 91 rfl rfl
theorem dksX1_sortOf_3 : cX1_sortOf.data.toList.drop 128 = dktX1_sortOf_3 := dk_seg dksX1_sortOf_2 24 rfl rfl
theorem dksX1_sortOf_4 : cX1_sortOf.data.toList.drop 152 = dktX1_sortOf_4 := dk_seg dksX1_sortOf_3 24 rfl rfl
theorem dksX1_sortOf_5 : cX1_sortOf.data.toList.drop 175 = dktX1_sortOf_5 := dk_seg dksX1_sortOf_4 23 rfl rfl
theorem dksX1_sortOf_6 : cX1_sortOf.data.toList.drop 199 = dktX1_sortOf_6 := dk_seg dksX1_sortOf_5 24 rfl rfl
theorem dksX1_sortOf_7 : cX1_sortOf.data.toList.drop 221 = dktX1_sortOf_7 := dk_seg dksX1_sortOf_6 22 rfl rfl
theorem dksX1_sortOf_8 : cX1_sortOf.data.toList.drop 245 = dktX1_sortOf_8 := dk_seg dksX1_sortOf_7 24 rfl rfl
theorem dksX1_sortOf_9 : cX1_sortOf.data.toList.drop 246 = dktX1_sortOf_9 := dk_seg dksX1_sortOf_8 1 rfl rfl
theorem dksX1_sortOf_10 : cX1_sortOf.data.toList.drop 300 = dktX1_sortOf_10 := dk_seg dksX1_sortOf_9 54 rfl rfl
theorem dksX1_sortOf_11 : cX1_sortOf.data.toList.drop 324 = dktX1_sortOf_11 := dk_seg dksX1_sortOf_10 24 rfl rfl
theorem dX1_sortOf_0 : decode cX1_sortOf 0 = .ok (.aload_n 0, 1) := dk_42 (dk_at dksX1_sortOf_0 0 rfl rfl)
theorem dX1_sortOf_1 : decode cX1_sortOf 1 = .ok (.invokeinterface 22 1, 5) := by decide +kernel
theorem dX1_sortOf_6 : decode cX1_sortOf 6 = .ok (.astore_n 1, 1) := dk_76 (dk_at dksX1_sortOf_0 6 rfl rfl)
theorem dX1_sortOf_7 : decode cX1_sortOf 7 = .ok (.iconst (-1), 1) := dk_2 (dk_at dksX1_sortOf_0 7 rfl rfl)
theorem dX1_sortOf_8 : decode cX1_sortOf 8 = .ok (.istore_n 2, 1) := dk_61 (dk_at dksX1_sortOf_0 8 rfl rfl)
theorem dX1_sortOf_9 : decode cX1_sortOf 9 = .ok (.aload_n 1, 1) := dk_43 (dk_at dksX1_sortOf_0 9 rfl rfl)
theorem dX1_sortOf_10 : decode cX1_sortOf 10 = .ok (.invokevirtual 28, 3) := dk_182 0 28 (dk_at dksX1_sortOf_0 10 rfl rfl)
theorem dX1_sortOf_13 : decode cX1_sortOf 13 = .ok (.lookupswitch 232 #[(-1078031094, 105), (-898533970, 91), (98882, 220), (113762, 190), (3056464, 147), (3145593, 119), (3321611, 161), (3571837, 133), (104998682, 205), (109250890, 175)], 91) := by decide +kernel
theorem dX1_sortOf_104 : decode cX1_sortOf 104 = .ok (.aload_n 1, 1) := dk_43 (dk_at dksX1_sortOf_2 0 rfl rfl)
theorem dX1_sortOf_105 : decode cX1_sortOf 105 = .ok (.ldc 34, 2) := dk_18 34 (dk_at dksX1_sortOf_2 1 rfl rfl)
theorem dX1_sortOf_107 : decode cX1_sortOf 107 = .ok (.invokevirtual 36, 3) := dk_182 0 36 (dk_at dksX1_sortOf_2 3 rfl rfl)
theorem dX1_sortOf_110 : decode cX1_sortOf 110 = .ok (.ifCond .eq 135, 3) := dk_153 0 135 (dk_at dksX1_sortOf_2 6 rfl rfl)
theorem dX1_sortOf_113 : decode cX1_sortOf 113 = .ok (.iconst 0, 1) := dk_3 (dk_at dksX1_sortOf_2 9 rfl rfl)
theorem dX1_sortOf_114 : decode cX1_sortOf 114 = .ok (.istore_n 2, 1) := dk_61 (dk_at dksX1_sortOf_2 10 rfl rfl)
theorem dX1_sortOf_115 : decode cX1_sortOf 115 = .ok (.goto 130, 3) := dk_167 0 130 (dk_at dksX1_sortOf_2 11 rfl rfl)
theorem dX1_sortOf_118 : decode cX1_sortOf 118 = .ok (.aload_n 1, 1) := dk_43 (dk_at dksX1_sortOf_2 14 rfl rfl)
theorem dX1_sortOf_119 : decode cX1_sortOf 119 = .ok (.ldc 40, 2) := dk_18 40 (dk_at dksX1_sortOf_2 15 rfl rfl)
theorem dX1_sortOf_121 : decode cX1_sortOf 121 = .ok (.invokevirtual 36, 3) := dk_182 0 36 (dk_at dksX1_sortOf_2 17 rfl rfl)
theorem dX1_sortOf_124 : decode cX1_sortOf 124 = .ok (.ifCond .eq 121, 3) := dk_153 0 121 (dk_at dksX1_sortOf_2 20 rfl rfl)
theorem dX1_sortOf_127 : decode cX1_sortOf 127 = .ok (.iconst 1, 1) := dk_4 (dk_at dksX1_sortOf_2 23 rfl rfl)
theorem dX1_sortOf_128 : decode cX1_sortOf 128 = .ok (.istore_n 2, 1) := dk_61 (dk_at dksX1_sortOf_3 0 rfl rfl)
theorem dX1_sortOf_129 : decode cX1_sortOf 129 = .ok (.goto 116, 3) := dk_167 0 116 (dk_at dksX1_sortOf_3 1 rfl rfl)
theorem dX1_sortOf_132 : decode cX1_sortOf 132 = .ok (.aload_n 1, 1) := dk_43 (dk_at dksX1_sortOf_3 4 rfl rfl)
theorem dX1_sortOf_133 : decode cX1_sortOf 133 = .ok (.ldc 42, 2) := dk_18 42 (dk_at dksX1_sortOf_3 5 rfl rfl)
theorem dX1_sortOf_135 : decode cX1_sortOf 135 = .ok (.invokevirtual 36, 3) := dk_182 0 36 (dk_at dksX1_sortOf_3 7 rfl rfl)
theorem dX1_sortOf_138 : decode cX1_sortOf 138 = .ok (.ifCond .eq 107, 3) := dk_153 0 107 (dk_at dksX1_sortOf_3 10 rfl rfl)
theorem dX1_sortOf_141 : decode cX1_sortOf 141 = .ok (.iconst 2, 1) := dk_5 (dk_at dksX1_sortOf_3 13 rfl rfl)
theorem dX1_sortOf_142 : decode cX1_sortOf 142 = .ok (.istore_n 2, 1) := dk_61 (dk_at dksX1_sortOf_3 14 rfl rfl)
theorem dX1_sortOf_143 : decode cX1_sortOf 143 = .ok (.goto 102, 3) := dk_167 0 102 (dk_at dksX1_sortOf_3 15 rfl rfl)
theorem dX1_sortOf_146 : decode cX1_sortOf 146 = .ok (.aload_n 1, 1) := dk_43 (dk_at dksX1_sortOf_3 18 rfl rfl)
theorem dX1_sortOf_147 : decode cX1_sortOf 147 = .ok (.ldc 44, 2) := dk_18 44 (dk_at dksX1_sortOf_3 19 rfl rfl)
theorem dX1_sortOf_149 : decode cX1_sortOf 149 = .ok (.invokevirtual 36, 3) := dk_182 0 36 (dk_at dksX1_sortOf_3 21 rfl rfl)
theorem dX1_sortOf_152 : decode cX1_sortOf 152 = .ok (.ifCond .eq 93, 3) := dk_153 0 93 (dk_at dksX1_sortOf_4 0 rfl rfl)
theorem dX1_sortOf_155 : decode cX1_sortOf 155 = .ok (.iconst 3, 1) := dk_6 (dk_at dksX1_sortOf_4 3 rfl rfl)
theorem dX1_sortOf_156 : decode cX1_sortOf 156 = .ok (.istore_n 2, 1) := dk_61 (dk_at dksX1_sortOf_4 4 rfl rfl)
theorem dX1_sortOf_157 : decode cX1_sortOf 157 = .ok (.goto 88, 3) := dk_167 0 88 (dk_at dksX1_sortOf_4 5 rfl rfl)
theorem dX1_sortOf_160 : decode cX1_sortOf 160 = .ok (.aload_n 1, 1) := dk_43 (dk_at dksX1_sortOf_4 8 rfl rfl)
theorem dX1_sortOf_161 : decode cX1_sortOf 161 = .ok (.ldc 46, 2) := dk_18 46 (dk_at dksX1_sortOf_4 9 rfl rfl)
theorem dX1_sortOf_163 : decode cX1_sortOf 163 = .ok (.invokevirtual 36, 3) := dk_182 0 36 (dk_at dksX1_sortOf_4 11 rfl rfl)
theorem dX1_sortOf_166 : decode cX1_sortOf 166 = .ok (.ifCond .eq 79, 3) := dk_153 0 79 (dk_at dksX1_sortOf_4 14 rfl rfl)
theorem dX1_sortOf_169 : decode cX1_sortOf 169 = .ok (.iconst 4, 1) := dk_7 (dk_at dksX1_sortOf_4 17 rfl rfl)
theorem dX1_sortOf_170 : decode cX1_sortOf 170 = .ok (.istore_n 2, 1) := dk_61 (dk_at dksX1_sortOf_4 18 rfl rfl)
theorem dX1_sortOf_171 : decode cX1_sortOf 171 = .ok (.goto 74, 3) := dk_167 0 74 (dk_at dksX1_sortOf_4 19 rfl rfl)
theorem dX1_sortOf_174 : decode cX1_sortOf 174 = .ok (.aload_n 1, 1) := dk_43 (dk_at dksX1_sortOf_4 22 rfl rfl)
theorem dX1_sortOf_175 : decode cX1_sortOf 175 = .ok (.ldc 48, 2) := dk_18 48 (dk_at dksX1_sortOf_5 0 rfl rfl)
theorem dX1_sortOf_177 : decode cX1_sortOf 177 = .ok (.invokevirtual 36, 3) := dk_182 0 36 (dk_at dksX1_sortOf_5 2 rfl rfl)
theorem dX1_sortOf_180 : decode cX1_sortOf 180 = .ok (.ifCond .eq 65, 3) := dk_153 0 65 (dk_at dksX1_sortOf_5 5 rfl rfl)
theorem dX1_sortOf_183 : decode cX1_sortOf 183 = .ok (.iconst 5, 1) := dk_8 (dk_at dksX1_sortOf_5 8 rfl rfl)
theorem dX1_sortOf_184 : decode cX1_sortOf 184 = .ok (.istore_n 2, 1) := dk_61 (dk_at dksX1_sortOf_5 9 rfl rfl)
theorem dX1_sortOf_185 : decode cX1_sortOf 185 = .ok (.goto 60, 3) := dk_167 0 60 (dk_at dksX1_sortOf_5 10 rfl rfl)
theorem dX1_sortOf_188 : decode cX1_sortOf 188 = .ok (.aload_n 1, 1) := dk_43 (dk_at dksX1_sortOf_5 13 rfl rfl)
theorem dX1_sortOf_189 : decode cX1_sortOf 189 = .ok (.ldc 50, 2) := dk_18 50 (dk_at dksX1_sortOf_5 14 rfl rfl)
theorem dX1_sortOf_191 : decode cX1_sortOf 191 = .ok (.invokevirtual 36, 3) := dk_182 0 36 (dk_at dksX1_sortOf_5 16 rfl rfl)
theorem dX1_sortOf_194 : decode cX1_sortOf 194 = .ok (.ifCond .eq 51, 3) := dk_153 0 51 (dk_at dksX1_sortOf_5 19 rfl rfl)
theorem dX1_sortOf_197 : decode cX1_sortOf 197 = .ok (.bipush 6, 2) := dk_16 6 (dk_at dksX1_sortOf_5 22 rfl rfl)
theorem dX1_sortOf_199 : decode cX1_sortOf 199 = .ok (.istore_n 2, 1) := dk_61 (dk_at dksX1_sortOf_6 0 rfl rfl)
theorem dX1_sortOf_200 : decode cX1_sortOf 200 = .ok (.goto 45, 3) := dk_167 0 45 (dk_at dksX1_sortOf_6 1 rfl rfl)
theorem dX1_sortOf_203 : decode cX1_sortOf 203 = .ok (.aload_n 1, 1) := dk_43 (dk_at dksX1_sortOf_6 4 rfl rfl)
theorem dX1_sortOf_204 : decode cX1_sortOf 204 = .ok (.ldc 52, 2) := dk_18 52 (dk_at dksX1_sortOf_6 5 rfl rfl)
theorem dX1_sortOf_206 : decode cX1_sortOf 206 = .ok (.invokevirtual 36, 3) := dk_182 0 36 (dk_at dksX1_sortOf_6 7 rfl rfl)
theorem dX1_sortOf_209 : decode cX1_sortOf 209 = .ok (.ifCond .eq 36, 3) := dk_153 0 36 (dk_at dksX1_sortOf_6 10 rfl rfl)
theorem dX1_sortOf_212 : decode cX1_sortOf 212 = .ok (.bipush 7, 2) := dk_16 7 (dk_at dksX1_sortOf_6 13 rfl rfl)
theorem dX1_sortOf_214 : decode cX1_sortOf 214 = .ok (.istore_n 2, 1) := dk_61 (dk_at dksX1_sortOf_6 15 rfl rfl)
theorem dX1_sortOf_215 : decode cX1_sortOf 215 = .ok (.goto 30, 3) := dk_167 0 30 (dk_at dksX1_sortOf_6 16 rfl rfl)
theorem dX1_sortOf_218 : decode cX1_sortOf 218 = .ok (.aload_n 1, 1) := dk_43 (dk_at dksX1_sortOf_6 19 rfl rfl)
theorem dX1_sortOf_219 : decode cX1_sortOf 219 = .ok (.ldc 54, 2) := dk_18 54 (dk_at dksX1_sortOf_6 20 rfl rfl)
theorem dX1_sortOf_221 : decode cX1_sortOf 221 = .ok (.invokevirtual 36, 3) := dk_182 0 36 (dk_at dksX1_sortOf_7 0 rfl rfl)
theorem dX1_sortOf_224 : decode cX1_sortOf 224 = .ok (.ifCond .eq 21, 3) := dk_153 0 21 (dk_at dksX1_sortOf_7 3 rfl rfl)
theorem dX1_sortOf_227 : decode cX1_sortOf 227 = .ok (.bipush 8, 2) := dk_16 8 (dk_at dksX1_sortOf_7 6 rfl rfl)
theorem dX1_sortOf_229 : decode cX1_sortOf 229 = .ok (.istore_n 2, 1) := dk_61 (dk_at dksX1_sortOf_7 8 rfl rfl)
theorem dX1_sortOf_230 : decode cX1_sortOf 230 = .ok (.goto 15, 3) := dk_167 0 15 (dk_at dksX1_sortOf_7 9 rfl rfl)
theorem dX1_sortOf_233 : decode cX1_sortOf 233 = .ok (.aload_n 1, 1) := dk_43 (dk_at dksX1_sortOf_7 12 rfl rfl)
theorem dX1_sortOf_234 : decode cX1_sortOf 234 = .ok (.ldc 56, 2) := dk_18 56 (dk_at dksX1_sortOf_7 13 rfl rfl)
theorem dX1_sortOf_236 : decode cX1_sortOf 236 = .ok (.invokevirtual 36, 3) := dk_182 0 36 (dk_at dksX1_sortOf_7 15 rfl rfl)
theorem dX1_sortOf_239 : decode cX1_sortOf 239 = .ok (.ifCond .eq 6, 3) := dk_153 0 6 (dk_at dksX1_sortOf_7 18 rfl rfl)
theorem dX1_sortOf_242 : decode cX1_sortOf 242 = .ok (.bipush 9, 2) := dk_16 9 (dk_at dksX1_sortOf_7 21 rfl rfl)
theorem dX1_sortOf_244 : decode cX1_sortOf 244 = .ok (.istore_n 2, 1) := dk_61 (dk_at dksX1_sortOf_7 23 rfl rfl)
theorem dX1_sortOf_245 : decode cX1_sortOf 245 = .ok (.iload_n 2, 1) := dk_28 (dk_at dksX1_sortOf_8 0 rfl rfl)
theorem dX1_sortOf_246 : decode cX1_sortOf 246 = .ok (.tableswitch 98 0 9 #[54, 58, 62, 66, 70, 74, 78, 83, 88, 93], 54) := by decide +kernel
theorem dX1_sortOf_300 : decode cX1_sortOf 300 = .ok (.iconst 0, 1) := dk_3 (dk_at dksX1_sortOf_10 0 rfl rfl)
theorem dX1_sortOf_301 : decode cX1_sortOf 301 = .ok (.goto 44, 3) := dk_167 0 44 (dk_at dksX1_sortOf_10 1 rfl rfl)
theorem dX1_sortOf_304 : decode cX1_sortOf 304 = .ok (.iconst 1, 1) := dk_4 (dk_at dksX1_sortOf_10 4 rfl rfl)
theorem dX1_sortOf_305 : decode cX1_sortOf 305 = .ok (.goto 40, 3) := dk_167 0 40 (dk_at dksX1_sortOf_10 5 rfl rfl)
theorem dX1_sortOf_308 : decode cX1_sortOf 308 = .ok (.iconst 2, 1) := dk_5 (dk_at dksX1_sortOf_10 8 rfl rfl)
theorem dX1_sortOf_309 : decode cX1_sortOf 309 = .ok (.goto 36, 3) := dk_167 0 36 (dk_at dksX1_sortOf_10 9 rfl rfl)
theorem dX1_sortOf_312 : decode cX1_sortOf 312 = .ok (.iconst 3, 1) := dk_6 (dk_at dksX1_sortOf_10 12 rfl rfl)
theorem dX1_sortOf_313 : decode cX1_sortOf 313 = .ok (.goto 32, 3) := dk_167 0 32 (dk_at dksX1_sortOf_10 13 rfl rfl)
theorem dX1_sortOf_316 : decode cX1_sortOf 316 = .ok (.iconst 4, 1) := dk_7 (dk_at dksX1_sortOf_10 16 rfl rfl)
theorem dX1_sortOf_317 : decode cX1_sortOf 317 = .ok (.goto 28, 3) := dk_167 0 28 (dk_at dksX1_sortOf_10 17 rfl rfl)
theorem dX1_sortOf_320 : decode cX1_sortOf 320 = .ok (.iconst 5, 1) := dk_8 (dk_at dksX1_sortOf_10 20 rfl rfl)
theorem dX1_sortOf_321 : decode cX1_sortOf 321 = .ok (.goto 24, 3) := dk_167 0 24 (dk_at dksX1_sortOf_10 21 rfl rfl)
theorem dX1_sortOf_324 : decode cX1_sortOf 324 = .ok (.bipush 6, 2) := dk_16 6 (dk_at dksX1_sortOf_11 0 rfl rfl)
theorem dX1_sortOf_326 : decode cX1_sortOf 326 = .ok (.goto 19, 3) := dk_167 0 19 (dk_at dksX1_sortOf_11 2 rfl rfl)
theorem dX1_sortOf_329 : decode cX1_sortOf 329 = .ok (.bipush 7, 2) := dk_16 7 (dk_at dksX1_sortOf_11 5 rfl rfl)
theorem dX1_sortOf_331 : decode cX1_sortOf 331 = .ok (.goto 14, 3) := dk_167 0 14 (dk_at dksX1_sortOf_11 7 rfl rfl)
theorem dX1_sortOf_334 : decode cX1_sortOf 334 = .ok (.bipush 8, 2) := dk_16 8 (dk_at dksX1_sortOf_11 10 rfl rfl)
theorem dX1_sortOf_336 : decode cX1_sortOf 336 = .ok (.goto 9, 3) := dk_167 0 9 (dk_at dksX1_sortOf_11 12 rfl rfl)
theorem dX1_sortOf_339 : decode cX1_sortOf 339 = .ok (.bipush 9, 2) := dk_16 9 (dk_at dksX1_sortOf_11 15 rfl rfl)
theorem dX1_sortOf_341 : decode cX1_sortOf 341 = .ok (.goto 4, 3) := dk_167 0 4 (dk_at dksX1_sortOf_11 17 rfl rfl)
theorem dX1_sortOf_344 : decode cX1_sortOf 344 = .ok (.iconst (-1), 1) := dk_2 (dk_at dksX1_sortOf_11 20 rfl rfl)
theorem dX1_sortOf_345 : decode cX1_sortOf 345 = .ok (.ireturn, 1) := dk_172 (dk_at dksX1_sortOf_11 21 rfl rfl)
def dkwX1_numbersOf_2 : List UInt8 := [3, 167, 0, 8, 4, 167, 0, 4, 5, 172]
abbrev dktX1_numbersOf_2 : List UInt8 := dkwX1_numbersOf_2 ++ []
def dkwX1_numbersOf_1 : List UInt8 := [170, 0, 0, 0, 0, 0, 59, 0, 0, 0, 0, 0, 0, 0, 8, 0, 0, 0, 51, 0, 0, 0, 51, 0, 0, 0, 51, 0, 0, 0, 51, 0, 0, 0, 55, 0, 0, 0, 55, 0, 0, 0, 59, 0, 0, 0, 59, 0, 0, 0, 55]
abbrev dktX1_numbersOf_1 : List UInt8 := dkwX1_numbersOf_1 ++ dktX1_numbersOf_2
def dkwX1_numbersOf_0 : List UInt8 := [26]
abbrev dktX1_numbersOf_0 : List UInt8 := dkwX1_numbersOf_0 ++ dktX1_numbersOf_1
theorem dksX1_numbersOf_0 : cX1_numbersOf.data.toList.drop 0 = dktX1_numbersOf_0 := by decide +kernel
theorem dksX1_numbersOf_1 : cX1_numbersOf.data.toList.drop 1 = dktX1_numbersOf_1 := dk_seg dksX1_numbersOf_0 1 rfl rfl
theorem dksX1_numbersOf_2 : cX1_numbersOf.data.toList.drop 52 = dktX1_numbersOf_2 := dk_seg dksX1_numbersOf_1 51 rfl rfl
theorem dX1_numbersOf_0 : decode cX1_numbersOf 0 = .ok (.iload_n 0, 1) := dk_26 (dk_at dksX1_numbersOf_0 0 rfl rfl)
theorem dX1_numbersOf_1 : decode cX1_numbersOf 1 = .ok (.tableswitch 59 0 8 #[51, 51, 51, 51, 55, 55, 59, 59, 55], 51) := by decide +kernel
theorem dX1_numbersOf_52 : decode cX1_numbersOf 52 = .ok (.iconst 0, 1) := dk_3 (dk_at dksX1_numbersOf_2 0 rfl rfl)
theorem dX1_numbersOf_53 : decode cX1_numbersOf 53 = .ok (.goto 8, 3) := dk_167 0 8 (dk_at dksX1_numbersOf_2 1 rfl rfl)
theorem dX1_numbersOf_56 : decode cX1_numbersOf 56 = .ok (.iconst 1, 1) := dk_4 (dk_at dksX1_numbersOf_2 4 rfl rfl)
theorem dX1_numbersOf_57 : decode cX1_numbersOf 57 = .ok (.goto 4, 3) := dk_167 0 4 (dk_at dksX1_numbersOf_2 5 rfl rfl)
theorem dX1_numbersOf_60 : decode cX1_numbersOf 60 = .ok (.iconst 2, 1) := dk_5 (dk_at dksX1_numbersOf_2 8 rfl rfl)
theorem dX1_numbersOf_61 : decode cX1_numbersOf 61 = .ok (.ireturn, 1) := dk_172 (dk_at dksX1_numbersOf_2 9 rfl rfl)
def dkwX1_text_4 : List UInt8 := [181, 0, 198, 42, 3, 181, 0, 201, 42, 180, 0, 141, 180, 0, 205, 180, 0, 208, 172]
abbrev dktX1_text_4 : List UInt8 := dkwX1_text_4 ++ []
def dkwX1_text_3 : List UInt8 := [100, 172, 42, 42, 180, 0, 172, 181, 0, 158, 42, 180, 0, 141, 42, 180, 0, 158, 182, 0, 194, 42, 3]
abbrev dktX1_text_3 : List UInt8 := dkwX1_text_3 ++ dktX1_text_4
def dkwX1_text_2 : List UInt8 := [42, 180, 0, 188, 42, 180, 0, 179, 83, 42, 89, 180, 0, 188, 4, 96, 181, 0, 188, 42, 180, 0, 188, 4]
abbrev dktX1_text_2 : List UInt8 := dkwX1_text_2 ++ dktX1_text_3
def dkwX1_text_1 : List UInt8 := [27, 182, 0, 191, 2, 159, 0, 5, 2, 172, 42, 3, 181, 0, 61, 27, 4, 160, 0, 33, 42, 180, 0, 111]
abbrev dktX1_text_1 : List UInt8 := dkwX1_text_1 ++ dktX1_text_2
def dkwX1_text_0 : List UInt8 := [27, 133, 9, 10, 184, 0, 162, 153, 0, 25, 27, 4, 160, 0, 11, 42, 180, 0, 188, 7, 159, 0, 12, 42]
abbrev dktX1_text_0 : List UInt8 := dkwX1_text_0 ++ dktX1_text_1
theorem dksX1_text_0 : cX1_text.data.toList.drop 0 = dktX1_text_0 := by decide +kernel
theorem dksX1_text_1 : cX1_text.data.toList.drop 24 = dktX1_text_1 := dk_seg dksX1_text_0 24 rfl rfl
theorem dksX1_text_2 : cX1_text.data.toList.drop 48 = dktX1_text_2 := dk_seg dksX1_text_1 24 rfl rfl
theorem dksX1_text_3 : cX1_text.data.toList.drop 72 = dktX1_text_3 := dk_seg dksX1_text_2 24 rfl rfl
theorem dksX1_text_4 : cX1_text.data.toList.drop 95 = dktX1_text_4 := dk_seg dksX1_text_3 23 rfl rfl
theorem dX1_text_0 : decode cX1_text 0 = .ok (.iload_n 1, 1) := dk_27 (dk_at dksX1_text_0 0 rfl rfl)
theorem dX1_text_1 : decode cX1_text 1 = .ok (.i2l, 1) := dk_133 (dk_at dksX1_text_0 1 rfl rfl)
theorem dX1_text_2 : decode cX1_text 2 = .ok (.lconst 0, 1) := dk_9 (dk_at dksX1_text_0 2 rfl rfl)
theorem dX1_text_3 : decode cX1_text 3 = .ok (.lconst 1, 1) := dk_10 (dk_at dksX1_text_0 3 rfl rfl)
theorem dX1_text_4 : decode cX1_text 4 = .ok (.invokestatic 162, 3) := dk_184 0 162 (dk_at dksX1_text_0 4 rfl rfl)
theorem dX1_text_7 : decode cX1_text 7 = .ok (.ifCond .eq 25, 3) := dk_153 0 25 (dk_at dksX1_text_0 7 rfl rfl)
theorem dX1_text_10 : decode cX1_text 10 = .ok (.iload_n 1, 1) := dk_27 (dk_at dksX1_text_0 10 rfl rfl)
theorem dX1_text_11 : decode cX1_text 11 = .ok (.iconst 1, 1) := dk_4 (dk_at dksX1_text_0 11 rfl rfl)
theorem dX1_text_12 : decode cX1_text 12 = .ok (.if_icmp .ne 11, 3) := dk_160 0 11 (dk_at dksX1_text_0 12 rfl rfl)
theorem dX1_text_15 : decode cX1_text 15 = .ok (.aload_n 0, 1) := dk_42 (dk_at dksX1_text_0 15 rfl rfl)
theorem dX1_text_16 : decode cX1_text 16 = .ok (.getfield 188, 3) := dk_180 0 188 (dk_at dksX1_text_0 16 rfl rfl)
theorem dX1_text_19 : decode cX1_text 19 = .ok (.iconst 4, 1) := dk_7 (dk_at dksX1_text_0 19 rfl rfl)
theorem dX1_text_20 : decode cX1_text 20 = .ok (.if_icmp .eq 12, 3) := dk_159 0 12 (dk_at dksX1_text_0 20 rfl rfl)
theorem dX1_text_23 : decode cX1_text 23 = .ok (.aload_n 0, 1) := dk_42 (dk_at dksX1_text_0 23 rfl rfl)
theorem dX1_text_24 : decode cX1_text 24 = .ok (.iload_n 1, 1) := dk_27 (dk_at dksX1_text_1 0 rfl rfl)
theorem dX1_text_25 : decode cX1_text 25 = .ok (.invokevirtual 191, 3) := dk_182 0 191 (dk_at dksX1_text_1 1 rfl rfl)
theorem dX1_text_28 : decode cX1_text 28 = .ok (.iconst (-1), 1) := dk_2 (dk_at dksX1_text_1 4 rfl rfl)
theorem dX1_text_29 : decode cX1_text 29 = .ok (.if_icmp .eq 5, 3) := dk_159 0 5 (dk_at dksX1_text_1 5 rfl rfl)
theorem dX1_text_32 : decode cX1_text 32 = .ok (.iconst (-1), 1) := dk_2 (dk_at dksX1_text_1 8 rfl rfl)
theorem dX1_text_33 : decode cX1_text 33 = .ok (.ireturn, 1) := dk_172 (dk_at dksX1_text_1 9 rfl rfl)
theorem dX1_text_34 : decode cX1_text 34 = .ok (.aload_n 0, 1) := dk_42 (dk_at dksX1_text_1 10 rfl rfl)
theorem dX1_text_35 : decode cX1_text 35 = .ok (.iconst 0, 1) := dk_3 (dk_at dksX1_text_1 11 rfl rfl)
theorem dX1_text_36 : decode cX1_text 36 = .ok (.putfield 61, 3) := dk_181 0 61 (dk_at dksX1_text_1 12 rfl rfl)
theorem dX1_text_39 : decode cX1_text 39 = .ok (.iload_n 1, 1) := dk_27 (dk_at dksX1_text_1 15 rfl rfl)
theorem dX1_text_40 : decode cX1_text 40 = .ok (.iconst 1, 1) := dk_4 (dk_at dksX1_text_1 16 rfl rfl)
theorem dX1_text_41 : decode cX1_text 41 = .ok (.if_icmp .ne 33, 3) := dk_160 0 33 (dk_at dksX1_text_1 17 rfl rfl)
theorem dX1_text_44 : decode cX1_text 44 = .ok (.aload_n 0, 1) := dk_42 (dk_at dksX1_text_1 20 rfl rfl)
theorem dX1_text_45 : decode cX1_text 45 = .ok (.getfield 111, 3) := dk_180 0 111 (dk_at dksX1_text_1 21 rfl rfl)
theorem dX1_text_48 : decode cX1_text 48 = .ok (.aload_n 0, 1) := dk_42 (dk_at dksX1_text_2 0 rfl rfl)
theorem dX1_text_49 : decode cX1_text 49 = .ok (.getfield 188, 3) := dk_180 0 188 (dk_at dksX1_text_2 1 rfl rfl)
theorem dX1_text_52 : decode cX1_text 52 = .ok (.aload_n 0, 1) := dk_42 (dk_at dksX1_text_2 4 rfl rfl)
theorem dX1_text_53 : decode cX1_text 53 = .ok (.getfield 179, 3) := dk_180 0 179 (dk_at dksX1_text_2 5 rfl rfl)
theorem dX1_text_56 : decode cX1_text 56 = .ok (.aastore, 1) := dk_83 (dk_at dksX1_text_2 8 rfl rfl)
theorem dX1_text_57 : decode cX1_text 57 = .ok (.aload_n 0, 1) := dk_42 (dk_at dksX1_text_2 9 rfl rfl)
theorem dX1_text_58 : decode cX1_text 58 = .ok (.dup, 1) := dk_89 (dk_at dksX1_text_2 10 rfl rfl)
theorem dX1_text_59 : decode cX1_text 59 = .ok (.getfield 188, 3) := dk_180 0 188 (dk_at dksX1_text_2 11 rfl rfl)
theorem dX1_text_62 : decode cX1_text 62 = .ok (.iconst 1, 1) := dk_4 (dk_at dksX1_text_2 14 rfl rfl)
theorem dX1_text_63 : decode cX1_text 63 = .ok (.iadd, 1) := dk_96 (dk_at dksX1_text_2 15 rfl rfl)
theorem dX1_text_64 : decode cX1_text 64 = .ok (.putfield 188, 3) := dk_181 0 188 (dk_at dksX1_text_2 16 rfl rfl)
theorem dX1_text_67 : decode cX1_text 67 = .ok (.aload_n 0, 1) := dk_42 (dk_at dksX1_text_2 19 rfl rfl)
theorem dX1_text_68 : decode cX1_text 68 = .ok (.getfield 188, 3) := dk_180 0 188 (dk_at dksX1_text_2 20 rfl rfl)
theorem dX1_text_71 : decode cX1_text 71 = .ok (.iconst 1, 1) := dk_4 (dk_at dksX1_text_2 23 rfl rfl)
theorem dX1_text_72 : decode cX1_text 72 = .ok (.isub, 1) := dk_100 (dk_at dksX1_text_3 0 rfl rfl)
theorem dX1_text_73 : decode cX1_text 73 = .ok (.ireturn, 1) := dk_172 (dk_at dksX1_text_3 1 rfl rfl)
theorem dX1_text_74 : decode cX1_text 74 = .ok (.aload_n 0, 1) := dk_42 (dk_at dksX1_text_3 2 rfl rfl)
theorem dX1_text_75 : decode cX1_text 75 = .ok (.aload_n 0, 1) := dk_42 (dk_at dksX1_text_3 3 rfl rfl)
theorem dX1_text_76 : decode cX1_text 76 = .ok (.getfield 172, 3) := dk_180 0 172 (dk_at dksX1_text_3 4 rfl rfl)
theorem dX1_text_79 : decode cX1_text 79 = .ok (.putfield 158, 3) := dk_181 0 158 (dk_at dksX1_text_3 7 rfl rfl)
theorem dX1_text_82 : decode cX1_text 82 = .ok (.aload_n 0, 1) := dk_42 (dk_at dksX1_text_3 10 rfl rfl)
theorem dX1_text_83 : decode cX1_text 83 = .ok (.getfield 141, 3) := dk_180 0 141 (dk_at dksX1_text_3 11 rfl rfl)
theorem dX1_text_86 : decode cX1_text 86 = .ok (.aload_n 0, 1) := dk_42 (dk_at dksX1_text_3 14 rfl rfl)
theorem dX1_text_87 : decode cX1_text 87 = .ok (.getfield 158, 3) := dk_180 0 158 (dk_at dksX1_text_3 15 rfl rfl)
theorem dX1_text_90 : decode cX1_text 90 = .ok (.invokevirtual 194, 3) := dk_182 0 194 (dk_at dksX1_text_3 18 rfl rfl)
theorem dX1_text_93 : decode cX1_text 93 = .ok (.aload_n 0, 1) := dk_42 (dk_at dksX1_text_3 21 rfl rfl)
theorem dX1_text_94 : decode cX1_text 94 = .ok (.iconst 0, 1) := dk_3 (dk_at dksX1_text_3 22 rfl rfl)
theorem dX1_text_95 : decode cX1_text 95 = .ok (.putfield 198, 3) := dk_181 0 198 (dk_at dksX1_text_4 0 rfl rfl)
theorem dX1_text_98 : decode cX1_text 98 = .ok (.aload_n 0, 1) := dk_42 (dk_at dksX1_text_4 3 rfl rfl)
theorem dX1_text_99 : decode cX1_text 99 = .ok (.iconst 0, 1) := dk_3 (dk_at dksX1_text_4 4 rfl rfl)
theorem dX1_text_100 : decode cX1_text 100 = .ok (.putfield 201, 3) := dk_181 0 201 (dk_at dksX1_text_4 5 rfl rfl)
theorem dX1_text_103 : decode cX1_text 103 = .ok (.aload_n 0, 1) := dk_42 (dk_at dksX1_text_4 8 rfl rfl)
theorem dX1_text_104 : decode cX1_text 104 = .ok (.getfield 141, 3) := dk_180 0 141 (dk_at dksX1_text_4 9 rfl rfl)
theorem dX1_text_107 : decode cX1_text 107 = .ok (.getfield 205, 3) := dk_180 0 205 (dk_at dksX1_text_4 12 rfl rfl)
theorem dX1_text_110 : decode cX1_text 110 = .ok (.getfield 208, 3) := dk_180 0 208 (dk_at dksX1_text_4 15 rfl rfl)
theorem dX1_text_113 : decode cX1_text 113 = .ok (.ireturn, 1) := dk_172 (dk_at dksX1_text_4 18 rfl rfl)
def dkwX1_smooth_0 : List UInt8 := [42, 3, 3, 3, 182, 0, 237, 172]
abbrev dktX1_smooth_0 : List UInt8 := dkwX1_smooth_0 ++ []
theorem dksX1_smooth_0 : cX1_smooth.data.toList.drop 0 = dktX1_smooth_0 := by decide +kernel
theorem dX1_smooth_0 : decode cX1_smooth 0 = .ok (.aload_n 0, 1) := dk_42 (dk_at dksX1_smooth_0 0 rfl rfl)
theorem dX1_smooth_1 : decode cX1_smooth 1 = .ok (.iconst 0, 1) := dk_3 (dk_at dksX1_smooth_0 1 rfl rfl)
theorem dX1_smooth_2 : decode cX1_smooth 2 = .ok (.iconst 0, 1) := dk_3 (dk_at dksX1_smooth_0 2 rfl rfl)
theorem dX1_smooth_3 : decode cX1_smooth 3 = .ok (.iconst 0, 1) := dk_3 (dk_at dksX1_smooth_0 3 rfl rfl)
theorem dX1_smooth_4 : decode cX1_smooth 4 = .ok (.invokevirtual 237, 3) := dk_182 0 237 (dk_at dksX1_smooth_0 4 rfl rfl)
theorem dX1_smooth_7 : decode cX1_smooth 7 = .ok (.ireturn, 1) := dk_172 (dk_at dksX1_smooth_0 7 rfl rfl)
def dkwX1_act_1 : List UInt8 := [160, 0, 11, 42, 180, 0, 141, 180, 0, 234, 172, 42, 180, 0, 115, 21, 4, 92, 46, 4, 96, 79, 2, 172]
abbrev dktX1_act_1 : List UInt8 := dkwX1_act_1 ++ []
def dkwX1_act_0 : List UInt8 := [42, 180, 0, 158, 199, 0, 7, 3, 167, 0, 10, 42, 27, 28, 29, 182, 0, 231, 54, 4, 21, 4, 2]
abbrev dktX1_act_0 : List UInt8 := dkwX1_act_0 ++ dktX1_act_1
theorem dksX1_act_0 : cX1_act.data.toList.drop 0 = dktX1_act_0 := by decide +kernel
theorem dksX1_act_1 : cX1_act.data.toList.drop 23 = dktX1_act_1 := dk_seg dksX1_act_0 23 rfl rfl
theorem dX1_act_0 : decode cX1_act 0 = .ok (.aload_n 0, 1) := dk_42 (dk_at dksX1_act_0 0 rfl rfl)
theorem dX1_act_1 : decode cX1_act 1 = .ok (.getfield 158, 3) := dk_180 0 158 (dk_at dksX1_act_0 1 rfl rfl)
theorem dX1_act_4 : decode cX1_act 4 = .ok (.ifnonnull 7, 3) := dk_199 0 7 (dk_at dksX1_act_0 4 rfl rfl)
theorem dX1_act_7 : decode cX1_act 7 = .ok (.iconst 0, 1) := dk_3 (dk_at dksX1_act_0 7 rfl rfl)
theorem dX1_act_8 : decode cX1_act 8 = .ok (.goto 10, 3) := dk_167 0 10 (dk_at dksX1_act_0 8 rfl rfl)
theorem dX1_act_11 : decode cX1_act 11 = .ok (.aload_n 0, 1) := dk_42 (dk_at dksX1_act_0 11 rfl rfl)
theorem dX1_act_12 : decode cX1_act 12 = .ok (.iload_n 1, 1) := dk_27 (dk_at dksX1_act_0 12 rfl rfl)
theorem dX1_act_13 : decode cX1_act 13 = .ok (.iload_n 2, 1) := dk_28 (dk_at dksX1_act_0 13 rfl rfl)
theorem dX1_act_14 : decode cX1_act 14 = .ok (.iload_n 3, 1) := dk_29 (dk_at dksX1_act_0 14 rfl rfl)
theorem dX1_act_15 : decode cX1_act 15 = .ok (.invokevirtual 231, 3) := dk_182 0 231 (dk_at dksX1_act_0 15 rfl rfl)
theorem dX1_act_18 : decode cX1_act 18 = .ok (.istore 4, 2) := dk_54 4 (dk_at dksX1_act_0 18 rfl rfl)
theorem dX1_act_20 : decode cX1_act 20 = .ok (.iload 4, 2) := dk_21 4 (dk_at dksX1_act_0 20 rfl rfl)
theorem dX1_act_22 : decode cX1_act 22 = .ok (.iconst (-1), 1) := dk_2 (dk_at dksX1_act_0 22 rfl rfl)
theorem dX1_act_23 : decode cX1_act 23 = .ok (.if_icmp .ne 11, 3) := dk_160 0 11 (dk_at dksX1_act_1 0 rfl rfl)
theorem dX1_act_26 : decode cX1_act 26 = .ok (.aload_n 0, 1) := dk_42 (dk_at dksX1_act_1 3 rfl rfl)
theorem dX1_act_27 : decode cX1_act 27 = .ok (.getfield 141, 3) := dk_180 0 141 (dk_at dksX1_act_1 4 rfl rfl)
theorem dX1_act_30 : decode cX1_act 30 = .ok (.getfield 234, 3) := dk_180 0 234 (dk_at dksX1_act_1 7 rfl rfl)
theorem dX1_act_33 : decode cX1_act 33 = .ok (.ireturn, 1) := dk_172 (dk_at dksX1_act_1 10 rfl rfl)
theorem dX1_act_34 : decode cX1_act 34 = .ok (.aload_n 0, 1) := dk_42 (dk_at dksX1_act_1 11 rfl rfl)
theorem dX1_act_35 : decode cX1_act 35 = .ok (.getfield 115, 3) := dk_180 0 115 (dk_at dksX1_act_1 12 rfl rfl)
theorem dX1_act_38 : decode cX1_act 38 = .ok (.iload 4, 2) := dk_21 4 (dk_at dksX1_act_1 15 rfl rfl)
theorem dX1_act_40 : decode cX1_act 40 = .ok (.dup2, 1) := dk_92 (dk_at dksX1_act_1 17 rfl rfl)
theorem dX1_act_41 : decode cX1_act 41 = .ok (.iaload, 1) := dk_46 (dk_at dksX1_act_1 18 rfl rfl)
theorem dX1_act_42 : decode cX1_act 42 = .ok (.iconst 1, 1) := dk_4 (dk_at dksX1_act_1 19 rfl rfl)
theorem dX1_act_43 : decode cX1_act 43 = .ok (.iadd, 1) := dk_96 (dk_at dksX1_act_1 20 rfl rfl)
theorem dX1_act_44 : decode cX1_act 44 = .ok (.iastore, 1) := dk_79 (dk_at dksX1_act_1 21 rfl rfl)
theorem dX1_act_45 : decode cX1_act 45 = .ok (.iconst (-1), 1) := dk_2 (dk_at dksX1_act_1 22 rfl rfl)
theorem dX1_act_46 : decode cX1_act 46 = .ok (.ireturn, 1) := dk_172 (dk_at dksX1_act_1 23 rfl rfl)
def dkwX1_acts_5 : List UInt8 := [3, 167, 0, 4, 28, 42, 180, 0, 141, 182, 0, 224, 182, 0, 227, 2, 172]
abbrev dktX1_acts_5 : List UInt8 := dkwX1_acts_5 ++ []
def dkwX1_acts_4 : List UInt8 := [42, 180, 0, 198, 4, 96, 184, 0, 3, 181, 0, 198, 42, 180, 0, 141, 27, 27, 184, 0, 221, 154, 0, 7]
abbrev dktX1_acts_4 : List UInt8 := dkwX1_acts_4 ++ dktX1_acts_5
def dkwX1_acts_3 : List UInt8 := [50, 42, 180, 0, 151, 182, 0, 211, 42, 42, 180, 0, 218, 4, 96, 16, 40, 112, 181, 0, 218, 42, 16, 40]
abbrev dktX1_acts_3 : List UInt8 := dkwX1_acts_3 ++ dktX1_acts_4
def dkwX1_acts_2 : List UInt8 := [180, 0, 154, 42, 180, 0, 218, 187, 0, 136, 89, 42, 183, 0, 138, 83, 42, 180, 0, 154, 42, 180, 0, 218]
abbrev dktX1_acts_2 : List UInt8 := dkwX1_acts_2 ++ dktX1_acts_3
def dkwX1_acts_1 : List UInt8 := [21, 4, 2, 159, 0, 6, 21, 4, 172, 42, 180, 0, 154, 42, 180, 0, 218, 50, 199, 0, 20, 42]
abbrev dktX1_acts_1 : List UInt8 := dkwX1_acts_1 ++ dktX1_acts_2
def dkwX1_acts_0 : List UInt8 := [42, 180, 0, 151, 42, 180, 0, 141, 182, 0, 211, 42, 180, 0, 141, 27, 28, 29, 182, 0, 215, 54, 4]
abbrev dktX1_acts_0 : List UInt8 := dkwX1_acts_0 ++ dktX1_acts_1
theorem dksX1_acts_0 : cX1_acts.data.toList.drop 0 = dktX1_acts_0 := by decide +kernel
theorem dksX1_acts_1 : cX1_acts.data.toList.drop 23 = dktX1_acts_1 := dk_seg dksX1_acts_0 23 rfl rfl
theorem dksX1_acts_2 : cX1_acts.data.toList.drop 45 = dktX1_acts_2 := dk_seg dksX1_acts_1 22 rfl rfl
theorem dksX1_acts_3 : cX1_acts.data.toList.drop 69 = dktX1_acts_3 := dk_seg dksX1_acts_2 24 rfl rfl
theorem dksX1_acts_4 : cX1_acts.data.toList.drop 93 = dktX1_acts_4 := dk_seg dksX1_acts_3 24 rfl rfl
theorem dksX1_acts_5 : cX1_acts.data.toList.drop 117 = dktX1_acts_5 := dk_seg dksX1_acts_4 24 rfl rfl
theorem dX1_acts_0 : decode cX1_acts 0 = .ok (.aload_n 0, 1) := dk_42 (dk_at dksX1_acts_0 0 rfl rfl)
theorem dX1_acts_1 : decode cX1_acts 1 = .ok (.getfield 151, 3) := dk_180 0 151 (dk_at dksX1_acts_0 1 rfl rfl)
theorem dX1_acts_4 : decode cX1_acts 4 = .ok (.aload_n 0, 1) := dk_42 (dk_at dksX1_acts_0 4 rfl rfl)
theorem dX1_acts_5 : decode cX1_acts 5 = .ok (.getfield 141, 3) := dk_180 0 141 (dk_at dksX1_acts_0 5 rfl rfl)
theorem dX1_acts_8 : decode cX1_acts 8 = .ok (.invokevirtual 211, 3) := dk_182 0 211 (dk_at dksX1_acts_0 8 rfl rfl)
theorem dX1_acts_11 : decode cX1_acts 11 = .ok (.aload_n 0, 1) := dk_42 (dk_at dksX1_acts_0 11 rfl rfl)
theorem dX1_acts_12 : decode cX1_acts 12 = .ok (.getfield 141, 3) := dk_180 0 141 (dk_at dksX1_acts_0 12 rfl rfl)
theorem dX1_acts_15 : decode cX1_acts 15 = .ok (.iload_n 1, 1) := dk_27 (dk_at dksX1_acts_0 15 rfl rfl)
theorem dX1_acts_16 : decode cX1_acts 16 = .ok (.iload_n 2, 1) := dk_28 (dk_at dksX1_acts_0 16 rfl rfl)
theorem dX1_acts_17 : decode cX1_acts 17 = .ok (.iload_n 3, 1) := dk_29 (dk_at dksX1_acts_0 17 rfl rfl)
theorem dX1_acts_18 : decode cX1_acts 18 = .ok (.invokevirtual 215, 3) := dk_182 0 215 (dk_at dksX1_acts_0 18 rfl rfl)
theorem dX1_acts_21 : decode cX1_acts 21 = .ok (.istore 4, 2) := dk_54 4 (dk_at dksX1_acts_0 21 rfl rfl)
theorem dX1_acts_23 : decode cX1_acts 23 = .ok (.iload 4, 2) := dk_21 4 (dk_at dksX1_acts_1 0 rfl rfl)
theorem dX1_acts_25 : decode cX1_acts 25 = .ok (.iconst (-1), 1) := dk_2 (dk_at dksX1_acts_1 2 rfl rfl)
theorem dX1_acts_26 : decode cX1_acts 26 = .ok (.if_icmp .eq 6, 3) := dk_159 0 6 (dk_at dksX1_acts_1 3 rfl rfl)
theorem dX1_acts_29 : decode cX1_acts 29 = .ok (.iload 4, 2) := dk_21 4 (dk_at dksX1_acts_1 6 rfl rfl)
theorem dX1_acts_31 : decode cX1_acts 31 = .ok (.ireturn, 1) := dk_172 (dk_at dksX1_acts_1 8 rfl rfl)
theorem dX1_acts_32 : decode cX1_acts 32 = .ok (.aload_n 0, 1) := dk_42 (dk_at dksX1_acts_1 9 rfl rfl)
theorem dX1_acts_33 : decode cX1_acts 33 = .ok (.getfield 154, 3) := dk_180 0 154 (dk_at dksX1_acts_1 10 rfl rfl)
theorem dX1_acts_36 : decode cX1_acts 36 = .ok (.aload_n 0, 1) := dk_42 (dk_at dksX1_acts_1 13 rfl rfl)
theorem dX1_acts_37 : decode cX1_acts 37 = .ok (.getfield 218, 3) := dk_180 0 218 (dk_at dksX1_acts_1 14 rfl rfl)
theorem dX1_acts_40 : decode cX1_acts 40 = .ok (.aaload, 1) := dk_50 (dk_at dksX1_acts_1 17 rfl rfl)
theorem dX1_acts_41 : decode cX1_acts 41 = .ok (.ifnonnull 20, 3) := dk_199 0 20 (dk_at dksX1_acts_1 18 rfl rfl)
theorem dX1_acts_44 : decode cX1_acts 44 = .ok (.aload_n 0, 1) := dk_42 (dk_at dksX1_acts_1 21 rfl rfl)
theorem dX1_acts_45 : decode cX1_acts 45 = .ok (.getfield 154, 3) := dk_180 0 154 (dk_at dksX1_acts_2 0 rfl rfl)
theorem dX1_acts_48 : decode cX1_acts 48 = .ok (.aload_n 0, 1) := dk_42 (dk_at dksX1_acts_2 3 rfl rfl)
theorem dX1_acts_49 : decode cX1_acts 49 = .ok (.getfield 218, 3) := dk_180 0 218 (dk_at dksX1_acts_2 4 rfl rfl)
theorem dX1_acts_52 : decode cX1_acts 52 = .ok (.new 136, 3) := dk_187 0 136 (dk_at dksX1_acts_2 7 rfl rfl)
theorem dX1_acts_55 : decode cX1_acts 55 = .ok (.dup, 1) := dk_89 (dk_at dksX1_acts_2 10 rfl rfl)
theorem dX1_acts_56 : decode cX1_acts 56 = .ok (.aload_n 0, 1) := dk_42 (dk_at dksX1_acts_2 11 rfl rfl)
theorem dX1_acts_57 : decode cX1_acts 57 = .ok (.invokespecial 138, 3) := dk_183 0 138 (dk_at dksX1_acts_2 12 rfl rfl)
theorem dX1_acts_60 : decode cX1_acts 60 = .ok (.aastore, 1) := dk_83 (dk_at dksX1_acts_2 15 rfl rfl)
theorem dX1_acts_61 : decode cX1_acts 61 = .ok (.aload_n 0, 1) := dk_42 (dk_at dksX1_acts_2 16 rfl rfl)
theorem dX1_acts_62 : decode cX1_acts 62 = .ok (.getfield 154, 3) := dk_180 0 154 (dk_at dksX1_acts_2 17 rfl rfl)
theorem dX1_acts_65 : decode cX1_acts 65 = .ok (.aload_n 0, 1) := dk_42 (dk_at dksX1_acts_2 20 rfl rfl)
theorem dX1_acts_66 : decode cX1_acts 66 = .ok (.getfield 218, 3) := dk_180 0 218 (dk_at dksX1_acts_2 21 rfl rfl)
theorem dX1_acts_69 : decode cX1_acts 69 = .ok (.aaload, 1) := dk_50 (dk_at dksX1_acts_3 0 rfl rfl)
theorem dX1_acts_70 : decode cX1_acts 70 = .ok (.aload_n 0, 1) := dk_42 (dk_at dksX1_acts_3 1 rfl rfl)
theorem dX1_acts_71 : decode cX1_acts 71 = .ok (.getfield 151, 3) := dk_180 0 151 (dk_at dksX1_acts_3 2 rfl rfl)
theorem dX1_acts_74 : decode cX1_acts 74 = .ok (.invokevirtual 211, 3) := dk_182 0 211 (dk_at dksX1_acts_3 5 rfl rfl)
theorem dX1_acts_77 : decode cX1_acts 77 = .ok (.aload_n 0, 1) := dk_42 (dk_at dksX1_acts_3 8 rfl rfl)
theorem dX1_acts_78 : decode cX1_acts 78 = .ok (.aload_n 0, 1) := dk_42 (dk_at dksX1_acts_3 9 rfl rfl)
theorem dX1_acts_79 : decode cX1_acts 79 = .ok (.getfield 218, 3) := dk_180 0 218 (dk_at dksX1_acts_3 10 rfl rfl)
theorem dX1_acts_82 : decode cX1_acts 82 = .ok (.iconst 1, 1) := dk_4 (dk_at dksX1_acts_3 13 rfl rfl)
theorem dX1_acts_83 : decode cX1_acts 83 = .ok (.iadd, 1) := dk_96 (dk_at dksX1_acts_3 14 rfl rfl)
theorem dX1_acts_84 : decode cX1_acts 84 = .ok (.bipush 40, 2) := dk_16 40 (dk_at dksX1_acts_3 15 rfl rfl)
theorem dX1_acts_86 : decode cX1_acts 86 = .ok (.irem, 1) := dk_112 (dk_at dksX1_acts_3 17 rfl rfl)
theorem dX1_acts_87 : decode cX1_acts 87 = .ok (.putfield 218, 3) := dk_181 0 218 (dk_at dksX1_acts_3 18 rfl rfl)
theorem dX1_acts_90 : decode cX1_acts 90 = .ok (.aload_n 0, 1) := dk_42 (dk_at dksX1_acts_3 21 rfl rfl)
theorem dX1_acts_91 : decode cX1_acts 91 = .ok (.bipush 40, 2) := dk_16 40 (dk_at dksX1_acts_3 22 rfl rfl)
theorem dX1_acts_93 : decode cX1_acts 93 = .ok (.aload_n 0, 1) := dk_42 (dk_at dksX1_acts_4 0 rfl rfl)
theorem dX1_acts_94 : decode cX1_acts 94 = .ok (.getfield 198, 3) := dk_180 0 198 (dk_at dksX1_acts_4 1 rfl rfl)
theorem dX1_acts_97 : decode cX1_acts 97 = .ok (.iconst 1, 1) := dk_4 (dk_at dksX1_acts_4 4 rfl rfl)
theorem dX1_acts_98 : decode cX1_acts 98 = .ok (.iadd, 1) := dk_96 (dk_at dksX1_acts_4 5 rfl rfl)
theorem dX1_acts_99 : decode cX1_acts 99 = .ok (.invokestatic 3, 3) := dk_184 0 3 (dk_at dksX1_acts_4 6 rfl rfl)
theorem dX1_acts_102 : decode cX1_acts 102 = .ok (.putfield 198, 3) := dk_181 0 198 (dk_at dksX1_acts_4 9 rfl rfl)
theorem dX1_acts_105 : decode cX1_acts 105 = .ok (.aload_n 0, 1) := dk_42 (dk_at dksX1_acts_4 12 rfl rfl)
theorem dX1_acts_106 : decode cX1_acts 106 = .ok (.getfield 141, 3) := dk_180 0 141 (dk_at dksX1_acts_4 13 rfl rfl)
theorem dX1_acts_109 : decode cX1_acts 109 = .ok (.iload_n 1, 1) := dk_27 (dk_at dksX1_acts_4 16 rfl rfl)
theorem dX1_acts_110 : decode cX1_acts 110 = .ok (.iload_n 1, 1) := dk_27 (dk_at dksX1_acts_4 17 rfl rfl)
theorem dX1_acts_111 : decode cX1_acts 111 = .ok (.invokestatic 221, 3) := dk_184 0 221 (dk_at dksX1_acts_4 18 rfl rfl)
theorem dX1_acts_114 : decode cX1_acts 114 = .ok (.ifCond .ne 7, 3) := dk_154 0 7 (dk_at dksX1_acts_4 21 rfl rfl)
theorem dX1_acts_117 : decode cX1_acts 117 = .ok (.iconst 0, 1) := dk_3 (dk_at dksX1_acts_5 0 rfl rfl)
theorem dX1_acts_118 : decode cX1_acts 118 = .ok (.goto 4, 3) := dk_167 0 4 (dk_at dksX1_acts_5 1 rfl rfl)
theorem dX1_acts_121 : decode cX1_acts 121 = .ok (.iload_n 2, 1) := dk_28 (dk_at dksX1_acts_5 4 rfl rfl)
theorem dX1_acts_122 : decode cX1_acts 122 = .ok (.aload_n 0, 1) := dk_42 (dk_at dksX1_acts_5 5 rfl rfl)
theorem dX1_acts_123 : decode cX1_acts 123 = .ok (.getfield 141, 3) := dk_180 0 141 (dk_at dksX1_acts_5 6 rfl rfl)
theorem dX1_acts_126 : decode cX1_acts 126 = .ok (.invokevirtual 224, 3) := dk_182 0 224 (dk_at dksX1_acts_5 9 rfl rfl)
theorem dX1_acts_129 : decode cX1_acts 129 = .ok (.invokevirtual 227, 3) := dk_182 0 227 (dk_at dksX1_acts_5 12 rfl rfl)
theorem dX1_acts_132 : decode cX1_acts 132 = .ok (.iconst (-1), 1) := dk_2 (dk_at dksX1_acts_5 15 rfl rfl)
theorem dX1_acts_133 : decode cX1_acts 133 = .ok (.ireturn, 1) := dk_172 (dk_at dksX1_acts_5 16 rfl rfl)
def dkwX1_median_0 : List UInt8 := [42, 4, 3, 3, 182, 0, 237, 172]
abbrev dktX1_median_0 : List UInt8 := dkwX1_median_0 ++ []
theorem dksX1_median_0 : cX1_median.data.toList.drop 0 = dktX1_median_0 := by decide +kernel
theorem dX1_median_0 : decode cX1_median 0 = .ok (.aload_n 0, 1) := dk_42 (dk_at dksX1_median_0 0 rfl rfl)
theorem dX1_median_1 : decode cX1_median 1 = .ok (.iconst 1, 1) := dk_4 (dk_at dksX1_median_0 1 rfl rfl)
theorem dX1_median_2 : decode cX1_median 2 = .ok (.iconst 0, 1) := dk_3 (dk_at dksX1_median_0 2 rfl rfl)
theorem dX1_median_3 : decode cX1_median 3 = .ok (.iconst 0, 1) := dk_3 (dk_at dksX1_median_0 3 rfl rfl)
theorem dX1_median_4 : decode cX1_median 4 = .ok (.invokevirtual 237, 3) := dk_182 0 237 (dk_at dksX1_median_0 4 rfl rfl)
theorem dX1_median_7 : decode cX1_median 7 = .ok (.ireturn, 1) := dk_172 (dk_at dksX1_median_0 7 rfl rfl)
def dkwX1_flat_0 : List UInt8 := [42, 5, 3, 3, 182, 0, 237, 172]
abbrev dktX1_flat_0 : List UInt8 := dkwX1_flat_0 ++ []
theorem dksX1_flat_0 : cX1_flat.data.toList.drop 0 = dktX1_flat_0 := by decide +kernel
theorem dX1_flat_0 : decode cX1_flat 0 = .ok (.aload_n 0, 1) := dk_42 (dk_at dksX1_flat_0 0 rfl rfl)
theorem dX1_flat_1 : decode cX1_flat 1 = .ok (.iconst 2, 1) := dk_5 (dk_at dksX1_flat_0 1 rfl rfl)
theorem dX1_flat_2 : decode cX1_flat 2 = .ok (.iconst 0, 1) := dk_3 (dk_at dksX1_flat_0 2 rfl rfl)
theorem dX1_flat_3 : decode cX1_flat 3 = .ok (.iconst 0, 1) := dk_3 (dk_at dksX1_flat_0 3 rfl rfl)
theorem dX1_flat_4 : decode cX1_flat 4 = .ok (.invokevirtual 237, 3) := dk_182 0 237 (dk_at dksX1_flat_0 4 rfl rfl)
theorem dX1_flat_7 : decode cX1_flat 7 = .ok (.ireturn, 1) := dk_172 (dk_at dksX1_flat_0 7 rfl rfl)
def dkwX1_turn_0 : List UInt8 := [42, 6, 3, 3, 182, 0, 237, 172]
abbrev dktX1_turn_0 : List UInt8 := dkwX1_turn_0 ++ []
theorem dksX1_turn_0 : cX1_turn.data.toList.drop 0 = dktX1_turn_0 := by decide +kernel
theorem dX1_turn_0 : decode cX1_turn 0 = .ok (.aload_n 0, 1) := dk_42 (dk_at dksX1_turn_0 0 rfl rfl)
theorem dX1_turn_1 : decode cX1_turn 1 = .ok (.iconst 3, 1) := dk_6 (dk_at dksX1_turn_0 1 rfl rfl)
theorem dX1_turn_2 : decode cX1_turn 2 = .ok (.iconst 0, 1) := dk_3 (dk_at dksX1_turn_0 2 rfl rfl)
theorem dX1_turn_3 : decode cX1_turn 3 = .ok (.iconst 0, 1) := dk_3 (dk_at dksX1_turn_0 3 rfl rfl)
theorem dX1_turn_4 : decode cX1_turn 4 = .ok (.invokevirtual 237, 3) := dk_182 0 237 (dk_at dksX1_turn_0 4 rfl rfl)
theorem dX1_turn_7 : decode cX1_turn 7 = .ok (.ireturn, 1) := dk_172 (dk_at dksX1_turn_0 7 rfl rfl)
def dkwX1_clip_0 : List UInt8 := [42, 7, 27, 3, 182, 0, 237, 172]
abbrev dktX1_clip_0 : List UInt8 := dkwX1_clip_0 ++ []
theorem dksX1_clip_0 : cX1_clip.data.toList.drop 0 = dktX1_clip_0 := by decide +kernel
theorem dX1_clip_0 : decode cX1_clip 0 = .ok (.aload_n 0, 1) := dk_42 (dk_at dksX1_clip_0 0 rfl rfl)
theorem dX1_clip_1 : decode cX1_clip 1 = .ok (.iconst 4, 1) := dk_7 (dk_at dksX1_clip_0 1 rfl rfl)
theorem dX1_clip_2 : decode cX1_clip 2 = .ok (.iload_n 1, 1) := dk_27 (dk_at dksX1_clip_0 2 rfl rfl)
theorem dX1_clip_3 : decode cX1_clip 3 = .ok (.iconst 0, 1) := dk_3 (dk_at dksX1_clip_0 3 rfl rfl)
theorem dX1_clip_4 : decode cX1_clip 4 = .ok (.invokevirtual 237, 3) := dk_182 0 237 (dk_at dksX1_clip_0 4 rfl rfl)
theorem dX1_clip_7 : decode cX1_clip 7 = .ok (.ireturn, 1) := dk_172 (dk_at dksX1_clip_0 7 rfl rfl)
def dkwX1_lift_0 : List UInt8 := [42, 8, 27, 3, 182, 0, 237, 172]
abbrev dktX1_lift_0 : List UInt8 := dkwX1_lift_0 ++ []
theorem dksX1_lift_0 : cX1_lift.data.toList.drop 0 = dktX1_lift_0 := by decide +kernel
theorem dX1_lift_0 : decode cX1_lift 0 = .ok (.aload_n 0, 1) := dk_42 (dk_at dksX1_lift_0 0 rfl rfl)
theorem dX1_lift_1 : decode cX1_lift 1 = .ok (.iconst 5, 1) := dk_8 (dk_at dksX1_lift_0 1 rfl rfl)
theorem dX1_lift_2 : decode cX1_lift 2 = .ok (.iload_n 1, 1) := dk_27 (dk_at dksX1_lift_0 2 rfl rfl)
theorem dX1_lift_3 : decode cX1_lift 3 = .ok (.iconst 0, 1) := dk_3 (dk_at dksX1_lift_0 3 rfl rfl)
theorem dX1_lift_4 : decode cX1_lift 4 = .ok (.invokevirtual 237, 3) := dk_182 0 237 (dk_at dksX1_lift_0 4 rfl rfl)
theorem dX1_lift_7 : decode cX1_lift 7 = .ok (.ireturn, 1) := dk_172 (dk_at dksX1_lift_0 7 rfl rfl)
def dkwX1_scale_0 : List UInt8 := [42, 16, 6, 27, 28, 182, 0, 237, 172]
abbrev dktX1_scale_0 : List UInt8 := dkwX1_scale_0 ++ []
theorem dksX1_scale_0 : cX1_scale.data.toList.drop 0 = dktX1_scale_0 := by decide +kernel
theorem dX1_scale_0 : decode cX1_scale 0 = .ok (.aload_n 0, 1) := dk_42 (dk_at dksX1_scale_0 0 rfl rfl)
theorem dX1_scale_1 : decode cX1_scale 1 = .ok (.bipush 6, 2) := dk_16 6 (dk_at dksX1_scale_0 1 rfl rfl)
theorem dX1_scale_3 : decode cX1_scale 3 = .ok (.iload_n 1, 1) := dk_27 (dk_at dksX1_scale_0 3 rfl rfl)
theorem dX1_scale_4 : decode cX1_scale 4 = .ok (.iload_n 2, 1) := dk_28 (dk_at dksX1_scale_0 4 rfl rfl)
theorem dX1_scale_5 : decode cX1_scale 5 = .ok (.invokevirtual 237, 3) := dk_182 0 237 (dk_at dksX1_scale_0 5 rfl rfl)
theorem dX1_scale_8 : decode cX1_scale 8 = .ok (.ireturn, 1) := dk_172 (dk_at dksX1_scale_0 8 rfl rfl)
def dkwX1_set_0 : List UInt8 := [42, 16, 7, 27, 28, 182, 0, 237, 172]
abbrev dktX1_set_0 : List UInt8 := dkwX1_set_0 ++ []
theorem dksX1_set_0 : cX1_set.data.toList.drop 0 = dktX1_set_0 := by decide +kernel
theorem dX1_set_0 : decode cX1_set 0 = .ok (.aload_n 0, 1) := dk_42 (dk_at dksX1_set_0 0 rfl rfl)
theorem dX1_set_1 : decode cX1_set 1 = .ok (.bipush 7, 2) := dk_16 7 (dk_at dksX1_set_0 1 rfl rfl)
theorem dX1_set_3 : decode cX1_set 3 = .ok (.iload_n 1, 1) := dk_27 (dk_at dksX1_set_0 3 rfl rfl)
theorem dX1_set_4 : decode cX1_set 4 = .ok (.iload_n 2, 1) := dk_28 (dk_at dksX1_set_0 4 rfl rfl)
theorem dX1_set_5 : decode cX1_set 5 = .ok (.invokevirtual 237, 3) := dk_182 0 237 (dk_at dksX1_set_0 5 rfl rfl)
theorem dX1_set_8 : decode cX1_set 8 = .ok (.ireturn, 1) := dk_172 (dk_at dksX1_set_0 8 rfl rfl)
def dkwX1_noise_0 : List UInt8 := [42, 16, 8, 27, 3, 182, 0, 237, 172]
abbrev dktX1_noise_0 : List UInt8 := dkwX1_noise_0 ++ []
theorem dksX1_noise_0 : cX1_noise.data.toList.drop 0 = dktX1_noise_0 := by decide +kernel
theorem dX1_noise_0 : decode cX1_noise 0 = .ok (.aload_n 0, 1) := dk_42 (dk_at dksX1_noise_0 0 rfl rfl)
theorem dX1_noise_1 : decode cX1_noise 1 = .ok (.bipush 8, 2) := dk_16 8 (dk_at dksX1_noise_0 1 rfl rfl)
theorem dX1_noise_3 : decode cX1_noise 3 = .ok (.iload_n 1, 1) := dk_27 (dk_at dksX1_noise_0 3 rfl rfl)
theorem dX1_noise_4 : decode cX1_noise 4 = .ok (.iconst 0, 1) := dk_3 (dk_at dksX1_noise_0 4 rfl rfl)
theorem dX1_noise_5 : decode cX1_noise 5 = .ok (.invokevirtual 237, 3) := dk_182 0 237 (dk_at dksX1_noise_0 5 rfl rfl)
theorem dX1_noise_8 : decode cX1_noise 8 = .ok (.ireturn, 1) := dk_172 (dk_at dksX1_noise_0 8 rfl rfl)
def dkwX1_cut_0 : List UInt8 := [42, 16, 9, 27, 28, 182, 0, 237, 172]
abbrev dktX1_cut_0 : List UInt8 := dkwX1_cut_0 ++ []
theorem dksX1_cut_0 : cX1_cut.data.toList.drop 0 = dktX1_cut_0 := by decide +kernel
theorem dX1_cut_0 : decode cX1_cut 0 = .ok (.aload_n 0, 1) := dk_42 (dk_at dksX1_cut_0 0 rfl rfl)
theorem dX1_cut_1 : decode cX1_cut 1 = .ok (.bipush 9, 2) := dk_16 9 (dk_at dksX1_cut_0 1 rfl rfl)
theorem dX1_cut_3 : decode cX1_cut 3 = .ok (.iload_n 1, 1) := dk_27 (dk_at dksX1_cut_0 3 rfl rfl)
theorem dX1_cut_4 : decode cX1_cut 4 = .ok (.iload_n 2, 1) := dk_28 (dk_at dksX1_cut_0 4 rfl rfl)
theorem dX1_cut_5 : decode cX1_cut 5 = .ok (.invokevirtual 237, 3) := dk_182 0 237 (dk_at dksX1_cut_0 5 rfl rfl)
theorem dX1_cut_8 : decode cX1_cut 8 = .ok (.ireturn, 1) := dk_172 (dk_at dksX1_cut_0 8 rfl rfl)
def dkwX1_status_0 : List UInt8 := [27, 133, 9, 10, 184, 0, 162, 153, 0, 12, 42, 180, 0, 115, 27, 46, 167, 0, 4, 2, 172]
abbrev dktX1_status_0 : List UInt8 := dkwX1_status_0 ++ []
theorem dksX1_status_0 : cX1_status.data.toList.drop 0 = dktX1_status_0 := by decide +kernel
theorem dX1_status_0 : decode cX1_status 0 = .ok (.iload_n 1, 1) := dk_27 (dk_at dksX1_status_0 0 rfl rfl)
theorem dX1_status_1 : decode cX1_status 1 = .ok (.i2l, 1) := dk_133 (dk_at dksX1_status_0 1 rfl rfl)
theorem dX1_status_2 : decode cX1_status 2 = .ok (.lconst 0, 1) := dk_9 (dk_at dksX1_status_0 2 rfl rfl)
theorem dX1_status_3 : decode cX1_status 3 = .ok (.lconst 1, 1) := dk_10 (dk_at dksX1_status_0 3 rfl rfl)
theorem dX1_status_4 : decode cX1_status 4 = .ok (.invokestatic 162, 3) := dk_184 0 162 (dk_at dksX1_status_0 4 rfl rfl)
theorem dX1_status_7 : decode cX1_status 7 = .ok (.ifCond .eq 12, 3) := dk_153 0 12 (dk_at dksX1_status_0 7 rfl rfl)
theorem dX1_status_10 : decode cX1_status 10 = .ok (.aload_n 0, 1) := dk_42 (dk_at dksX1_status_0 10 rfl rfl)
theorem dX1_status_11 : decode cX1_status 11 = .ok (.getfield 115, 3) := dk_180 0 115 (dk_at dksX1_status_0 11 rfl rfl)
theorem dX1_status_14 : decode cX1_status 14 = .ok (.iload_n 1, 1) := dk_27 (dk_at dksX1_status_0 14 rfl rfl)
theorem dX1_status_15 : decode cX1_status 15 = .ok (.iaload, 1) := dk_46 (dk_at dksX1_status_0 15 rfl rfl)
theorem dX1_status_16 : decode cX1_status 16 = .ok (.goto 4, 3) := dk_167 0 4 (dk_at dksX1_status_0 16 rfl rfl)
theorem dX1_status_19 : decode cX1_status 19 = .ok (.iconst (-1), 1) := dk_2 (dk_at dksX1_status_0 19 rfl rfl)
theorem dX1_status_20 : decode cX1_status 20 = .ok (.ireturn, 1) := dk_172 (dk_at dksX1_status_0 20 rfl rfl)
def dkwX1_undo_2 : List UInt8 := [182, 0, 211, 42, 180, 0, 198, 172]
abbrev dktX1_undo_2 : List UInt8 := dkwX1_undo_2 ++ []
def dkwX1_undo_1 : List UInt8 := [16, 40, 96, 4, 100, 16, 40, 112, 181, 0, 218, 42, 180, 0, 141, 42, 180, 0, 154, 42, 180, 0, 218, 50]
abbrev dktX1_undo_1 : List UInt8 := dkwX1_undo_1 ++ dktX1_undo_2
def dkwX1_undo_0 : List UInt8 := [42, 180, 0, 198, 154, 0, 5, 2, 172, 42, 89, 180, 0, 198, 4, 100, 181, 0, 198, 42, 42, 180, 0, 218]
abbrev dktX1_undo_0 : List UInt8 := dkwX1_undo_0 ++ dktX1_undo_1
theorem dksX1_undo_0 : cX1_undo.data.toList.drop 0 = dktX1_undo_0 := by decide +kernel
theorem dksX1_undo_1 : cX1_undo.data.toList.drop 24 = dktX1_undo_1 := dk_seg dksX1_undo_0 24 rfl rfl
theorem dksX1_undo_2 : cX1_undo.data.toList.drop 48 = dktX1_undo_2 := dk_seg dksX1_undo_1 24 rfl rfl
theorem dX1_undo_0 : decode cX1_undo 0 = .ok (.aload_n 0, 1) := dk_42 (dk_at dksX1_undo_0 0 rfl rfl)
theorem dX1_undo_1 : decode cX1_undo 1 = .ok (.getfield 198, 3) := dk_180 0 198 (dk_at dksX1_undo_0 1 rfl rfl)
theorem dX1_undo_4 : decode cX1_undo 4 = .ok (.ifCond .ne 5, 3) := dk_154 0 5 (dk_at dksX1_undo_0 4 rfl rfl)
theorem dX1_undo_7 : decode cX1_undo 7 = .ok (.iconst (-1), 1) := dk_2 (dk_at dksX1_undo_0 7 rfl rfl)
theorem dX1_undo_8 : decode cX1_undo 8 = .ok (.ireturn, 1) := dk_172 (dk_at dksX1_undo_0 8 rfl rfl)
theorem dX1_undo_9 : decode cX1_undo 9 = .ok (.aload_n 0, 1) := dk_42 (dk_at dksX1_undo_0 9 rfl rfl)
theorem dX1_undo_10 : decode cX1_undo 10 = .ok (.dup, 1) := dk_89 (dk_at dksX1_undo_0 10 rfl rfl)
theorem dX1_undo_11 : decode cX1_undo 11 = .ok (.getfield 198, 3) := dk_180 0 198 (dk_at dksX1_undo_0 11 rfl rfl)
theorem dX1_undo_14 : decode cX1_undo 14 = .ok (.iconst 1, 1) := dk_4 (dk_at dksX1_undo_0 14 rfl rfl)
theorem dX1_undo_15 : decode cX1_undo 15 = .ok (.isub, 1) := dk_100 (dk_at dksX1_undo_0 15 rfl rfl)
theorem dX1_undo_16 : decode cX1_undo 16 = .ok (.putfield 198, 3) := dk_181 0 198 (dk_at dksX1_undo_0 16 rfl rfl)
theorem dX1_undo_19 : decode cX1_undo 19 = .ok (.aload_n 0, 1) := dk_42 (dk_at dksX1_undo_0 19 rfl rfl)
theorem dX1_undo_20 : decode cX1_undo 20 = .ok (.aload_n 0, 1) := dk_42 (dk_at dksX1_undo_0 20 rfl rfl)
theorem dX1_undo_21 : decode cX1_undo 21 = .ok (.getfield 218, 3) := dk_180 0 218 (dk_at dksX1_undo_0 21 rfl rfl)
theorem dX1_undo_24 : decode cX1_undo 24 = .ok (.bipush 40, 2) := dk_16 40 (dk_at dksX1_undo_1 0 rfl rfl)
theorem dX1_undo_26 : decode cX1_undo 26 = .ok (.iadd, 1) := dk_96 (dk_at dksX1_undo_1 2 rfl rfl)
theorem dX1_undo_27 : decode cX1_undo 27 = .ok (.iconst 1, 1) := dk_4 (dk_at dksX1_undo_1 3 rfl rfl)
theorem dX1_undo_28 : decode cX1_undo 28 = .ok (.isub, 1) := dk_100 (dk_at dksX1_undo_1 4 rfl rfl)
theorem dX1_undo_29 : decode cX1_undo 29 = .ok (.bipush 40, 2) := dk_16 40 (dk_at dksX1_undo_1 5 rfl rfl)
theorem dX1_undo_31 : decode cX1_undo 31 = .ok (.irem, 1) := dk_112 (dk_at dksX1_undo_1 7 rfl rfl)
theorem dX1_undo_32 : decode cX1_undo 32 = .ok (.putfield 218, 3) := dk_181 0 218 (dk_at dksX1_undo_1 8 rfl rfl)
theorem dX1_undo_35 : decode cX1_undo 35 = .ok (.aload_n 0, 1) := dk_42 (dk_at dksX1_undo_1 11 rfl rfl)
theorem dX1_undo_36 : decode cX1_undo 36 = .ok (.getfield 141, 3) := dk_180 0 141 (dk_at dksX1_undo_1 12 rfl rfl)
theorem dX1_undo_39 : decode cX1_undo 39 = .ok (.aload_n 0, 1) := dk_42 (dk_at dksX1_undo_1 15 rfl rfl)
theorem dX1_undo_40 : decode cX1_undo 40 = .ok (.getfield 154, 3) := dk_180 0 154 (dk_at dksX1_undo_1 16 rfl rfl)
theorem dX1_undo_43 : decode cX1_undo 43 = .ok (.aload_n 0, 1) := dk_42 (dk_at dksX1_undo_1 19 rfl rfl)
theorem dX1_undo_44 : decode cX1_undo 44 = .ok (.getfield 218, 3) := dk_180 0 218 (dk_at dksX1_undo_1 20 rfl rfl)
theorem dX1_undo_47 : decode cX1_undo 47 = .ok (.aaload, 1) := dk_50 (dk_at dksX1_undo_1 23 rfl rfl)
theorem dX1_undo_48 : decode cX1_undo 48 = .ok (.invokevirtual 211, 3) := dk_182 0 211 (dk_at dksX1_undo_2 0 rfl rfl)
theorem dX1_undo_51 : decode cX1_undo 51 = .ok (.aload_n 0, 1) := dk_42 (dk_at dksX1_undo_2 3 rfl rfl)
theorem dX1_undo_52 : decode cX1_undo 52 = .ok (.getfield 198, 3) := dk_180 0 198 (dk_at dksX1_undo_2 4 rfl rfl)
theorem dX1_undo_55 : decode cX1_undo 55 = .ok (.ireturn, 1) := dk_172 (dk_at dksX1_undo_2 7 rfl rfl)
def dkwX1_log_2 : List UInt8 := [180, 0, 246, 6, 42, 180, 0, 141, 180, 0, 240, 4, 100, 27, 100, 104, 28, 96, 46, 172]
abbrev dktX1_log_2 : List UInt8 := dkwX1_log_2 ++ []
def dkwX1_log_1 : List UInt8 := [153, 0, 15, 28, 133, 9, 20, 0, 243, 184, 0, 162, 154, 0, 6, 18, 245, 172, 42, 180, 0, 141]
abbrev dktX1_log_1 : List UInt8 := dkwX1_log_1 ++ dktX1_log_2
def dkwX1_log_0 : List UInt8 := [42, 180, 0, 158, 198, 0, 34, 27, 133, 9, 42, 180, 0, 141, 180, 0, 240, 4, 100, 133, 184, 0, 162]
abbrev dktX1_log_0 : List UInt8 := dkwX1_log_0 ++ dktX1_log_1
theorem dksX1_log_0 : cX1_log.data.toList.drop 0 = dktX1_log_0 := by decide +kernel
theorem dksX1_log_1 : cX1_log.data.toList.drop 23 = dktX1_log_1 := dk_seg dksX1_log_0 23 rfl rfl
theorem dksX1_log_2 : cX1_log.data.toList.drop 45 = dktX1_log_2 := dk_seg dksX1_log_1 22 rfl rfl
theorem dX1_log_0 : decode cX1_log 0 = .ok (.aload_n 0, 1) := dk_42 (dk_at dksX1_log_0 0 rfl rfl)
theorem dX1_log_1 : decode cX1_log 1 = .ok (.getfield 158, 3) := dk_180 0 158 (dk_at dksX1_log_0 1 rfl rfl)
theorem dX1_log_4 : decode cX1_log 4 = .ok (.ifnull 34, 3) := dk_198 0 34 (dk_at dksX1_log_0 4 rfl rfl)
theorem dX1_log_7 : decode cX1_log 7 = .ok (.iload_n 1, 1) := dk_27 (dk_at dksX1_log_0 7 rfl rfl)
theorem dX1_log_8 : decode cX1_log 8 = .ok (.i2l, 1) := dk_133 (dk_at dksX1_log_0 8 rfl rfl)
theorem dX1_log_9 : decode cX1_log 9 = .ok (.lconst 0, 1) := dk_9 (dk_at dksX1_log_0 9 rfl rfl)
theorem dX1_log_10 : decode cX1_log 10 = .ok (.aload_n 0, 1) := dk_42 (dk_at dksX1_log_0 10 rfl rfl)
theorem dX1_log_11 : decode cX1_log 11 = .ok (.getfield 141, 3) := dk_180 0 141 (dk_at dksX1_log_0 11 rfl rfl)
theorem dX1_log_14 : decode cX1_log 14 = .ok (.getfield 240, 3) := dk_180 0 240 (dk_at dksX1_log_0 14 rfl rfl)
theorem dX1_log_17 : decode cX1_log 17 = .ok (.iconst 1, 1) := dk_4 (dk_at dksX1_log_0 17 rfl rfl)
theorem dX1_log_18 : decode cX1_log 18 = .ok (.isub, 1) := dk_100 (dk_at dksX1_log_0 18 rfl rfl)
theorem dX1_log_19 : decode cX1_log 19 = .ok (.i2l, 1) := dk_133 (dk_at dksX1_log_0 19 rfl rfl)
theorem dX1_log_20 : decode cX1_log 20 = .ok (.invokestatic 162, 3) := dk_184 0 162 (dk_at dksX1_log_0 20 rfl rfl)
theorem dX1_log_23 : decode cX1_log 23 = .ok (.ifCond .eq 15, 3) := dk_153 0 15 (dk_at dksX1_log_1 0 rfl rfl)
theorem dX1_log_26 : decode cX1_log 26 = .ok (.iload_n 2, 1) := dk_28 (dk_at dksX1_log_1 3 rfl rfl)
theorem dX1_log_27 : decode cX1_log 27 = .ok (.i2l, 1) := dk_133 (dk_at dksX1_log_1 4 rfl rfl)
theorem dX1_log_28 : decode cX1_log 28 = .ok (.lconst 0, 1) := dk_9 (dk_at dksX1_log_1 5 rfl rfl)
theorem dX1_log_29 : decode cX1_log 29 = .ok (.ldc2_w 243, 3) := dk_20 0 243 (dk_at dksX1_log_1 6 rfl rfl)
theorem dX1_log_32 : decode cX1_log 32 = .ok (.invokestatic 162, 3) := dk_184 0 162 (dk_at dksX1_log_1 9 rfl rfl)
theorem dX1_log_35 : decode cX1_log 35 = .ok (.ifCond .ne 6, 3) := dk_154 0 6 (dk_at dksX1_log_1 12 rfl rfl)
theorem dX1_log_38 : decode cX1_log 38 = .ok (.ldc 245, 2) := dk_18 245 (dk_at dksX1_log_1 15 rfl rfl)
theorem dX1_log_40 : decode cX1_log 40 = .ok (.ireturn, 1) := dk_172 (dk_at dksX1_log_1 17 rfl rfl)
theorem dX1_log_41 : decode cX1_log 41 = .ok (.aload_n 0, 1) := dk_42 (dk_at dksX1_log_1 18 rfl rfl)
theorem dX1_log_42 : decode cX1_log 42 = .ok (.getfield 141, 3) := dk_180 0 141 (dk_at dksX1_log_1 19 rfl rfl)
theorem dX1_log_45 : decode cX1_log 45 = .ok (.getfield 246, 3) := dk_180 0 246 (dk_at dksX1_log_2 0 rfl rfl)
theorem dX1_log_48 : decode cX1_log 48 = .ok (.iconst 3, 1) := dk_6 (dk_at dksX1_log_2 3 rfl rfl)
theorem dX1_log_49 : decode cX1_log 49 = .ok (.aload_n 0, 1) := dk_42 (dk_at dksX1_log_2 4 rfl rfl)
theorem dX1_log_50 : decode cX1_log 50 = .ok (.getfield 141, 3) := dk_180 0 141 (dk_at dksX1_log_2 5 rfl rfl)
theorem dX1_log_53 : decode cX1_log 53 = .ok (.getfield 240, 3) := dk_180 0 240 (dk_at dksX1_log_2 8 rfl rfl)
theorem dX1_log_56 : decode cX1_log 56 = .ok (.iconst 1, 1) := dk_4 (dk_at dksX1_log_2 11 rfl rfl)
theorem dX1_log_57 : decode cX1_log 57 = .ok (.isub, 1) := dk_100 (dk_at dksX1_log_2 12 rfl rfl)
theorem dX1_log_58 : decode cX1_log 58 = .ok (.iload_n 1, 1) := dk_27 (dk_at dksX1_log_2 13 rfl rfl)
theorem dX1_log_59 : decode cX1_log 59 = .ok (.isub, 1) := dk_100 (dk_at dksX1_log_2 14 rfl rfl)
theorem dX1_log_60 : decode cX1_log 60 = .ok (.imul, 1) := dk_104 (dk_at dksX1_log_2 15 rfl rfl)
theorem dX1_log_61 : decode cX1_log 61 = .ok (.iload_n 2, 1) := dk_28 (dk_at dksX1_log_2 16 rfl rfl)
theorem dX1_log_62 : decode cX1_log 62 = .ok (.iadd, 1) := dk_96 (dk_at dksX1_log_2 17 rfl rfl)
theorem dX1_log_63 : decode cX1_log 63 = .ok (.iaload, 1) := dk_46 (dk_at dksX1_log_2 18 rfl rfl)
theorem dX1_log_64 : decode cX1_log 64 = .ok (.ireturn, 1) := dk_172 (dk_at dksX1_log_2 19 rfl rfl)
def dkwX1_ways_2 : List UInt8 := [42, 180, 0, 141, 182, 0, 224, 172]
abbrev dktX1_ways_2 : List UInt8 := dkwX1_ways_2 ++ []
def dkwX1_ways_1 : List UInt8 := [181, 0, 248, 3, 54, 4, 21, 4, 27, 162, 0, 15, 42, 182, 1, 5, 54, 5, 132, 4, 1, 167, 255, 241]
abbrev dktX1_ways_1 : List UInt8 := dkwX1_ways_1 ++ dktX1_ways_2
def dkwX1_ways_0 : List UInt8 := [42, 180, 0, 158, 198, 0, 15, 27, 133, 10, 20, 1, 3, 184, 0, 162, 154, 0, 5, 2, 172, 42, 32]
abbrev dktX1_ways_0 : List UInt8 := dkwX1_ways_0 ++ dktX1_ways_1
theorem dksX1_ways_0 : cX1_ways.data.toList.drop 0 = dktX1_ways_0 := by decide +kernel
theorem dksX1_ways_1 : cX1_ways.data.toList.drop 23 = dktX1_ways_1 := dk_seg dksX1_ways_0 23 rfl rfl
theorem dksX1_ways_2 : cX1_ways.data.toList.drop 47 = dktX1_ways_2 := dk_seg dksX1_ways_1 24 rfl rfl
theorem dX1_ways_0 : decode cX1_ways 0 = .ok (.aload_n 0, 1) := dk_42 (dk_at dksX1_ways_0 0 rfl rfl)
theorem dX1_ways_1 : decode cX1_ways 1 = .ok (.getfield 158, 3) := dk_180 0 158 (dk_at dksX1_ways_0 1 rfl rfl)
theorem dX1_ways_4 : decode cX1_ways 4 = .ok (.ifnull 15, 3) := dk_198 0 15 (dk_at dksX1_ways_0 4 rfl rfl)
theorem dX1_ways_7 : decode cX1_ways 7 = .ok (.iload_n 1, 1) := dk_27 (dk_at dksX1_ways_0 7 rfl rfl)
theorem dX1_ways_8 : decode cX1_ways 8 = .ok (.i2l, 1) := dk_133 (dk_at dksX1_ways_0 8 rfl rfl)
theorem dX1_ways_9 : decode cX1_ways 9 = .ok (.lconst 1, 1) := dk_10 (dk_at dksX1_ways_0 9 rfl rfl)
theorem dX1_ways_10 : decode cX1_ways 10 = .ok (.ldc2_w 259, 3) := dk_20 1 3 (dk_at dksX1_ways_0 10 rfl rfl)
theorem dX1_ways_13 : decode cX1_ways 13 = .ok (.invokestatic 162, 3) := dk_184 0 162 (dk_at dksX1_ways_0 13 rfl rfl)
theorem dX1_ways_16 : decode cX1_ways 16 = .ok (.ifCond .ne 5, 3) := dk_154 0 5 (dk_at dksX1_ways_0 16 rfl rfl)
theorem dX1_ways_19 : decode cX1_ways 19 = .ok (.iconst (-1), 1) := dk_2 (dk_at dksX1_ways_0 19 rfl rfl)
theorem dX1_ways_20 : decode cX1_ways 20 = .ok (.ireturn, 1) := dk_172 (dk_at dksX1_ways_0 20 rfl rfl)
theorem dX1_ways_21 : decode cX1_ways 21 = .ok (.aload_n 0, 1) := dk_42 (dk_at dksX1_ways_0 21 rfl rfl)
theorem dX1_ways_22 : decode cX1_ways 22 = .ok (.lload_n 2, 1) := dk_32 (dk_at dksX1_ways_0 22 rfl rfl)
theorem dX1_ways_23 : decode cX1_ways 23 = .ok (.putfield 248, 3) := dk_181 0 248 (dk_at dksX1_ways_1 0 rfl rfl)
theorem dX1_ways_26 : decode cX1_ways 26 = .ok (.iconst 0, 1) := dk_3 (dk_at dksX1_ways_1 3 rfl rfl)
theorem dX1_ways_27 : decode cX1_ways 27 = .ok (.istore 4, 2) := dk_54 4 (dk_at dksX1_ways_1 4 rfl rfl)
theorem dX1_ways_29 : decode cX1_ways 29 = .ok (.iload 4, 2) := dk_21 4 (dk_at dksX1_ways_1 6 rfl rfl)
theorem dX1_ways_31 : decode cX1_ways 31 = .ok (.iload_n 1, 1) := dk_27 (dk_at dksX1_ways_1 8 rfl rfl)
theorem dX1_ways_32 : decode cX1_ways 32 = .ok (.if_icmp .ge 15, 3) := dk_162 0 15 (dk_at dksX1_ways_1 9 rfl rfl)
theorem dX1_ways_35 : decode cX1_ways 35 = .ok (.aload_n 0, 1) := dk_42 (dk_at dksX1_ways_1 12 rfl rfl)
theorem dX1_ways_36 : decode cX1_ways 36 = .ok (.invokevirtual 261, 3) := dk_182 1 5 (dk_at dksX1_ways_1 13 rfl rfl)
theorem dX1_ways_39 : decode cX1_ways 39 = .ok (.istore 5, 2) := dk_54 5 (dk_at dksX1_ways_1 16 rfl rfl)
theorem dX1_ways_41 : decode cX1_ways 41 = .ok (.iinc 4 1, 3) := dk_132 4 1 (dk_at dksX1_ways_1 18 rfl rfl)
theorem dX1_ways_44 : decode cX1_ways 44 = .ok (.goto (-15), 3) := dk_167 255 241 (dk_at dksX1_ways_1 21 rfl rfl)
theorem dX1_ways_47 : decode cX1_ways 47 = .ok (.aload_n 0, 1) := dk_42 (dk_at dksX1_ways_2 0 rfl rfl)
theorem dX1_ways_48 : decode cX1_ways 48 = .ok (.getfield 141, 3) := dk_180 0 141 (dk_at dksX1_ways_2 1 rfl rfl)
theorem dX1_ways_51 : decode cX1_ways 51 = .ok (.invokevirtual 224, 3) := dk_182 0 224 (dk_at dksX1_ways_2 4 rfl rfl)
theorem dX1_ways_54 : decode cX1_ways 54 = .ok (.ireturn, 1) := dk_172 (dk_at dksX1_ways_2 7 rfl rfl)
def dkwX1_happens_4 : List UInt8 := [16, 7, 28, 42, 17, 3, 232, 182, 1, 0, 182, 0, 231, 172]
abbrev dktX1_happens_4 : List UInt8 := dkwX1_happens_4 ++ []
def dkwX1_happens_3 : List UInt8 := [16, 7, 160, 0, 21, 42, 16, 6, 28, 42, 16, 9, 182, 1, 0, 4, 96, 182, 0, 231, 167, 0, 17, 42]
abbrev dktX1_happens_3 : List UInt8 := dkwX1_happens_3 ++ dktX1_happens_4
def dkwX1_happens_2 : List UInt8 := [160, 0, 8, 16, 100, 167, 0, 13, 42, 180, 0, 141, 180, 0, 205, 180, 0, 208, 182, 1, 0, 61, 27]
abbrev dktX1_happens_2 : List UInt8 := dkwX1_happens_2 ++ dktX1_happens_3
def dkwX1_happens_1 : List UInt8 := [160, 0, 18, 42, 16, 8, 42, 17, 0, 200, 182, 1, 0, 3, 182, 0, 231, 172, 42, 27, 16, 7]
abbrev dktX1_happens_1 : List UInt8 := dkwX1_happens_1 ++ dktX1_happens_2
def dkwX1_happens_0 : List UInt8 := [42, 16, 8, 182, 1, 0, 60, 27, 5, 163, 0, 11, 42, 27, 3, 3, 182, 0, 231, 172, 27, 16, 6]
abbrev dktX1_happens_0 : List UInt8 := dkwX1_happens_0 ++ dktX1_happens_1
theorem dksX1_happens_0 : cX1_happens.data.toList.drop 0 = dktX1_happens_0 := by decide +kernel
theorem dksX1_happens_1 : cX1_happens.data.toList.drop 23 = dktX1_happens_1 := dk_seg dksX1_happens_0 23 rfl rfl
theorem dksX1_happens_2 : cX1_happens.data.toList.drop 45 = dktX1_happens_2 := dk_seg dksX1_happens_1 22 rfl rfl
theorem dksX1_happens_3 : cX1_happens.data.toList.drop 68 = dktX1_happens_3 := dk_seg dksX1_happens_2 23 rfl rfl
theorem dksX1_happens_4 : cX1_happens.data.toList.drop 92 = dktX1_happens_4 := dk_seg dksX1_happens_3 24 rfl rfl
theorem dX1_happens_0 : decode cX1_happens 0 = .ok (.aload_n 0, 1) := dk_42 (dk_at dksX1_happens_0 0 rfl rfl)
theorem dX1_happens_1 : decode cX1_happens 1 = .ok (.bipush 8, 2) := dk_16 8 (dk_at dksX1_happens_0 1 rfl rfl)
theorem dX1_happens_3 : decode cX1_happens 3 = .ok (.invokevirtual 256, 3) := dk_182 1 0 (dk_at dksX1_happens_0 3 rfl rfl)
theorem dX1_happens_6 : decode cX1_happens 6 = .ok (.istore_n 1, 1) := dk_60 (dk_at dksX1_happens_0 6 rfl rfl)
theorem dX1_happens_7 : decode cX1_happens 7 = .ok (.iload_n 1, 1) := dk_27 (dk_at dksX1_happens_0 7 rfl rfl)
theorem dX1_happens_8 : decode cX1_happens 8 = .ok (.iconst 2, 1) := dk_5 (dk_at dksX1_happens_0 8 rfl rfl)
theorem dX1_happens_9 : decode cX1_happens 9 = .ok (.if_icmp .gt 11, 3) := dk_163 0 11 (dk_at dksX1_happens_0 9 rfl rfl)
theorem dX1_happens_12 : decode cX1_happens 12 = .ok (.aload_n 0, 1) := dk_42 (dk_at dksX1_happens_0 12 rfl rfl)
theorem dX1_happens_13 : decode cX1_happens 13 = .ok (.iload_n 1, 1) := dk_27 (dk_at dksX1_happens_0 13 rfl rfl)
theorem dX1_happens_14 : decode cX1_happens 14 = .ok (.iconst 0, 1) := dk_3 (dk_at dksX1_happens_0 14 rfl rfl)
theorem dX1_happens_15 : decode cX1_happens 15 = .ok (.iconst 0, 1) := dk_3 (dk_at dksX1_happens_0 15 rfl rfl)
theorem dX1_happens_16 : decode cX1_happens 16 = .ok (.invokevirtual 231, 3) := dk_182 0 231 (dk_at dksX1_happens_0 16 rfl rfl)
theorem dX1_happens_19 : decode cX1_happens 19 = .ok (.ireturn, 1) := dk_172 (dk_at dksX1_happens_0 19 rfl rfl)
theorem dX1_happens_20 : decode cX1_happens 20 = .ok (.iload_n 1, 1) := dk_27 (dk_at dksX1_happens_0 20 rfl rfl)
theorem dX1_happens_21 : decode cX1_happens 21 = .ok (.bipush 6, 2) := dk_16 6 (dk_at dksX1_happens_0 21 rfl rfl)
theorem dX1_happens_23 : decode cX1_happens 23 = .ok (.if_icmp .ne 18, 3) := dk_160 0 18 (dk_at dksX1_happens_1 0 rfl rfl)
theorem dX1_happens_26 : decode cX1_happens 26 = .ok (.aload_n 0, 1) := dk_42 (dk_at dksX1_happens_1 3 rfl rfl)
theorem dX1_happens_27 : decode cX1_happens 27 = .ok (.bipush 8, 2) := dk_16 8 (dk_at dksX1_happens_1 4 rfl rfl)
theorem dX1_happens_29 : decode cX1_happens 29 = .ok (.aload_n 0, 1) := dk_42 (dk_at dksX1_happens_1 6 rfl rfl)
theorem dX1_happens_30 : decode cX1_happens 30 = .ok (.sipush 200, 3) := dk_17 0 200 (dk_at dksX1_happens_1 7 rfl rfl)
theorem dX1_happens_33 : decode cX1_happens 33 = .ok (.invokevirtual 256, 3) := dk_182 1 0 (dk_at dksX1_happens_1 10 rfl rfl)
theorem dX1_happens_36 : decode cX1_happens 36 = .ok (.iconst 0, 1) := dk_3 (dk_at dksX1_happens_1 13 rfl rfl)
theorem dX1_happens_37 : decode cX1_happens 37 = .ok (.invokevirtual 231, 3) := dk_182 0 231 (dk_at dksX1_happens_1 14 rfl rfl)
theorem dX1_happens_40 : decode cX1_happens 40 = .ok (.ireturn, 1) := dk_172 (dk_at dksX1_happens_1 17 rfl rfl)
theorem dX1_happens_41 : decode cX1_happens 41 = .ok (.aload_n 0, 1) := dk_42 (dk_at dksX1_happens_1 18 rfl rfl)
theorem dX1_happens_42 : decode cX1_happens 42 = .ok (.iload_n 1, 1) := dk_27 (dk_at dksX1_happens_1 19 rfl rfl)
theorem dX1_happens_43 : decode cX1_happens 43 = .ok (.bipush 7, 2) := dk_16 7 (dk_at dksX1_happens_1 20 rfl rfl)
theorem dX1_happens_45 : decode cX1_happens 45 = .ok (.if_icmp .ne 8, 3) := dk_160 0 8 (dk_at dksX1_happens_2 0 rfl rfl)
theorem dX1_happens_48 : decode cX1_happens 48 = .ok (.bipush 100, 2) := dk_16 100 (dk_at dksX1_happens_2 3 rfl rfl)
theorem dX1_happens_50 : decode cX1_happens 50 = .ok (.goto 13, 3) := dk_167 0 13 (dk_at dksX1_happens_2 5 rfl rfl)
theorem dX1_happens_53 : decode cX1_happens 53 = .ok (.aload_n 0, 1) := dk_42 (dk_at dksX1_happens_2 8 rfl rfl)
theorem dX1_happens_54 : decode cX1_happens 54 = .ok (.getfield 141, 3) := dk_180 0 141 (dk_at dksX1_happens_2 9 rfl rfl)
theorem dX1_happens_57 : decode cX1_happens 57 = .ok (.getfield 205, 3) := dk_180 0 205 (dk_at dksX1_happens_2 12 rfl rfl)
theorem dX1_happens_60 : decode cX1_happens 60 = .ok (.getfield 208, 3) := dk_180 0 208 (dk_at dksX1_happens_2 15 rfl rfl)
theorem dX1_happens_63 : decode cX1_happens 63 = .ok (.invokevirtual 256, 3) := dk_182 1 0 (dk_at dksX1_happens_2 18 rfl rfl)
theorem dX1_happens_66 : decode cX1_happens 66 = .ok (.istore_n 2, 1) := dk_61 (dk_at dksX1_happens_2 21 rfl rfl)
theorem dX1_happens_67 : decode cX1_happens 67 = .ok (.iload_n 1, 1) := dk_27 (dk_at dksX1_happens_2 22 rfl rfl)
theorem dX1_happens_68 : decode cX1_happens 68 = .ok (.bipush 7, 2) := dk_16 7 (dk_at dksX1_happens_3 0 rfl rfl)
theorem dX1_happens_70 : decode cX1_happens 70 = .ok (.if_icmp .ne 21, 3) := dk_160 0 21 (dk_at dksX1_happens_3 2 rfl rfl)
theorem dX1_happens_73 : decode cX1_happens 73 = .ok (.aload_n 0, 1) := dk_42 (dk_at dksX1_happens_3 5 rfl rfl)
theorem dX1_happens_74 : decode cX1_happens 74 = .ok (.bipush 6, 2) := dk_16 6 (dk_at dksX1_happens_3 6 rfl rfl)
theorem dX1_happens_76 : decode cX1_happens 76 = .ok (.iload_n 2, 1) := dk_28 (dk_at dksX1_happens_3 8 rfl rfl)
theorem dX1_happens_77 : decode cX1_happens 77 = .ok (.aload_n 0, 1) := dk_42 (dk_at dksX1_happens_3 9 rfl rfl)
theorem dX1_happens_78 : decode cX1_happens 78 = .ok (.bipush 9, 2) := dk_16 9 (dk_at dksX1_happens_3 10 rfl rfl)
theorem dX1_happens_80 : decode cX1_happens 80 = .ok (.invokevirtual 256, 3) := dk_182 1 0 (dk_at dksX1_happens_3 12 rfl rfl)
theorem dX1_happens_83 : decode cX1_happens 83 = .ok (.iconst 1, 1) := dk_4 (dk_at dksX1_happens_3 15 rfl rfl)
theorem dX1_happens_84 : decode cX1_happens 84 = .ok (.iadd, 1) := dk_96 (dk_at dksX1_happens_3 16 rfl rfl)
theorem dX1_happens_85 : decode cX1_happens 85 = .ok (.invokevirtual 231, 3) := dk_182 0 231 (dk_at dksX1_happens_3 17 rfl rfl)
theorem dX1_happens_88 : decode cX1_happens 88 = .ok (.goto 17, 3) := dk_167 0 17 (dk_at dksX1_happens_3 20 rfl rfl)
theorem dX1_happens_91 : decode cX1_happens 91 = .ok (.aload_n 0, 1) := dk_42 (dk_at dksX1_happens_3 23 rfl rfl)
theorem dX1_happens_92 : decode cX1_happens 92 = .ok (.bipush 7, 2) := dk_16 7 (dk_at dksX1_happens_4 0 rfl rfl)
theorem dX1_happens_94 : decode cX1_happens 94 = .ok (.iload_n 2, 1) := dk_28 (dk_at dksX1_happens_4 2 rfl rfl)
theorem dX1_happens_95 : decode cX1_happens 95 = .ok (.aload_n 0, 1) := dk_42 (dk_at dksX1_happens_4 3 rfl rfl)
theorem dX1_happens_96 : decode cX1_happens 96 = .ok (.sipush 1000, 3) := dk_17 3 232 (dk_at dksX1_happens_4 4 rfl rfl)
theorem dX1_happens_99 : decode cX1_happens 99 = .ok (.invokevirtual 256, 3) := dk_182 1 0 (dk_at dksX1_happens_4 7 rfl rfl)
theorem dX1_happens_102 : decode cX1_happens 102 = .ok (.invokevirtual 231, 3) := dk_182 0 231 (dk_at dksX1_happens_4 10 rfl rfl)
theorem dX1_happens_105 : decode cX1_happens 105 = .ok (.ireturn, 1) := dk_172 (dk_at dksX1_happens_4 13 rfl rfl)
def dkwX1_draw_1 : List UInt8 := [133, 113, 136, 172]
abbrev dktX1_draw_1 : List UInt8 := dkwX1_draw_1 ++ []
def dkwX1_draw_0 : List UInt8 := [42, 42, 180, 0, 248, 20, 0, 252, 105, 20, 0, 254, 97, 181, 0, 248, 42, 180, 0, 248, 16, 33, 125, 27]
abbrev dktX1_draw_0 : List UInt8 := dkwX1_draw_0 ++ dktX1_draw_1
theorem dksX1_draw_0 : cX1_draw.data.toList.drop 0 = dktX1_draw_0 := by decide +kernel
theorem dksX1_draw_1 : cX1_draw.data.toList.drop 24 = dktX1_draw_1 := dk_seg dksX1_draw_0 24 rfl rfl
theorem dX1_draw_0 : decode cX1_draw 0 = .ok (.aload_n 0, 1) := dk_42 (dk_at dksX1_draw_0 0 rfl rfl)
theorem dX1_draw_1 : decode cX1_draw 1 = .ok (.aload_n 0, 1) := dk_42 (dk_at dksX1_draw_0 1 rfl rfl)
theorem dX1_draw_2 : decode cX1_draw 2 = .ok (.getfield 248, 3) := dk_180 0 248 (dk_at dksX1_draw_0 2 rfl rfl)
theorem dX1_draw_5 : decode cX1_draw 5 = .ok (.ldc2_w 252, 3) := dk_20 0 252 (dk_at dksX1_draw_0 5 rfl rfl)
theorem dX1_draw_8 : decode cX1_draw 8 = .ok (.lmul, 1) := dk_105 (dk_at dksX1_draw_0 8 rfl rfl)
theorem dX1_draw_9 : decode cX1_draw 9 = .ok (.ldc2_w 254, 3) := dk_20 0 254 (dk_at dksX1_draw_0 9 rfl rfl)
theorem dX1_draw_12 : decode cX1_draw 12 = .ok (.ladd, 1) := dk_97 (dk_at dksX1_draw_0 12 rfl rfl)
theorem dX1_draw_13 : decode cX1_draw 13 = .ok (.putfield 248, 3) := dk_181 0 248 (dk_at dksX1_draw_0 13 rfl rfl)
theorem dX1_draw_16 : decode cX1_draw 16 = .ok (.aload_n 0, 1) := dk_42 (dk_at dksX1_draw_0 16 rfl rfl)
theorem dX1_draw_17 : decode cX1_draw 17 = .ok (.getfield 248, 3) := dk_180 0 248 (dk_at dksX1_draw_0 17 rfl rfl)
theorem dX1_draw_20 : decode cX1_draw 20 = .ok (.bipush 33, 2) := dk_16 33 (dk_at dksX1_draw_0 20 rfl rfl)
theorem dX1_draw_22 : decode cX1_draw 22 = .ok (.lushr, 1) := dk_125 (dk_at dksX1_draw_0 22 rfl rfl)
theorem dX1_draw_23 : decode cX1_draw 23 = .ok (.iload_n 1, 1) := dk_27 (dk_at dksX1_draw_0 23 rfl rfl)
theorem dX1_draw_24 : decode cX1_draw 24 = .ok (.i2l, 1) := dk_133 (dk_at dksX1_draw_1 0 rfl rfl)
theorem dX1_draw_25 : decode cX1_draw 25 = .ok (.lrem, 1) := dk_113 (dk_at dksX1_draw_1 1 rfl rfl)
theorem dX1_draw_26 : decode cX1_draw 26 = .ok (.l2i, 1) := dk_136 (dk_at dksX1_draw_1 2 rfl rfl)
theorem dX1_draw_27 : decode cX1_draw 27 = .ok (.ireturn, 1) := dk_172 (dk_at dksX1_draw_1 3 rfl rfl)
def dkwX1_rule_5 : List UInt8 := [182, 1, 26, 167, 0, 17, 42, 180, 0, 141, 180, 0, 205, 182, 1, 29, 167, 0, 4, 2, 172]
abbrev dktX1_rule_5 : List UInt8 := dkwX1_rule_5 ++ []
def dkwX1_rule_4 : List UInt8 := [180, 1, 25, 167, 0, 40, 42, 180, 0, 141, 182, 0, 224, 167, 0, 30, 42, 180, 0, 141, 180, 0, 205]
abbrev dktX1_rule_4 : List UInt8 := dkwX1_rule_4 ++ dktX1_rule_5
def dkwX1_rule_3 : List UInt8 := [180, 0, 158, 180, 1, 13, 167, 0, 60, 42, 180, 0, 158, 180, 1, 18, 167, 0, 50, 42, 182, 1, 21]
abbrev dktX1_rule_3 : List UInt8 := dkwX1_rule_3 ++ dktX1_rule_4
def dkwX1_rule_2 : List UInt8 := [42, 180, 0, 141, 180, 0, 205, 180, 0, 208, 167, 0, 80, 42, 180, 0, 141, 180, 1, 8, 167, 0, 70, 42]
abbrev dktX1_rule_2 : List UInt8 := dkwX1_rule_2 ++ dktX1_rule_3
def dkwX1_rule_1 : List UInt8 := [170, 0, 0, 0, 0, 135, 0, 0, 0, 0, 0, 0, 0, 7, 0, 0, 0, 46, 0, 0, 0, 59, 0, 0, 0, 69, 0, 0, 0, 79, 0, 0, 0, 89, 0, 0, 0, 99, 0, 0, 0, 109, 0, 0, 0, 122]
abbrev dktX1_rule_1 : List UInt8 := dkwX1_rule_1 ++ dktX1_rule_2
def dkwX1_rule_0 : List UInt8 := [42, 180, 0, 158, 199, 0, 5, 2, 172, 27]
abbrev dktX1_rule_0 : List UInt8 := dkwX1_rule_0 ++ dktX1_rule_1
theorem dksX1_rule_0 : cX1_rule.data.toList.drop 0 = dktX1_rule_0 := by decide +kernel
theorem dksX1_rule_1 : cX1_rule.data.toList.drop 10 = dktX1_rule_1 := dk_seg dksX1_rule_0 10 rfl rfl
theorem dksX1_rule_2 : cX1_rule.data.toList.drop 56 = dktX1_rule_2 := dk_seg dksX1_rule_1 46 rfl rfl
theorem dksX1_rule_3 : cX1_rule.data.toList.drop 80 = dktX1_rule_3 := dk_seg dksX1_rule_2 24 rfl rfl
theorem dksX1_rule_4 : cX1_rule.data.toList.drop 103 = dktX1_rule_4 := dk_seg dksX1_rule_3 23 rfl rfl
theorem dksX1_rule_5 : cX1_rule.data.toList.drop 126 = dktX1_rule_5 := dk_seg dksX1_rule_4 23 rfl rfl
theorem dX1_rule_0 : decode cX1_rule 0 = .ok (.aload_n 0, 1) := dk_42 (dk_at dksX1_rule_0 0 rfl rfl)
theorem dX1_rule_1 : decode cX1_rule 1 = .ok (.getfield 158, 3) := dk_180 0 158 (dk_at dksX1_rule_0 1 rfl rfl)
theorem dX1_rule_4 : decode cX1_rule 4 = .ok (.ifnonnull 5, 3) := dk_199 0 5 (dk_at dksX1_rule_0 4 rfl rfl)
theorem dX1_rule_7 : decode cX1_rule 7 = .ok (.iconst (-1), 1) := dk_2 (dk_at dksX1_rule_0 7 rfl rfl)
theorem dX1_rule_8 : decode cX1_rule 8 = .ok (.ireturn, 1) := dk_172 (dk_at dksX1_rule_0 8 rfl rfl)
theorem dX1_rule_9 : decode cX1_rule 9 = .ok (.iload_n 1, 1) := dk_27 (dk_at dksX1_rule_0 9 rfl rfl)
theorem dX1_rule_10 : decode cX1_rule 10 = .ok (.tableswitch 135 0 7 #[46, 59, 69, 79, 89, 99, 109, 122], 46) := by decide +kernel
theorem dX1_rule_56 : decode cX1_rule 56 = .ok (.aload_n 0, 1) := dk_42 (dk_at dksX1_rule_2 0 rfl rfl)
theorem dX1_rule_57 : decode cX1_rule 57 = .ok (.getfield 141, 3) := dk_180 0 141 (dk_at dksX1_rule_2 1 rfl rfl)
theorem dX1_rule_60 : decode cX1_rule 60 = .ok (.getfield 205, 3) := dk_180 0 205 (dk_at dksX1_rule_2 4 rfl rfl)
theorem dX1_rule_63 : decode cX1_rule 63 = .ok (.getfield 208, 3) := dk_180 0 208 (dk_at dksX1_rule_2 7 rfl rfl)
theorem dX1_rule_66 : decode cX1_rule 66 = .ok (.goto 80, 3) := dk_167 0 80 (dk_at dksX1_rule_2 10 rfl rfl)
theorem dX1_rule_69 : decode cX1_rule 69 = .ok (.aload_n 0, 1) := dk_42 (dk_at dksX1_rule_2 13 rfl rfl)
theorem dX1_rule_70 : decode cX1_rule 70 = .ok (.getfield 141, 3) := dk_180 0 141 (dk_at dksX1_rule_2 14 rfl rfl)
theorem dX1_rule_73 : decode cX1_rule 73 = .ok (.getfield 264, 3) := dk_180 1 8 (dk_at dksX1_rule_2 17 rfl rfl)
theorem dX1_rule_76 : decode cX1_rule 76 = .ok (.goto 70, 3) := dk_167 0 70 (dk_at dksX1_rule_2 20 rfl rfl)
theorem dX1_rule_79 : decode cX1_rule 79 = .ok (.aload_n 0, 1) := dk_42 (dk_at dksX1_rule_2 23 rfl rfl)
theorem dX1_rule_80 : decode cX1_rule 80 = .ok (.getfield 158, 3) := dk_180 0 158 (dk_at dksX1_rule_3 0 rfl rfl)
theorem dX1_rule_83 : decode cX1_rule 83 = .ok (.getfield 269, 3) := dk_180 1 13 (dk_at dksX1_rule_3 3 rfl rfl)
theorem dX1_rule_86 : decode cX1_rule 86 = .ok (.goto 60, 3) := dk_167 0 60 (dk_at dksX1_rule_3 6 rfl rfl)
theorem dX1_rule_89 : decode cX1_rule 89 = .ok (.aload_n 0, 1) := dk_42 (dk_at dksX1_rule_3 9 rfl rfl)
theorem dX1_rule_90 : decode cX1_rule 90 = .ok (.getfield 158, 3) := dk_180 0 158 (dk_at dksX1_rule_3 10 rfl rfl)
theorem dX1_rule_93 : decode cX1_rule 93 = .ok (.getfield 274, 3) := dk_180 1 18 (dk_at dksX1_rule_3 13 rfl rfl)
theorem dX1_rule_96 : decode cX1_rule 96 = .ok (.goto 50, 3) := dk_167 0 50 (dk_at dksX1_rule_3 16 rfl rfl)
theorem dX1_rule_99 : decode cX1_rule 99 = .ok (.aload_n 0, 1) := dk_42 (dk_at dksX1_rule_3 19 rfl rfl)
theorem dX1_rule_100 : decode cX1_rule 100 = .ok (.invokevirtual 277, 3) := dk_182 1 21 (dk_at dksX1_rule_3 20 rfl rfl)
theorem dX1_rule_103 : decode cX1_rule 103 = .ok (.getfield 281, 3) := dk_180 1 25 (dk_at dksX1_rule_4 0 rfl rfl)
theorem dX1_rule_106 : decode cX1_rule 106 = .ok (.goto 40, 3) := dk_167 0 40 (dk_at dksX1_rule_4 3 rfl rfl)
theorem dX1_rule_109 : decode cX1_rule 109 = .ok (.aload_n 0, 1) := dk_42 (dk_at dksX1_rule_4 6 rfl rfl)
theorem dX1_rule_110 : decode cX1_rule 110 = .ok (.getfield 141, 3) := dk_180 0 141 (dk_at dksX1_rule_4 7 rfl rfl)
theorem dX1_rule_113 : decode cX1_rule 113 = .ok (.invokevirtual 224, 3) := dk_182 0 224 (dk_at dksX1_rule_4 10 rfl rfl)
theorem dX1_rule_116 : decode cX1_rule 116 = .ok (.goto 30, 3) := dk_167 0 30 (dk_at dksX1_rule_4 13 rfl rfl)
theorem dX1_rule_119 : decode cX1_rule 119 = .ok (.aload_n 0, 1) := dk_42 (dk_at dksX1_rule_4 16 rfl rfl)
theorem dX1_rule_120 : decode cX1_rule 120 = .ok (.getfield 141, 3) := dk_180 0 141 (dk_at dksX1_rule_4 17 rfl rfl)
theorem dX1_rule_123 : decode cX1_rule 123 = .ok (.getfield 205, 3) := dk_180 0 205 (dk_at dksX1_rule_4 20 rfl rfl)
theorem dX1_rule_126 : decode cX1_rule 126 = .ok (.invokevirtual 282, 3) := dk_182 1 26 (dk_at dksX1_rule_5 0 rfl rfl)
theorem dX1_rule_129 : decode cX1_rule 129 = .ok (.goto 17, 3) := dk_167 0 17 (dk_at dksX1_rule_5 3 rfl rfl)
theorem dX1_rule_132 : decode cX1_rule 132 = .ok (.aload_n 0, 1) := dk_42 (dk_at dksX1_rule_5 6 rfl rfl)
theorem dX1_rule_133 : decode cX1_rule 133 = .ok (.getfield 141, 3) := dk_180 0 141 (dk_at dksX1_rule_5 7 rfl rfl)
theorem dX1_rule_136 : decode cX1_rule 136 = .ok (.getfield 205, 3) := dk_180 0 205 (dk_at dksX1_rule_5 10 rfl rfl)
theorem dX1_rule_139 : decode cX1_rule 139 = .ok (.invokevirtual 285, 3) := dk_182 1 29 (dk_at dksX1_rule_5 13 rfl rfl)
theorem dX1_rule_142 : decode cX1_rule 142 = .ok (.goto 4, 3) := dk_167 0 4 (dk_at dksX1_rule_5 16 rfl rfl)
theorem dX1_rule_145 : decode cX1_rule 145 = .ok (.iconst (-1), 1) := dk_2 (dk_at dksX1_rule_5 19 rfl rfl)
theorem dX1_rule_146 : decode cX1_rule 146 = .ok (.ireturn, 1) := dk_172 (dk_at dksX1_rule_5 20 rfl rfl)
def dkwX1_found_0 : List UInt8 := [42, 180, 0, 122, 42, 180, 0, 141, 180, 0, 205, 42, 180, 0, 141, 180, 1, 8, 182, 1, 10, 176]
abbrev dktX1_found_0 : List UInt8 := dkwX1_found_0 ++ []
theorem dksX1_found_0 : cX1_found.data.toList.drop 0 = dktX1_found_0 := by decide +kernel
theorem dX1_found_0 : decode cX1_found 0 = .ok (.aload_n 0, 1) := dk_42 (dk_at dksX1_found_0 0 rfl rfl)
theorem dX1_found_1 : decode cX1_found 1 = .ok (.getfield 122, 3) := dk_180 0 122 (dk_at dksX1_found_0 1 rfl rfl)
theorem dX1_found_4 : decode cX1_found 4 = .ok (.aload_n 0, 1) := dk_42 (dk_at dksX1_found_0 4 rfl rfl)
theorem dX1_found_5 : decode cX1_found 5 = .ok (.getfield 141, 3) := dk_180 0 141 (dk_at dksX1_found_0 5 rfl rfl)
theorem dX1_found_8 : decode cX1_found 8 = .ok (.getfield 205, 3) := dk_180 0 205 (dk_at dksX1_found_0 8 rfl rfl)
theorem dX1_found_11 : decode cX1_found 11 = .ok (.aload_n 0, 1) := dk_42 (dk_at dksX1_found_0 11 rfl rfl)
theorem dX1_found_12 : decode cX1_found 12 = .ok (.getfield 141, 3) := dk_180 0 141 (dk_at dksX1_found_0 12 rfl rfl)
theorem dX1_found_15 : decode cX1_found 15 = .ok (.getfield 264, 3) := dk_180 1 8 (dk_at dksX1_found_0 15 rfl rfl)
theorem dX1_found_18 : decode cX1_found 18 = .ok (.invokevirtual 266, 3) := dk_182 1 10 (dk_at dksX1_found_0 18 rfl rfl)
theorem dX1_found_21 : decode cX1_found 21 = .ok (.areturn, 1) := dk_176 (dk_at dksX1_found_0 21 rfl rfl)
def dkwX1_sample_1 : List UInt8 := [180, 0, 205, 180, 1, 36, 27, 46, 167, 0, 4, 2, 172]
abbrev dktX1_sample_1 : List UInt8 := dkwX1_sample_1 ++ []
def dkwX1_sample_0 : List UInt8 := [42, 180, 0, 158, 198, 0, 29, 42, 180, 0, 141, 27, 182, 1, 32, 153, 0, 18, 42, 180, 0, 141]
abbrev dktX1_sample_0 : List UInt8 := dkwX1_sample_0 ++ dktX1_sample_1
theorem dksX1_sample_0 : cX1_sample.data.toList.drop 0 = dktX1_sample_0 := by decide +kernel
theorem dksX1_sample_1 : cX1_sample.data.toList.drop 22 = dktX1_sample_1 := dk_seg dksX1_sample_0 22 rfl rfl
theorem dX1_sample_0 : decode cX1_sample 0 = .ok (.aload_n 0, 1) := dk_42 (dk_at dksX1_sample_0 0 rfl rfl)
theorem dX1_sample_1 : decode cX1_sample 1 = .ok (.getfield 158, 3) := dk_180 0 158 (dk_at dksX1_sample_0 1 rfl rfl)
theorem dX1_sample_4 : decode cX1_sample 4 = .ok (.ifnull 29, 3) := dk_198 0 29 (dk_at dksX1_sample_0 4 rfl rfl)
theorem dX1_sample_7 : decode cX1_sample 7 = .ok (.aload_n 0, 1) := dk_42 (dk_at dksX1_sample_0 7 rfl rfl)
theorem dX1_sample_8 : decode cX1_sample 8 = .ok (.getfield 141, 3) := dk_180 0 141 (dk_at dksX1_sample_0 8 rfl rfl)
theorem dX1_sample_11 : decode cX1_sample 11 = .ok (.iload_n 1, 1) := dk_27 (dk_at dksX1_sample_0 11 rfl rfl)
theorem dX1_sample_12 : decode cX1_sample 12 = .ok (.invokevirtual 288, 3) := dk_182 1 32 (dk_at dksX1_sample_0 12 rfl rfl)
theorem dX1_sample_15 : decode cX1_sample 15 = .ok (.ifCond .eq 18, 3) := dk_153 0 18 (dk_at dksX1_sample_0 15 rfl rfl)
theorem dX1_sample_18 : decode cX1_sample 18 = .ok (.aload_n 0, 1) := dk_42 (dk_at dksX1_sample_0 18 rfl rfl)
theorem dX1_sample_19 : decode cX1_sample 19 = .ok (.getfield 141, 3) := dk_180 0 141 (dk_at dksX1_sample_0 19 rfl rfl)
theorem dX1_sample_22 : decode cX1_sample 22 = .ok (.getfield 205, 3) := dk_180 0 205 (dk_at dksX1_sample_1 0 rfl rfl)
theorem dX1_sample_25 : decode cX1_sample 25 = .ok (.getfield 292, 3) := dk_180 1 36 (dk_at dksX1_sample_1 3 rfl rfl)
theorem dX1_sample_28 : decode cX1_sample 28 = .ok (.iload_n 1, 1) := dk_27 (dk_at dksX1_sample_1 6 rfl rfl)
theorem dX1_sample_29 : decode cX1_sample 29 = .ok (.iaload, 1) := dk_46 (dk_at dksX1_sample_1 7 rfl rfl)
theorem dX1_sample_30 : decode cX1_sample 30 = .ok (.goto 4, 3) := dk_167 0 4 (dk_at dksX1_sample_1 8 rfl rfl)
theorem dX1_sample_33 : decode cX1_sample 33 = .ok (.iconst (-1), 1) := dk_2 (dk_at dksX1_sample_1 11 rfl rfl)
theorem dX1_sample_34 : decode cX1_sample 34 = .ok (.ireturn, 1) := dk_172 (dk_at dksX1_sample_1 12 rfl rfl)
def dkwX1_basin_3 : List UInt8 := [180, 0, 122, 27, 182, 1, 97, 167, 0, 15, 42, 180, 0, 122, 27, 182, 1, 100, 167, 0, 4, 2, 172]
abbrev dktX1_basin_3 : List UInt8 := dkwX1_basin_3 ++ []
def dkwX1_basin_2 : List UInt8 := [42, 180, 0, 122, 27, 182, 1, 91, 167, 0, 37, 42, 180, 0, 122, 27, 182, 1, 94, 167, 0, 26, 42]
abbrev dktX1_basin_2 : List UInt8 := dkwX1_basin_2 ++ dktX1_basin_3
def dkwX1_basin_1 : List UInt8 := [170, 0, 0, 0, 73, 0, 0, 0, 0, 0, 0, 0, 3, 0, 0, 0, 29, 0, 0, 0, 40, 0, 0, 0, 51, 0, 0, 0, 62]
abbrev dktX1_basin_1 : List UInt8 := dkwX1_basin_1 ++ dktX1_basin_2
def dkwX1_basin_0 : List UInt8 := [42, 27, 182, 1, 89, 154, 0, 5, 2, 172, 28]
abbrev dktX1_basin_0 : List UInt8 := dkwX1_basin_0 ++ dktX1_basin_1
theorem dksX1_basin_0 : cX1_basin.data.toList.drop 0 = dktX1_basin_0 := by decide +kernel
theorem dksX1_basin_1 : cX1_basin.data.toList.drop 11 = dktX1_basin_1 := dk_seg dksX1_basin_0 11 rfl rfl
theorem dksX1_basin_2 : cX1_basin.data.toList.drop 40 = dktX1_basin_2 := dk_seg dksX1_basin_1 29 rfl rfl
theorem dksX1_basin_3 : cX1_basin.data.toList.drop 63 = dktX1_basin_3 := dk_seg dksX1_basin_2 23 rfl rfl
theorem dX1_basin_0 : decode cX1_basin 0 = .ok (.aload_n 0, 1) := dk_42 (dk_at dksX1_basin_0 0 rfl rfl)
theorem dX1_basin_1 : decode cX1_basin 1 = .ok (.iload_n 1, 1) := dk_27 (dk_at dksX1_basin_0 1 rfl rfl)
theorem dX1_basin_2 : decode cX1_basin 2 = .ok (.invokevirtual 345, 3) := dk_182 1 89 (dk_at dksX1_basin_0 2 rfl rfl)
theorem dX1_basin_5 : decode cX1_basin 5 = .ok (.ifCond .ne 5, 3) := dk_154 0 5 (dk_at dksX1_basin_0 5 rfl rfl)
theorem dX1_basin_8 : decode cX1_basin 8 = .ok (.iconst (-1), 1) := dk_2 (dk_at dksX1_basin_0 8 rfl rfl)
theorem dX1_basin_9 : decode cX1_basin 9 = .ok (.ireturn, 1) := dk_172 (dk_at dksX1_basin_0 9 rfl rfl)
theorem dX1_basin_10 : decode cX1_basin 10 = .ok (.iload_n 2, 1) := dk_28 (dk_at dksX1_basin_0 10 rfl rfl)
theorem dX1_basin_11 : decode cX1_basin 11 = .ok (.tableswitch 73 0 3 #[29, 40, 51, 62], 29) := by decide +kernel
theorem dX1_basin_40 : decode cX1_basin 40 = .ok (.aload_n 0, 1) := dk_42 (dk_at dksX1_basin_2 0 rfl rfl)
theorem dX1_basin_41 : decode cX1_basin 41 = .ok (.getfield 122, 3) := dk_180 0 122 (dk_at dksX1_basin_2 1 rfl rfl)
theorem dX1_basin_44 : decode cX1_basin 44 = .ok (.iload_n 1, 1) := dk_27 (dk_at dksX1_basin_2 4 rfl rfl)
theorem dX1_basin_45 : decode cX1_basin 45 = .ok (.invokevirtual 347, 3) := dk_182 1 91 (dk_at dksX1_basin_2 5 rfl rfl)
theorem dX1_basin_48 : decode cX1_basin 48 = .ok (.goto 37, 3) := dk_167 0 37 (dk_at dksX1_basin_2 8 rfl rfl)
theorem dX1_basin_51 : decode cX1_basin 51 = .ok (.aload_n 0, 1) := dk_42 (dk_at dksX1_basin_2 11 rfl rfl)
theorem dX1_basin_52 : decode cX1_basin 52 = .ok (.getfield 122, 3) := dk_180 0 122 (dk_at dksX1_basin_2 12 rfl rfl)
theorem dX1_basin_55 : decode cX1_basin 55 = .ok (.iload_n 1, 1) := dk_27 (dk_at dksX1_basin_2 15 rfl rfl)
theorem dX1_basin_56 : decode cX1_basin 56 = .ok (.invokevirtual 350, 3) := dk_182 1 94 (dk_at dksX1_basin_2 16 rfl rfl)
theorem dX1_basin_59 : decode cX1_basin 59 = .ok (.goto 26, 3) := dk_167 0 26 (dk_at dksX1_basin_2 19 rfl rfl)
theorem dX1_basin_62 : decode cX1_basin 62 = .ok (.aload_n 0, 1) := dk_42 (dk_at dksX1_basin_2 22 rfl rfl)
theorem dX1_basin_63 : decode cX1_basin 63 = .ok (.getfield 122, 3) := dk_180 0 122 (dk_at dksX1_basin_3 0 rfl rfl)
theorem dX1_basin_66 : decode cX1_basin 66 = .ok (.iload_n 1, 1) := dk_27 (dk_at dksX1_basin_3 3 rfl rfl)
theorem dX1_basin_67 : decode cX1_basin 67 = .ok (.invokevirtual 353, 3) := dk_182 1 97 (dk_at dksX1_basin_3 4 rfl rfl)
theorem dX1_basin_70 : decode cX1_basin 70 = .ok (.goto 15, 3) := dk_167 0 15 (dk_at dksX1_basin_3 7 rfl rfl)
theorem dX1_basin_73 : decode cX1_basin 73 = .ok (.aload_n 0, 1) := dk_42 (dk_at dksX1_basin_3 10 rfl rfl)
theorem dX1_basin_74 : decode cX1_basin 74 = .ok (.getfield 122, 3) := dk_180 0 122 (dk_at dksX1_basin_3 11 rfl rfl)
theorem dX1_basin_77 : decode cX1_basin 77 = .ok (.iload_n 1, 1) := dk_27 (dk_at dksX1_basin_3 14 rfl rfl)
theorem dX1_basin_78 : decode cX1_basin 78 = .ok (.invokevirtual 356, 3) := dk_182 1 100 (dk_at dksX1_basin_3 15 rfl rfl)
theorem dX1_basin_81 : decode cX1_basin 81 = .ok (.goto 4, 3) := dk_167 0 4 (dk_at dksX1_basin_3 18 rfl rfl)
theorem dX1_basin_84 : decode cX1_basin 84 = .ok (.iconst (-1), 1) := dk_2 (dk_at dksX1_basin_3 21 rfl rfl)
theorem dX1_basin_85 : decode cX1_basin 85 = .ok (.ireturn, 1) := dk_172 (dk_at dksX1_basin_3 22 rfl rfl)
def dkwX1_isKept_1 : List UInt8 := [153, 0, 22, 42, 180, 0, 122, 180, 1, 51, 27, 50, 180, 1, 79, 153, 0, 7, 4, 167, 0, 4, 3, 172]
abbrev dktX1_isKept_1 : List UInt8 := dkwX1_isKept_1 ++ []
def dkwX1_isKept_0 : List UInt8 := [42, 180, 0, 158, 198, 0, 41, 27, 133, 9, 42, 182, 1, 21, 180, 1, 25, 4, 100, 133, 184, 0, 162]
abbrev dktX1_isKept_0 : List UInt8 := dkwX1_isKept_0 ++ dktX1_isKept_1
theorem dksX1_isKept_0 : cX1_isKept.data.toList.drop 0 = dktX1_isKept_0 := by decide +kernel
theorem dksX1_isKept_1 : cX1_isKept.data.toList.drop 23 = dktX1_isKept_1 := dk_seg dksX1_isKept_0 23 rfl rfl
theorem dX1_isKept_0 : decode cX1_isKept 0 = .ok (.aload_n 0, 1) := dk_42 (dk_at dksX1_isKept_0 0 rfl rfl)
theorem dX1_isKept_1 : decode cX1_isKept 1 = .ok (.getfield 158, 3) := dk_180 0 158 (dk_at dksX1_isKept_0 1 rfl rfl)
theorem dX1_isKept_4 : decode cX1_isKept 4 = .ok (.ifnull 41, 3) := dk_198 0 41 (dk_at dksX1_isKept_0 4 rfl rfl)
theorem dX1_isKept_7 : decode cX1_isKept 7 = .ok (.iload_n 1, 1) := dk_27 (dk_at dksX1_isKept_0 7 rfl rfl)
theorem dX1_isKept_8 : decode cX1_isKept 8 = .ok (.i2l, 1) := dk_133 (dk_at dksX1_isKept_0 8 rfl rfl)
theorem dX1_isKept_9 : decode cX1_isKept 9 = .ok (.lconst 0, 1) := dk_9 (dk_at dksX1_isKept_0 9 rfl rfl)
theorem dX1_isKept_10 : decode cX1_isKept 10 = .ok (.aload_n 0, 1) := dk_42 (dk_at dksX1_isKept_0 10 rfl rfl)
theorem dX1_isKept_11 : decode cX1_isKept 11 = .ok (.invokevirtual 277, 3) := dk_182 1 21 (dk_at dksX1_isKept_0 11 rfl rfl)
theorem dX1_isKept_14 : decode cX1_isKept 14 = .ok (.getfield 281, 3) := dk_180 1 25 (dk_at dksX1_isKept_0 14 rfl rfl)
theorem dX1_isKept_17 : decode cX1_isKept 17 = .ok (.iconst 1, 1) := dk_4 (dk_at dksX1_isKept_0 17 rfl rfl)
theorem dX1_isKept_18 : decode cX1_isKept 18 = .ok (.isub, 1) := dk_100 (dk_at dksX1_isKept_0 18 rfl rfl)
theorem dX1_isKept_19 : decode cX1_isKept 19 = .ok (.i2l, 1) := dk_133 (dk_at dksX1_isKept_0 19 rfl rfl)
theorem dX1_isKept_20 : decode cX1_isKept 20 = .ok (.invokestatic 162, 3) := dk_184 0 162 (dk_at dksX1_isKept_0 20 rfl rfl)
theorem dX1_isKept_23 : decode cX1_isKept 23 = .ok (.ifCond .eq 22, 3) := dk_153 0 22 (dk_at dksX1_isKept_1 0 rfl rfl)
theorem dX1_isKept_26 : decode cX1_isKept 26 = .ok (.aload_n 0, 1) := dk_42 (dk_at dksX1_isKept_1 3 rfl rfl)
theorem dX1_isKept_27 : decode cX1_isKept 27 = .ok (.getfield 122, 3) := dk_180 0 122 (dk_at dksX1_isKept_1 4 rfl rfl)
theorem dX1_isKept_30 : decode cX1_isKept 30 = .ok (.getfield 307, 3) := dk_180 1 51 (dk_at dksX1_isKept_1 7 rfl rfl)
theorem dX1_isKept_33 : decode cX1_isKept 33 = .ok (.iload_n 1, 1) := dk_27 (dk_at dksX1_isKept_1 10 rfl rfl)
theorem dX1_isKept_34 : decode cX1_isKept 34 = .ok (.aaload, 1) := dk_50 (dk_at dksX1_isKept_1 11 rfl rfl)
theorem dX1_isKept_35 : decode cX1_isKept 35 = .ok (.getfield 335, 3) := dk_180 1 79 (dk_at dksX1_isKept_1 12 rfl rfl)
theorem dX1_isKept_38 : decode cX1_isKept 38 = .ok (.ifCond .eq 7, 3) := dk_153 0 7 (dk_at dksX1_isKept_1 15 rfl rfl)
theorem dX1_isKept_41 : decode cX1_isKept 41 = .ok (.iconst 1, 1) := dk_4 (dk_at dksX1_isKept_1 18 rfl rfl)
theorem dX1_isKept_42 : decode cX1_isKept 42 = .ok (.goto 4, 3) := dk_167 0 4 (dk_at dksX1_isKept_1 19 rfl rfl)
theorem dX1_isKept_45 : decode cX1_isKept 45 = .ok (.iconst 0, 1) := dk_3 (dk_at dksX1_isKept_1 22 rfl rfl)
theorem dX1_isKept_46 : decode cX1_isKept 46 = .ok (.ireturn, 1) := dk_172 (dk_at dksX1_isKept_1 23 rfl rfl)
def dkwX1_at_4 : List UInt8 := [172, 132, 4, 1, 167, 255, 206, 2, 172]
abbrev dktX1_at_4 : List UInt8 := dkwX1_at_4 ++ []
def dkwX1_at_3 : List UInt8 := [27, 133, 45, 21, 4, 182, 1, 91, 133, 45, 21, 4, 182, 1, 94, 133, 184, 0, 162, 153, 0, 6, 21, 4]
abbrev dktX1_at_3 : List UInt8 := dkwX1_at_3 ++ dktX1_at_4
def dkwX1_at_2 : List UInt8 := [54, 4, 21, 4, 45, 180, 1, 25, 162, 0, 47, 45, 180, 1, 51, 21, 4, 50, 180, 1, 79, 153, 0, 28]
abbrev dktX1_at_2 : List UInt8 := dkwX1_at_2 ++ dktX1_at_3
def dkwX1_at_1 : List UInt8 := [184, 0, 162, 154, 0, 5, 2, 172, 42, 182, 1, 21, 78, 28, 154, 0, 9, 45, 27, 182, 1, 103, 172, 3]
abbrev dktX1_at_1 : List UInt8 := dkwX1_at_1 ++ dktX1_at_2
def dkwX1_at_0 : List UInt8 := [42, 180, 0, 158, 198, 0, 24, 42, 180, 0, 141, 27, 182, 1, 32, 153, 0, 13, 28, 133, 9, 10]
abbrev dktX1_at_0 : List UInt8 := dkwX1_at_0 ++ dktX1_at_1
theorem dksX1_at_0 : cX1_at.data.toList.drop 0 = dktX1_at_0 := by decide +kernel
theorem dksX1_at_1 : cX1_at.data.toList.drop 22 = dktX1_at_1 := dk_seg dksX1_at_0 22 rfl rfl
theorem dksX1_at_2 : cX1_at.data.toList.drop 46 = dktX1_at_2 := dk_seg dksX1_at_1 24 rfl rfl
theorem dksX1_at_3 : cX1_at.data.toList.drop 70 = dktX1_at_3 := dk_seg dksX1_at_2 24 rfl rfl
theorem dksX1_at_4 : cX1_at.data.toList.drop 94 = dktX1_at_4 := dk_seg dksX1_at_3 24 rfl rfl
theorem dX1_at_0 : decode cX1_at 0 = .ok (.aload_n 0, 1) := dk_42 (dk_at dksX1_at_0 0 rfl rfl)
theorem dX1_at_1 : decode cX1_at 1 = .ok (.getfield 158, 3) := dk_180 0 158 (dk_at dksX1_at_0 1 rfl rfl)
theorem dX1_at_4 : decode cX1_at 4 = .ok (.ifnull 24, 3) := dk_198 0 24 (dk_at dksX1_at_0 4 rfl rfl)
theorem dX1_at_7 : decode cX1_at 7 = .ok (.aload_n 0, 1) := dk_42 (dk_at dksX1_at_0 7 rfl rfl)
theorem dX1_at_8 : decode cX1_at 8 = .ok (.getfield 141, 3) := dk_180 0 141 (dk_at dksX1_at_0 8 rfl rfl)
theorem dX1_at_11 : decode cX1_at 11 = .ok (.iload_n 1, 1) := dk_27 (dk_at dksX1_at_0 11 rfl rfl)
theorem dX1_at_12 : decode cX1_at 12 = .ok (.invokevirtual 288, 3) := dk_182 1 32 (dk_at dksX1_at_0 12 rfl rfl)
theorem dX1_at_15 : decode cX1_at 15 = .ok (.ifCond .eq 13, 3) := dk_153 0 13 (dk_at dksX1_at_0 15 rfl rfl)
theorem dX1_at_18 : decode cX1_at 18 = .ok (.iload_n 2, 1) := dk_28 (dk_at dksX1_at_0 18 rfl rfl)
theorem dX1_at_19 : decode cX1_at 19 = .ok (.i2l, 1) := dk_133 (dk_at dksX1_at_0 19 rfl rfl)
theorem dX1_at_20 : decode cX1_at 20 = .ok (.lconst 0, 1) := dk_9 (dk_at dksX1_at_0 20 rfl rfl)
theorem dX1_at_21 : decode cX1_at 21 = .ok (.lconst 1, 1) := dk_10 (dk_at dksX1_at_0 21 rfl rfl)
theorem dX1_at_22 : decode cX1_at 22 = .ok (.invokestatic 162, 3) := dk_184 0 162 (dk_at dksX1_at_1 0 rfl rfl)
theorem dX1_at_25 : decode cX1_at 25 = .ok (.ifCond .ne 5, 3) := dk_154 0 5 (dk_at dksX1_at_1 3 rfl rfl)
theorem dX1_at_28 : decode cX1_at 28 = .ok (.iconst (-1), 1) := dk_2 (dk_at dksX1_at_1 6 rfl rfl)
theorem dX1_at_29 : decode cX1_at 29 = .ok (.ireturn, 1) := dk_172 (dk_at dksX1_at_1 7 rfl rfl)
theorem dX1_at_30 : decode cX1_at 30 = .ok (.aload_n 0, 1) := dk_42 (dk_at dksX1_at_1 8 rfl rfl)
theorem dX1_at_31 : decode cX1_at 31 = .ok (.invokevirtual 277, 3) := dk_182 1 21 (dk_at dksX1_at_1 9 rfl rfl)
theorem dX1_at_34 : decode cX1_at 34 = .ok (.astore_n 3, 1) := dk_78 (dk_at dksX1_at_1 12 rfl rfl)
theorem dX1_at_35 : decode cX1_at 35 = .ok (.iload_n 2, 1) := dk_28 (dk_at dksX1_at_1 13 rfl rfl)
theorem dX1_at_36 : decode cX1_at 36 = .ok (.ifCond .ne 9, 3) := dk_154 0 9 (dk_at dksX1_at_1 14 rfl rfl)
theorem dX1_at_39 : decode cX1_at 39 = .ok (.aload_n 3, 1) := dk_45 (dk_at dksX1_at_1 17 rfl rfl)
theorem dX1_at_40 : decode cX1_at 40 = .ok (.iload_n 1, 1) := dk_27 (dk_at dksX1_at_1 18 rfl rfl)
theorem dX1_at_41 : decode cX1_at 41 = .ok (.invokevirtual 359, 3) := dk_182 1 103 (dk_at dksX1_at_1 19 rfl rfl)
theorem dX1_at_44 : decode cX1_at 44 = .ok (.ireturn, 1) := dk_172 (dk_at dksX1_at_1 22 rfl rfl)
theorem dX1_at_45 : decode cX1_at 45 = .ok (.iconst 0, 1) := dk_3 (dk_at dksX1_at_1 23 rfl rfl)
theorem dX1_at_46 : decode cX1_at 46 = .ok (.istore 4, 2) := dk_54 4 (dk_at dksX1_at_2 0 rfl rfl)
theorem dX1_at_48 : decode cX1_at 48 = .ok (.iload 4, 2) := dk_21 4 (dk_at dksX1_at_2 2 rfl rfl)
theorem dX1_at_50 : decode cX1_at 50 = .ok (.aload_n 3, 1) := dk_45 (dk_at dksX1_at_2 4 rfl rfl)
theorem dX1_at_51 : decode cX1_at 51 = .ok (.getfield 281, 3) := dk_180 1 25 (dk_at dksX1_at_2 5 rfl rfl)
theorem dX1_at_54 : decode cX1_at 54 = .ok (.if_icmp .ge 47, 3) := dk_162 0 47 (dk_at dksX1_at_2 8 rfl rfl)
theorem dX1_at_57 : decode cX1_at 57 = .ok (.aload_n 3, 1) := dk_45 (dk_at dksX1_at_2 11 rfl rfl)
theorem dX1_at_58 : decode cX1_at 58 = .ok (.getfield 307, 3) := dk_180 1 51 (dk_at dksX1_at_2 12 rfl rfl)
theorem dX1_at_61 : decode cX1_at 61 = .ok (.iload 4, 2) := dk_21 4 (dk_at dksX1_at_2 15 rfl rfl)
theorem dX1_at_63 : decode cX1_at 63 = .ok (.aaload, 1) := dk_50 (dk_at dksX1_at_2 17 rfl rfl)
theorem dX1_at_64 : decode cX1_at 64 = .ok (.getfield 335, 3) := dk_180 1 79 (dk_at dksX1_at_2 18 rfl rfl)
theorem dX1_at_67 : decode cX1_at 67 = .ok (.ifCond .eq 28, 3) := dk_153 0 28 (dk_at dksX1_at_2 21 rfl rfl)
theorem dX1_at_70 : decode cX1_at 70 = .ok (.iload_n 1, 1) := dk_27 (dk_at dksX1_at_3 0 rfl rfl)
theorem dX1_at_71 : decode cX1_at 71 = .ok (.i2l, 1) := dk_133 (dk_at dksX1_at_3 1 rfl rfl)
theorem dX1_at_72 : decode cX1_at 72 = .ok (.aload_n 3, 1) := dk_45 (dk_at dksX1_at_3 2 rfl rfl)
theorem dX1_at_73 : decode cX1_at 73 = .ok (.iload 4, 2) := dk_21 4 (dk_at dksX1_at_3 3 rfl rfl)
theorem dX1_at_75 : decode cX1_at 75 = .ok (.invokevirtual 347, 3) := dk_182 1 91 (dk_at dksX1_at_3 5 rfl rfl)
theorem dX1_at_78 : decode cX1_at 78 = .ok (.i2l, 1) := dk_133 (dk_at dksX1_at_3 8 rfl rfl)
theorem dX1_at_79 : decode cX1_at 79 = .ok (.aload_n 3, 1) := dk_45 (dk_at dksX1_at_3 9 rfl rfl)
theorem dX1_at_80 : decode cX1_at 80 = .ok (.iload 4, 2) := dk_21 4 (dk_at dksX1_at_3 10 rfl rfl)
theorem dX1_at_82 : decode cX1_at 82 = .ok (.invokevirtual 350, 3) := dk_182 1 94 (dk_at dksX1_at_3 12 rfl rfl)
theorem dX1_at_85 : decode cX1_at 85 = .ok (.i2l, 1) := dk_133 (dk_at dksX1_at_3 15 rfl rfl)
theorem dX1_at_86 : decode cX1_at 86 = .ok (.invokestatic 162, 3) := dk_184 0 162 (dk_at dksX1_at_3 16 rfl rfl)
theorem dX1_at_89 : decode cX1_at 89 = .ok (.ifCond .eq 6, 3) := dk_153 0 6 (dk_at dksX1_at_3 19 rfl rfl)
theorem dX1_at_92 : decode cX1_at 92 = .ok (.iload 4, 2) := dk_21 4 (dk_at dksX1_at_3 22 rfl rfl)
theorem dX1_at_94 : decode cX1_at 94 = .ok (.ireturn, 1) := dk_172 (dk_at dksX1_at_4 0 rfl rfl)
theorem dX1_at_95 : decode cX1_at 95 = .ok (.iinc 4 1, 3) := dk_132 4 1 (dk_at dksX1_at_4 1 rfl rfl)
theorem dX1_at_98 : decode cX1_at 98 = .ok (.goto (-50), 3) := dk_167 255 206 (dk_at dksX1_at_4 4 rfl rfl)
theorem dX1_at_101 : decode cX1_at 101 = .ok (.iconst (-1), 1) := dk_2 (dk_at dksX1_at_4 7 rfl rfl)
theorem dX1_at_102 : decode cX1_at 102 = .ok (.ireturn, 1) := dk_172 (dk_at dksX1_at_4 8 rfl rfl)
def dkwX1_line_4 : List UInt8 := [27, 46, 172]
abbrev dktX1_line_4 : List UInt8 := dkwX1_line_4 ++ []
def dkwX1_line_3 : List UInt8 := [182, 1, 113, 172, 42, 182, 1, 21, 42, 180, 0, 158, 3, 182, 1, 39, 62, 42, 180, 0, 122, 180, 1, 115]
abbrev dktX1_line_3 : List UInt8 := dkwX1_line_3 ++ dktX1_line_4
def dkwX1_line_2 : List UInt8 := [180, 0, 158, 180, 1, 106, 27, 46, 172, 28, 5, 160, 0, 16, 42, 180, 0, 158, 180, 1, 109, 27, 50]
abbrev dktX1_line_2 : List UInt8 := dkwX1_line_2 ++ dktX1_line_3
def dkwX1_line_1 : List UInt8 := [153, 0, 15, 28, 133, 9, 20, 0, 243, 184, 0, 162, 154, 0, 5, 2, 172, 28, 154, 0, 13, 42]
abbrev dktX1_line_1 : List UInt8 := dkwX1_line_1 ++ dktX1_line_2
def dkwX1_line_0 : List UInt8 := [42, 180, 0, 158, 198, 0, 34, 27, 133, 9, 42, 180, 0, 158, 180, 1, 18, 4, 100, 133, 184, 0, 162]
abbrev dktX1_line_0 : List UInt8 := dkwX1_line_0 ++ dktX1_line_1
theorem dksX1_line_0 : cX1_line.data.toList.drop 0 = dktX1_line_0 := by decide +kernel
theorem dksX1_line_1 : cX1_line.data.toList.drop 23 = dktX1_line_1 := dk_seg dksX1_line_0 23 rfl rfl
theorem dksX1_line_2 : cX1_line.data.toList.drop 45 = dktX1_line_2 := dk_seg dksX1_line_1 22 rfl rfl
theorem dksX1_line_3 : cX1_line.data.toList.drop 68 = dktX1_line_3 := dk_seg dksX1_line_2 23 rfl rfl
theorem dksX1_line_4 : cX1_line.data.toList.drop 92 = dktX1_line_4 := dk_seg dksX1_line_3 24 rfl rfl
theorem dX1_line_0 : decode cX1_line 0 = .ok (.aload_n 0, 1) := dk_42 (dk_at dksX1_line_0 0 rfl rfl)
theorem dX1_line_1 : decode cX1_line 1 = .ok (.getfield 158, 3) := dk_180 0 158 (dk_at dksX1_line_0 1 rfl rfl)
theorem dX1_line_4 : decode cX1_line 4 = .ok (.ifnull 34, 3) := dk_198 0 34 (dk_at dksX1_line_0 4 rfl rfl)
theorem dX1_line_7 : decode cX1_line 7 = .ok (.iload_n 1, 1) := dk_27 (dk_at dksX1_line_0 7 rfl rfl)
theorem dX1_line_8 : decode cX1_line 8 = .ok (.i2l, 1) := dk_133 (dk_at dksX1_line_0 8 rfl rfl)
theorem dX1_line_9 : decode cX1_line 9 = .ok (.lconst 0, 1) := dk_9 (dk_at dksX1_line_0 9 rfl rfl)
theorem dX1_line_10 : decode cX1_line 10 = .ok (.aload_n 0, 1) := dk_42 (dk_at dksX1_line_0 10 rfl rfl)
theorem dX1_line_11 : decode cX1_line 11 = .ok (.getfield 158, 3) := dk_180 0 158 (dk_at dksX1_line_0 11 rfl rfl)
theorem dX1_line_14 : decode cX1_line 14 = .ok (.getfield 274, 3) := dk_180 1 18 (dk_at dksX1_line_0 14 rfl rfl)
theorem dX1_line_17 : decode cX1_line 17 = .ok (.iconst 1, 1) := dk_4 (dk_at dksX1_line_0 17 rfl rfl)
theorem dX1_line_18 : decode cX1_line 18 = .ok (.isub, 1) := dk_100 (dk_at dksX1_line_0 18 rfl rfl)
theorem dX1_line_19 : decode cX1_line 19 = .ok (.i2l, 1) := dk_133 (dk_at dksX1_line_0 19 rfl rfl)
theorem dX1_line_20 : decode cX1_line 20 = .ok (.invokestatic 162, 3) := dk_184 0 162 (dk_at dksX1_line_0 20 rfl rfl)
theorem dX1_line_23 : decode cX1_line 23 = .ok (.ifCond .eq 15, 3) := dk_153 0 15 (dk_at dksX1_line_1 0 rfl rfl)
theorem dX1_line_26 : decode cX1_line 26 = .ok (.iload_n 2, 1) := dk_28 (dk_at dksX1_line_1 3 rfl rfl)
theorem dX1_line_27 : decode cX1_line 27 = .ok (.i2l, 1) := dk_133 (dk_at dksX1_line_1 4 rfl rfl)
theorem dX1_line_28 : decode cX1_line 28 = .ok (.lconst 0, 1) := dk_9 (dk_at dksX1_line_1 5 rfl rfl)
theorem dX1_line_29 : decode cX1_line 29 = .ok (.ldc2_w 243, 3) := dk_20 0 243 (dk_at dksX1_line_1 6 rfl rfl)
theorem dX1_line_32 : decode cX1_line 32 = .ok (.invokestatic 162, 3) := dk_184 0 162 (dk_at dksX1_line_1 9 rfl rfl)
theorem dX1_line_35 : decode cX1_line 35 = .ok (.ifCond .ne 5, 3) := dk_154 0 5 (dk_at dksX1_line_1 12 rfl rfl)
theorem dX1_line_38 : decode cX1_line 38 = .ok (.iconst (-1), 1) := dk_2 (dk_at dksX1_line_1 15 rfl rfl)
theorem dX1_line_39 : decode cX1_line 39 = .ok (.ireturn, 1) := dk_172 (dk_at dksX1_line_1 16 rfl rfl)
theorem dX1_line_40 : decode cX1_line 40 = .ok (.iload_n 2, 1) := dk_28 (dk_at dksX1_line_1 17 rfl rfl)
theorem dX1_line_41 : decode cX1_line 41 = .ok (.ifCond .ne 13, 3) := dk_154 0 13 (dk_at dksX1_line_1 18 rfl rfl)
theorem dX1_line_44 : decode cX1_line 44 = .ok (.aload_n 0, 1) := dk_42 (dk_at dksX1_line_1 21 rfl rfl)
theorem dX1_line_45 : decode cX1_line 45 = .ok (.getfield 158, 3) := dk_180 0 158 (dk_at dksX1_line_2 0 rfl rfl)
theorem dX1_line_48 : decode cX1_line 48 = .ok (.getfield 362, 3) := dk_180 1 106 (dk_at dksX1_line_2 3 rfl rfl)
theorem dX1_line_51 : decode cX1_line 51 = .ok (.iload_n 1, 1) := dk_27 (dk_at dksX1_line_2 6 rfl rfl)
theorem dX1_line_52 : decode cX1_line 52 = .ok (.iaload, 1) := dk_46 (dk_at dksX1_line_2 7 rfl rfl)
theorem dX1_line_53 : decode cX1_line 53 = .ok (.ireturn, 1) := dk_172 (dk_at dksX1_line_2 8 rfl rfl)
theorem dX1_line_54 : decode cX1_line 54 = .ok (.iload_n 2, 1) := dk_28 (dk_at dksX1_line_2 9 rfl rfl)
theorem dX1_line_55 : decode cX1_line 55 = .ok (.iconst 2, 1) := dk_5 (dk_at dksX1_line_2 10 rfl rfl)
theorem dX1_line_56 : decode cX1_line 56 = .ok (.if_icmp .ne 16, 3) := dk_160 0 16 (dk_at dksX1_line_2 11 rfl rfl)
theorem dX1_line_59 : decode cX1_line 59 = .ok (.aload_n 0, 1) := dk_42 (dk_at dksX1_line_2 14 rfl rfl)
theorem dX1_line_60 : decode cX1_line 60 = .ok (.getfield 158, 3) := dk_180 0 158 (dk_at dksX1_line_2 15 rfl rfl)
theorem dX1_line_63 : decode cX1_line 63 = .ok (.getfield 365, 3) := dk_180 1 109 (dk_at dksX1_line_2 18 rfl rfl)
theorem dX1_line_66 : decode cX1_line 66 = .ok (.iload_n 1, 1) := dk_27 (dk_at dksX1_line_2 21 rfl rfl)
theorem dX1_line_67 : decode cX1_line 67 = .ok (.aaload, 1) := dk_50 (dk_at dksX1_line_2 22 rfl rfl)
theorem dX1_line_68 : decode cX1_line 68 = .ok (.invokevirtual 369, 3) := dk_182 1 113 (dk_at dksX1_line_3 0 rfl rfl)
theorem dX1_line_71 : decode cX1_line 71 = .ok (.ireturn, 1) := dk_172 (dk_at dksX1_line_3 3 rfl rfl)
theorem dX1_line_72 : decode cX1_line 72 = .ok (.aload_n 0, 1) := dk_42 (dk_at dksX1_line_3 4 rfl rfl)
theorem dX1_line_73 : decode cX1_line 73 = .ok (.invokevirtual 277, 3) := dk_182 1 21 (dk_at dksX1_line_3 5 rfl rfl)
theorem dX1_line_76 : decode cX1_line 76 = .ok (.aload_n 0, 1) := dk_42 (dk_at dksX1_line_3 8 rfl rfl)
theorem dX1_line_77 : decode cX1_line 77 = .ok (.getfield 158, 3) := dk_180 0 158 (dk_at dksX1_line_3 9 rfl rfl)
theorem dX1_line_80 : decode cX1_line 80 = .ok (.iconst 0, 1) := dk_3 (dk_at dksX1_line_3 12 rfl rfl)
theorem dX1_line_81 : decode cX1_line 81 = .ok (.invokevirtual 295, 3) := dk_182 1 39 (dk_at dksX1_line_3 13 rfl rfl)
theorem dX1_line_84 : decode cX1_line 84 = .ok (.istore_n 3, 1) := dk_62 (dk_at dksX1_line_3 16 rfl rfl)
theorem dX1_line_85 : decode cX1_line 85 = .ok (.aload_n 0, 1) := dk_42 (dk_at dksX1_line_3 17 rfl rfl)
theorem dX1_line_86 : decode cX1_line 86 = .ok (.getfield 122, 3) := dk_180 0 122 (dk_at dksX1_line_3 18 rfl rfl)
theorem dX1_line_89 : decode cX1_line 89 = .ok (.getfield 371, 3) := dk_180 1 115 (dk_at dksX1_line_3 21 rfl rfl)
theorem dX1_line_92 : decode cX1_line 92 = .ok (.iload_n 1, 1) := dk_27 (dk_at dksX1_line_4 0 rfl rfl)
theorem dX1_line_93 : decode cX1_line 93 = .ok (.iaload, 1) := dk_46 (dk_at dksX1_line_4 1 rfl rfl)
theorem dX1_line_94 : decode cX1_line 94 = .ok (.ireturn, 1) := dk_172 (dk_at dksX1_line_4 2 rfl rfl)
def dkwX1_noiseFor_2 : List UInt8 := [3, 172]
abbrev dktX1_noiseFor_2 : List UInt8 := dkwX1_noiseFor_2 ++ []
def dkwX1_noiseFor_1 : List UInt8 := [182, 1, 21, 180, 1, 25, 162, 0, 18, 42, 180, 0, 122, 180, 1, 51, 27, 50, 182, 1, 68, 167, 0, 4]
abbrev dktX1_noiseFor_1 : List UInt8 := dkwX1_noiseFor_1 ++ dktX1_noiseFor_2
def dkwX1_noiseFor_0 : List UInt8 := [42, 180, 0, 158, 198, 0, 15, 27, 133, 10, 20, 1, 118, 184, 0, 162, 154, 0, 5, 2, 172, 27, 42]
abbrev dktX1_noiseFor_0 : List UInt8 := dkwX1_noiseFor_0 ++ dktX1_noiseFor_1
theorem dksX1_noiseFor_0 : cX1_noiseFor.data.toList.drop 0 = dktX1_noiseFor_0 := by decide +kernel
theorem dksX1_noiseFor_1 : cX1_noiseFor.data.toList.drop 23 = dktX1_noiseFor_1 := dk_seg dksX1_noiseFor_0 23 rfl rfl
theorem dksX1_noiseFor_2 : cX1_noiseFor.data.toList.drop 47 = dktX1_noiseFor_2 := dk_seg dksX1_noiseFor_1 24 rfl rfl
theorem dX1_noiseFor_0 : decode cX1_noiseFor 0 = .ok (.aload_n 0, 1) := dk_42 (dk_at dksX1_noiseFor_0 0 rfl rfl)
theorem dX1_noiseFor_1 : decode cX1_noiseFor 1 = .ok (.getfield 158, 3) := dk_180 0 158 (dk_at dksX1_noiseFor_0 1 rfl rfl)
theorem dX1_noiseFor_4 : decode cX1_noiseFor 4 = .ok (.ifnull 15, 3) := dk_198 0 15 (dk_at dksX1_noiseFor_0 4 rfl rfl)
theorem dX1_noiseFor_7 : decode cX1_noiseFor 7 = .ok (.iload_n 1, 1) := dk_27 (dk_at dksX1_noiseFor_0 7 rfl rfl)
theorem dX1_noiseFor_8 : decode cX1_noiseFor 8 = .ok (.i2l, 1) := dk_133 (dk_at dksX1_noiseFor_0 8 rfl rfl)
theorem dX1_noiseFor_9 : decode cX1_noiseFor 9 = .ok (.lconst 1, 1) := dk_10 (dk_at dksX1_noiseFor_0 9 rfl rfl)
theorem dX1_noiseFor_10 : decode cX1_noiseFor 10 = .ok (.ldc2_w 374, 3) := dk_20 1 118 (dk_at dksX1_noiseFor_0 10 rfl rfl)
theorem dX1_noiseFor_13 : decode cX1_noiseFor 13 = .ok (.invokestatic 162, 3) := dk_184 0 162 (dk_at dksX1_noiseFor_0 13 rfl rfl)
theorem dX1_noiseFor_16 : decode cX1_noiseFor 16 = .ok (.ifCond .ne 5, 3) := dk_154 0 5 (dk_at dksX1_noiseFor_0 16 rfl rfl)
theorem dX1_noiseFor_19 : decode cX1_noiseFor 19 = .ok (.iconst (-1), 1) := dk_2 (dk_at dksX1_noiseFor_0 19 rfl rfl)
theorem dX1_noiseFor_20 : decode cX1_noiseFor 20 = .ok (.ireturn, 1) := dk_172 (dk_at dksX1_noiseFor_0 20 rfl rfl)
theorem dX1_noiseFor_21 : decode cX1_noiseFor 21 = .ok (.iload_n 1, 1) := dk_27 (dk_at dksX1_noiseFor_0 21 rfl rfl)
theorem dX1_noiseFor_22 : decode cX1_noiseFor 22 = .ok (.aload_n 0, 1) := dk_42 (dk_at dksX1_noiseFor_0 22 rfl rfl)
theorem dX1_noiseFor_23 : decode cX1_noiseFor 23 = .ok (.invokevirtual 277, 3) := dk_182 1 21 (dk_at dksX1_noiseFor_1 0 rfl rfl)
theorem dX1_noiseFor_26 : decode cX1_noiseFor 26 = .ok (.getfield 281, 3) := dk_180 1 25 (dk_at dksX1_noiseFor_1 3 rfl rfl)
theorem dX1_noiseFor_29 : decode cX1_noiseFor 29 = .ok (.if_icmp .ge 18, 3) := dk_162 0 18 (dk_at dksX1_noiseFor_1 6 rfl rfl)
theorem dX1_noiseFor_32 : decode cX1_noiseFor 32 = .ok (.aload_n 0, 1) := dk_42 (dk_at dksX1_noiseFor_1 9 rfl rfl)
theorem dX1_noiseFor_33 : decode cX1_noiseFor 33 = .ok (.getfield 122, 3) := dk_180 0 122 (dk_at dksX1_noiseFor_1 10 rfl rfl)
theorem dX1_noiseFor_36 : decode cX1_noiseFor 36 = .ok (.getfield 307, 3) := dk_180 1 51 (dk_at dksX1_noiseFor_1 13 rfl rfl)
theorem dX1_noiseFor_39 : decode cX1_noiseFor 39 = .ok (.iload_n 1, 1) := dk_27 (dk_at dksX1_noiseFor_1 16 rfl rfl)
theorem dX1_noiseFor_40 : decode cX1_noiseFor 40 = .ok (.aaload, 1) := dk_50 (dk_at dksX1_noiseFor_1 17 rfl rfl)
theorem dX1_noiseFor_41 : decode cX1_noiseFor 41 = .ok (.invokevirtual 324, 3) := dk_182 1 68 (dk_at dksX1_noiseFor_1 18 rfl rfl)
theorem dX1_noiseFor_44 : decode cX1_noiseFor 44 = .ok (.goto 4, 3) := dk_167 0 4 (dk_at dksX1_noiseFor_1 21 rfl rfl)
theorem dX1_noiseFor_47 : decode cX1_noiseFor 47 = .ok (.iconst 0, 1) := dk_3 (dk_at dksX1_noiseFor_2 0 rfl rfl)
theorem dX1_noiseFor_48 : decode cX1_noiseFor 48 = .ok (.ireturn, 1) := dk_172 (dk_at dksX1_noiseFor_2 1 rfl rfl)
def dkwX1_pieces_3 : List UInt8 := [4, 100, 46, 27, 162, 0, 7, 4, 167, 0, 4, 3, 96, 61, 132, 3, 1, 167, 255, 193, 28, 172]
abbrev dktX1_pieces_3 : List UInt8 := dkwX1_pieces_3 ++ []
def dkwX1_pieces_2 : List UInt8 := [180, 1, 36, 29, 46, 27, 161, 0, 29, 29, 153, 0, 21, 42, 180, 0, 141, 180, 0, 205, 180, 1, 36, 29]
abbrev dktX1_pieces_2 : List UInt8 := dkwX1_pieces_2 ++ dktX1_pieces_3
def dkwX1_pieces_1 : List UInt8 := [62, 29, 42, 180, 0, 141, 180, 0, 205, 180, 0, 208, 162, 0, 55, 28, 42, 180, 0, 141, 180, 0, 205]
abbrev dktX1_pieces_1 : List UInt8 := dkwX1_pieces_1 ++ dktX1_pieces_2
def dkwX1_pieces_0 : List UInt8 := [42, 180, 0, 158, 198, 0, 15, 27, 133, 9, 20, 1, 120, 184, 0, 162, 154, 0, 5, 2, 172, 3, 61, 3]
abbrev dktX1_pieces_0 : List UInt8 := dkwX1_pieces_0 ++ dktX1_pieces_1
theorem dksX1_pieces_0 : cX1_pieces.data.toList.drop 0 = dktX1_pieces_0 := by decide +kernel
theorem dksX1_pieces_1 : cX1_pieces.data.toList.drop 24 = dktX1_pieces_1 := dk_seg dksX1_pieces_0 24 rfl rfl
theorem dksX1_pieces_2 : cX1_pieces.data.toList.drop 47 = dktX1_pieces_2 := dk_seg dksX1_pieces_1 23 rfl rfl
theorem dksX1_pieces_3 : cX1_pieces.data.toList.drop 71 = dktX1_pieces_3 := dk_seg dksX1_pieces_2 24 rfl rfl
theorem dX1_pieces_0 : decode cX1_pieces 0 = .ok (.aload_n 0, 1) := dk_42 (dk_at dksX1_pieces_0 0 rfl rfl)
theorem dX1_pieces_1 : decode cX1_pieces 1 = .ok (.getfield 158, 3) := dk_180 0 158 (dk_at dksX1_pieces_0 1 rfl rfl)
theorem dX1_pieces_4 : decode cX1_pieces 4 = .ok (.ifnull 15, 3) := dk_198 0 15 (dk_at dksX1_pieces_0 4 rfl rfl)
theorem dX1_pieces_7 : decode cX1_pieces 7 = .ok (.iload_n 1, 1) := dk_27 (dk_at dksX1_pieces_0 7 rfl rfl)
theorem dX1_pieces_8 : decode cX1_pieces 8 = .ok (.i2l, 1) := dk_133 (dk_at dksX1_pieces_0 8 rfl rfl)
theorem dX1_pieces_9 : decode cX1_pieces 9 = .ok (.lconst 0, 1) := dk_9 (dk_at dksX1_pieces_0 9 rfl rfl)
theorem dX1_pieces_10 : decode cX1_pieces 10 = .ok (.ldc2_w 376, 3) := dk_20 1 120 (dk_at dksX1_pieces_0 10 rfl rfl)
theorem dX1_pieces_13 : decode cX1_pieces 13 = .ok (.invokestatic 162, 3) := dk_184 0 162 (dk_at dksX1_pieces_0 13 rfl rfl)
theorem dX1_pieces_16 : decode cX1_pieces 16 = .ok (.ifCond .ne 5, 3) := dk_154 0 5 (dk_at dksX1_pieces_0 16 rfl rfl)
theorem dX1_pieces_19 : decode cX1_pieces 19 = .ok (.iconst (-1), 1) := dk_2 (dk_at dksX1_pieces_0 19 rfl rfl)
theorem dX1_pieces_20 : decode cX1_pieces 20 = .ok (.ireturn, 1) := dk_172 (dk_at dksX1_pieces_0 20 rfl rfl)
theorem dX1_pieces_21 : decode cX1_pieces 21 = .ok (.iconst 0, 1) := dk_3 (dk_at dksX1_pieces_0 21 rfl rfl)
theorem dX1_pieces_22 : decode cX1_pieces 22 = .ok (.istore_n 2, 1) := dk_61 (dk_at dksX1_pieces_0 22 rfl rfl)
theorem dX1_pieces_23 : decode cX1_pieces 23 = .ok (.iconst 0, 1) := dk_3 (dk_at dksX1_pieces_0 23 rfl rfl)
theorem dX1_pieces_24 : decode cX1_pieces 24 = .ok (.istore_n 3, 1) := dk_62 (dk_at dksX1_pieces_1 0 rfl rfl)
theorem dX1_pieces_25 : decode cX1_pieces 25 = .ok (.iload_n 3, 1) := dk_29 (dk_at dksX1_pieces_1 1 rfl rfl)
theorem dX1_pieces_26 : decode cX1_pieces 26 = .ok (.aload_n 0, 1) := dk_42 (dk_at dksX1_pieces_1 2 rfl rfl)
theorem dX1_pieces_27 : decode cX1_pieces 27 = .ok (.getfield 141, 3) := dk_180 0 141 (dk_at dksX1_pieces_1 3 rfl rfl)
theorem dX1_pieces_30 : decode cX1_pieces 30 = .ok (.getfield 205, 3) := dk_180 0 205 (dk_at dksX1_pieces_1 6 rfl rfl)
theorem dX1_pieces_33 : decode cX1_pieces 33 = .ok (.getfield 208, 3) := dk_180 0 208 (dk_at dksX1_pieces_1 9 rfl rfl)
theorem dX1_pieces_36 : decode cX1_pieces 36 = .ok (.if_icmp .ge 55, 3) := dk_162 0 55 (dk_at dksX1_pieces_1 12 rfl rfl)
theorem dX1_pieces_39 : decode cX1_pieces 39 = .ok (.iload_n 2, 1) := dk_28 (dk_at dksX1_pieces_1 15 rfl rfl)
theorem dX1_pieces_40 : decode cX1_pieces 40 = .ok (.aload_n 0, 1) := dk_42 (dk_at dksX1_pieces_1 16 rfl rfl)
theorem dX1_pieces_41 : decode cX1_pieces 41 = .ok (.getfield 141, 3) := dk_180 0 141 (dk_at dksX1_pieces_1 17 rfl rfl)
theorem dX1_pieces_44 : decode cX1_pieces 44 = .ok (.getfield 205, 3) := dk_180 0 205 (dk_at dksX1_pieces_1 20 rfl rfl)
theorem dX1_pieces_47 : decode cX1_pieces 47 = .ok (.getfield 292, 3) := dk_180 1 36 (dk_at dksX1_pieces_2 0 rfl rfl)
theorem dX1_pieces_50 : decode cX1_pieces 50 = .ok (.iload_n 3, 1) := dk_29 (dk_at dksX1_pieces_2 3 rfl rfl)
theorem dX1_pieces_51 : decode cX1_pieces 51 = .ok (.iaload, 1) := dk_46 (dk_at dksX1_pieces_2 4 rfl rfl)
theorem dX1_pieces_52 : decode cX1_pieces 52 = .ok (.iload_n 1, 1) := dk_27 (dk_at dksX1_pieces_2 5 rfl rfl)
theorem dX1_pieces_53 : decode cX1_pieces 53 = .ok (.if_icmp .lt 29, 3) := dk_161 0 29 (dk_at dksX1_pieces_2 6 rfl rfl)
theorem dX1_pieces_56 : decode cX1_pieces 56 = .ok (.iload_n 3, 1) := dk_29 (dk_at dksX1_pieces_2 9 rfl rfl)
theorem dX1_pieces_57 : decode cX1_pieces 57 = .ok (.ifCond .eq 21, 3) := dk_153 0 21 (dk_at dksX1_pieces_2 10 rfl rfl)
theorem dX1_pieces_60 : decode cX1_pieces 60 = .ok (.aload_n 0, 1) := dk_42 (dk_at dksX1_pieces_2 13 rfl rfl)
theorem dX1_pieces_61 : decode cX1_pieces 61 = .ok (.getfield 141, 3) := dk_180 0 141 (dk_at dksX1_pieces_2 14 rfl rfl)
theorem dX1_pieces_64 : decode cX1_pieces 64 = .ok (.getfield 205, 3) := dk_180 0 205 (dk_at dksX1_pieces_2 17 rfl rfl)
theorem dX1_pieces_67 : decode cX1_pieces 67 = .ok (.getfield 292, 3) := dk_180 1 36 (dk_at dksX1_pieces_2 20 rfl rfl)
theorem dX1_pieces_70 : decode cX1_pieces 70 = .ok (.iload_n 3, 1) := dk_29 (dk_at dksX1_pieces_2 23 rfl rfl)
theorem dX1_pieces_71 : decode cX1_pieces 71 = .ok (.iconst 1, 1) := dk_4 (dk_at dksX1_pieces_3 0 rfl rfl)
theorem dX1_pieces_72 : decode cX1_pieces 72 = .ok (.isub, 1) := dk_100 (dk_at dksX1_pieces_3 1 rfl rfl)
theorem dX1_pieces_73 : decode cX1_pieces 73 = .ok (.iaload, 1) := dk_46 (dk_at dksX1_pieces_3 2 rfl rfl)
theorem dX1_pieces_74 : decode cX1_pieces 74 = .ok (.iload_n 1, 1) := dk_27 (dk_at dksX1_pieces_3 3 rfl rfl)
theorem dX1_pieces_75 : decode cX1_pieces 75 = .ok (.if_icmp .ge 7, 3) := dk_162 0 7 (dk_at dksX1_pieces_3 4 rfl rfl)
theorem dX1_pieces_78 : decode cX1_pieces 78 = .ok (.iconst 1, 1) := dk_4 (dk_at dksX1_pieces_3 7 rfl rfl)
theorem dX1_pieces_79 : decode cX1_pieces 79 = .ok (.goto 4, 3) := dk_167 0 4 (dk_at dksX1_pieces_3 8 rfl rfl)
theorem dX1_pieces_82 : decode cX1_pieces 82 = .ok (.iconst 0, 1) := dk_3 (dk_at dksX1_pieces_3 11 rfl rfl)
theorem dX1_pieces_83 : decode cX1_pieces 83 = .ok (.iadd, 1) := dk_96 (dk_at dksX1_pieces_3 12 rfl rfl)
theorem dX1_pieces_84 : decode cX1_pieces 84 = .ok (.istore_n 2, 1) := dk_61 (dk_at dksX1_pieces_3 13 rfl rfl)
theorem dX1_pieces_85 : decode cX1_pieces 85 = .ok (.iinc 3 1, 3) := dk_132 3 1 (dk_at dksX1_pieces_3 14 rfl rfl)
theorem dX1_pieces_88 : decode cX1_pieces 88 = .ok (.goto (-63), 3) := dk_167 255 193 (dk_at dksX1_pieces_3 17 rfl rfl)
theorem dX1_pieces_91 : decode cX1_pieces 91 = .ok (.iload_n 2, 1) := dk_28 (dk_at dksX1_pieces_3 20 rfl rfl)
theorem dX1_pieces_92 : decode cX1_pieces 92 = .ok (.ireturn, 1) := dk_172 (dk_at dksX1_pieces_3 21 rfl rfl)
def dkwX1_room_5 : List UInt8 := [132, 5, 1, 167, 255, 184, 27, 154, 0, 7, 28, 167, 0, 4, 29, 172]
abbrev dktX1_room_5 : List UInt8 := dkwX1_room_5 ++ []
def dkwX1_room_4 : List UInt8 := [61, 167, 0, 23, 29, 42, 180, 0, 141, 180, 1, 8, 25, 4, 21, 5, 182, 1, 122, 100, 184, 0, 3, 62]
abbrev dktX1_room_4 : List UInt8 := dkwX1_room_4 ++ dktX1_room_5
def dkwX1_room_3 : List UInt8 := [153, 0, 28, 28, 25, 4, 21, 5, 182, 1, 122, 4, 100, 42, 180, 0, 141, 180, 1, 8, 100, 184, 0, 3]
abbrev dktX1_room_3 : List UInt8 := dkwX1_room_3 ++ dktX1_room_4
def dkwX1_room_2 : List UInt8 := [54, 5, 21, 5, 25, 4, 180, 1, 25, 162, 0, 68, 25, 4, 180, 1, 51, 21, 5, 50, 180, 1, 79]
abbrev dktX1_room_2 : List UInt8 := dkwX1_room_2 ++ dktX1_room_3
def dkwX1_room_1 : List UInt8 := [180, 0, 141, 180, 1, 8, 100, 61, 42, 180, 0, 141, 180, 1, 8, 62, 42, 182, 1, 21, 58, 4, 4]
abbrev dktX1_room_1 : List UInt8 := dkwX1_room_1 ++ dktX1_room_2
def dkwX1_room_0 : List UInt8 := [42, 180, 0, 158, 198, 0, 13, 27, 133, 9, 10, 184, 0, 162, 154, 0, 5, 2, 172, 17, 3, 231, 42]
abbrev dktX1_room_0 : List UInt8 := dkwX1_room_0 ++ dktX1_room_1
theorem dksX1_room_0 : cX1_room.data.toList.drop 0 = dktX1_room_0 := by decide +kernel
theorem dksX1_room_1 : cX1_room.data.toList.drop 23 = dktX1_room_1 := dk_seg dksX1_room_0 23 rfl rfl
theorem dksX1_room_2 : cX1_room.data.toList.drop 46 = dktX1_room_2 := dk_seg dksX1_room_1 23 rfl rfl
theorem dksX1_room_3 : cX1_room.data.toList.drop 69 = dktX1_room_3 := dk_seg dksX1_room_2 23 rfl rfl
theorem dksX1_room_4 : cX1_room.data.toList.drop 93 = dktX1_room_4 := dk_seg dksX1_room_3 24 rfl rfl
theorem dksX1_room_5 : cX1_room.data.toList.drop 117 = dktX1_room_5 := dk_seg dksX1_room_4 24 rfl rfl
theorem dX1_room_0 : decode cX1_room 0 = .ok (.aload_n 0, 1) := dk_42 (dk_at dksX1_room_0 0 rfl rfl)
theorem dX1_room_1 : decode cX1_room 1 = .ok (.getfield 158, 3) := dk_180 0 158 (dk_at dksX1_room_0 1 rfl rfl)
theorem dX1_room_4 : decode cX1_room 4 = .ok (.ifnull 13, 3) := dk_198 0 13 (dk_at dksX1_room_0 4 rfl rfl)
theorem dX1_room_7 : decode cX1_room 7 = .ok (.iload_n 1, 1) := dk_27 (dk_at dksX1_room_0 7 rfl rfl)
theorem dX1_room_8 : decode cX1_room 8 = .ok (.i2l, 1) := dk_133 (dk_at dksX1_room_0 8 rfl rfl)
theorem dX1_room_9 : decode cX1_room 9 = .ok (.lconst 0, 1) := dk_9 (dk_at dksX1_room_0 9 rfl rfl)
theorem dX1_room_10 : decode cX1_room 10 = .ok (.lconst 1, 1) := dk_10 (dk_at dksX1_room_0 10 rfl rfl)
theorem dX1_room_11 : decode cX1_room 11 = .ok (.invokestatic 162, 3) := dk_184 0 162 (dk_at dksX1_room_0 11 rfl rfl)
theorem dX1_room_14 : decode cX1_room 14 = .ok (.ifCond .ne 5, 3) := dk_154 0 5 (dk_at dksX1_room_0 14 rfl rfl)
theorem dX1_room_17 : decode cX1_room 17 = .ok (.iconst (-1), 1) := dk_2 (dk_at dksX1_room_0 17 rfl rfl)
theorem dX1_room_18 : decode cX1_room 18 = .ok (.ireturn, 1) := dk_172 (dk_at dksX1_room_0 18 rfl rfl)
theorem dX1_room_19 : decode cX1_room 19 = .ok (.sipush 999, 3) := dk_17 3 231 (dk_at dksX1_room_0 19 rfl rfl)
theorem dX1_room_22 : decode cX1_room 22 = .ok (.aload_n 0, 1) := dk_42 (dk_at dksX1_room_0 22 rfl rfl)
theorem dX1_room_23 : decode cX1_room 23 = .ok (.getfield 141, 3) := dk_180 0 141 (dk_at dksX1_room_1 0 rfl rfl)
theorem dX1_room_26 : decode cX1_room 26 = .ok (.getfield 264, 3) := dk_180 1 8 (dk_at dksX1_room_1 3 rfl rfl)
theorem dX1_room_29 : decode cX1_room 29 = .ok (.isub, 1) := dk_100 (dk_at dksX1_room_1 6 rfl rfl)
theorem dX1_room_30 : decode cX1_room 30 = .ok (.istore_n 2, 1) := dk_61 (dk_at dksX1_room_1 7 rfl rfl)
theorem dX1_room_31 : decode cX1_room 31 = .ok (.aload_n 0, 1) := dk_42 (dk_at dksX1_room_1 8 rfl rfl)
theorem dX1_room_32 : decode cX1_room 32 = .ok (.getfield 141, 3) := dk_180 0 141 (dk_at dksX1_room_1 9 rfl rfl)
theorem dX1_room_35 : decode cX1_room 35 = .ok (.getfield 264, 3) := dk_180 1 8 (dk_at dksX1_room_1 12 rfl rfl)
theorem dX1_room_38 : decode cX1_room 38 = .ok (.istore_n 3, 1) := dk_62 (dk_at dksX1_room_1 15 rfl rfl)
theorem dX1_room_39 : decode cX1_room 39 = .ok (.aload_n 0, 1) := dk_42 (dk_at dksX1_room_1 16 rfl rfl)
theorem dX1_room_40 : decode cX1_room 40 = .ok (.invokevirtual 277, 3) := dk_182 1 21 (dk_at dksX1_room_1 17 rfl rfl)
theorem dX1_room_43 : decode cX1_room 43 = .ok (.astore 4, 2) := dk_58 4 (dk_at dksX1_room_1 20 rfl rfl)
theorem dX1_room_45 : decode cX1_room 45 = .ok (.iconst 1, 1) := dk_4 (dk_at dksX1_room_1 22 rfl rfl)
theorem dX1_room_46 : decode cX1_room 46 = .ok (.istore 5, 2) := dk_54 5 (dk_at dksX1_room_2 0 rfl rfl)
theorem dX1_room_48 : decode cX1_room 48 = .ok (.iload 5, 2) := dk_21 5 (dk_at dksX1_room_2 2 rfl rfl)
theorem dX1_room_50 : decode cX1_room 50 = .ok (.aload 4, 2) := dk_25 4 (dk_at dksX1_room_2 4 rfl rfl)
theorem dX1_room_52 : decode cX1_room 52 = .ok (.getfield 281, 3) := dk_180 1 25 (dk_at dksX1_room_2 6 rfl rfl)
theorem dX1_room_55 : decode cX1_room 55 = .ok (.if_icmp .ge 68, 3) := dk_162 0 68 (dk_at dksX1_room_2 9 rfl rfl)
theorem dX1_room_58 : decode cX1_room 58 = .ok (.aload 4, 2) := dk_25 4 (dk_at dksX1_room_2 12 rfl rfl)
theorem dX1_room_60 : decode cX1_room 60 = .ok (.getfield 307, 3) := dk_180 1 51 (dk_at dksX1_room_2 14 rfl rfl)
theorem dX1_room_63 : decode cX1_room 63 = .ok (.iload 5, 2) := dk_21 5 (dk_at dksX1_room_2 17 rfl rfl)
theorem dX1_room_65 : decode cX1_room 65 = .ok (.aaload, 1) := dk_50 (dk_at dksX1_room_2 19 rfl rfl)
theorem dX1_room_66 : decode cX1_room 66 = .ok (.getfield 335, 3) := dk_180 1 79 (dk_at dksX1_room_2 20 rfl rfl)
theorem dX1_room_69 : decode cX1_room 69 = .ok (.ifCond .eq 28, 3) := dk_153 0 28 (dk_at dksX1_room_3 0 rfl rfl)
theorem dX1_room_72 : decode cX1_room 72 = .ok (.iload_n 2, 1) := dk_28 (dk_at dksX1_room_3 3 rfl rfl)
theorem dX1_room_73 : decode cX1_room 73 = .ok (.aload 4, 2) := dk_25 4 (dk_at dksX1_room_3 4 rfl rfl)
theorem dX1_room_75 : decode cX1_room 75 = .ok (.iload 5, 2) := dk_21 5 (dk_at dksX1_room_3 6 rfl rfl)
theorem dX1_room_77 : decode cX1_room 77 = .ok (.invokevirtual 378, 3) := dk_182 1 122 (dk_at dksX1_room_3 8 rfl rfl)
theorem dX1_room_80 : decode cX1_room 80 = .ok (.iconst 1, 1) := dk_4 (dk_at dksX1_room_3 11 rfl rfl)
theorem dX1_room_81 : decode cX1_room 81 = .ok (.isub, 1) := dk_100 (dk_at dksX1_room_3 12 rfl rfl)
theorem dX1_room_82 : decode cX1_room 82 = .ok (.aload_n 0, 1) := dk_42 (dk_at dksX1_room_3 13 rfl rfl)
theorem dX1_room_83 : decode cX1_room 83 = .ok (.getfield 141, 3) := dk_180 0 141 (dk_at dksX1_room_3 14 rfl rfl)
theorem dX1_room_86 : decode cX1_room 86 = .ok (.getfield 264, 3) := dk_180 1 8 (dk_at dksX1_room_3 17 rfl rfl)
theorem dX1_room_89 : decode cX1_room 89 = .ok (.isub, 1) := dk_100 (dk_at dksX1_room_3 20 rfl rfl)
theorem dX1_room_90 : decode cX1_room 90 = .ok (.invokestatic 3, 3) := dk_184 0 3 (dk_at dksX1_room_3 21 rfl rfl)
theorem dX1_room_93 : decode cX1_room 93 = .ok (.istore_n 2, 1) := dk_61 (dk_at dksX1_room_4 0 rfl rfl)
theorem dX1_room_94 : decode cX1_room 94 = .ok (.goto 23, 3) := dk_167 0 23 (dk_at dksX1_room_4 1 rfl rfl)
theorem dX1_room_97 : decode cX1_room 97 = .ok (.iload_n 3, 1) := dk_29 (dk_at dksX1_room_4 4 rfl rfl)
theorem dX1_room_98 : decode cX1_room 98 = .ok (.aload_n 0, 1) := dk_42 (dk_at dksX1_room_4 5 rfl rfl)
theorem dX1_room_99 : decode cX1_room 99 = .ok (.getfield 141, 3) := dk_180 0 141 (dk_at dksX1_room_4 6 rfl rfl)
theorem dX1_room_102 : decode cX1_room 102 = .ok (.getfield 264, 3) := dk_180 1 8 (dk_at dksX1_room_4 9 rfl rfl)
theorem dX1_room_105 : decode cX1_room 105 = .ok (.aload 4, 2) := dk_25 4 (dk_at dksX1_room_4 12 rfl rfl)
theorem dX1_room_107 : decode cX1_room 107 = .ok (.iload 5, 2) := dk_21 5 (dk_at dksX1_room_4 14 rfl rfl)
theorem dX1_room_109 : decode cX1_room 109 = .ok (.invokevirtual 378, 3) := dk_182 1 122 (dk_at dksX1_room_4 16 rfl rfl)
theorem dX1_room_112 : decode cX1_room 112 = .ok (.isub, 1) := dk_100 (dk_at dksX1_room_4 19 rfl rfl)
theorem dX1_room_113 : decode cX1_room 113 = .ok (.invokestatic 3, 3) := dk_184 0 3 (dk_at dksX1_room_4 20 rfl rfl)
theorem dX1_room_116 : decode cX1_room 116 = .ok (.istore_n 3, 1) := dk_62 (dk_at dksX1_room_4 23 rfl rfl)
theorem dX1_room_117 : decode cX1_room 117 = .ok (.iinc 5 1, 3) := dk_132 5 1 (dk_at dksX1_room_5 0 rfl rfl)
theorem dX1_room_120 : decode cX1_room 120 = .ok (.goto (-72), 3) := dk_167 255 184 (dk_at dksX1_room_5 3 rfl rfl)
theorem dX1_room_123 : decode cX1_room 123 = .ok (.iload_n 1, 1) := dk_27 (dk_at dksX1_room_5 6 rfl rfl)
theorem dX1_room_124 : decode cX1_room 124 = .ok (.ifCond .ne 7, 3) := dk_154 0 7 (dk_at dksX1_room_5 7 rfl rfl)
theorem dX1_room_127 : decode cX1_room 127 = .ok (.iload_n 2, 1) := dk_28 (dk_at dksX1_room_5 10 rfl rfl)
theorem dX1_room_128 : decode cX1_room 128 = .ok (.goto 4, 3) := dk_167 0 4 (dk_at dksX1_room_5 11 rfl rfl)
theorem dX1_room_131 : decode cX1_room 131 = .ok (.iload_n 3, 1) := dk_29 (dk_at dksX1_room_5 14 rfl rfl)
theorem dX1_room_132 : decode cX1_room 132 = .ok (.ireturn, 1) := dk_172 (dk_at dksX1_room_5 15 rfl rfl)
def dkwX1_unlike_1 : List UInt8 := [180, 0, 145, 180, 1, 8, 182, 1, 10, 184, 1, 124, 167, 0, 4, 2, 172]
abbrev dktX1_unlike_1 : List UInt8 := dkwX1_unlike_1 ++ []
def dkwX1_unlike_0 : List UInt8 := [42, 180, 0, 201, 153, 0, 34, 42, 182, 1, 21, 42, 180, 0, 126, 42, 180, 0, 145, 180, 0, 205, 42]
abbrev dktX1_unlike_0 : List UInt8 := dkwX1_unlike_0 ++ dktX1_unlike_1
theorem dksX1_unlike_0 : cX1_unlike.data.toList.drop 0 = dktX1_unlike_0 := by decide +kernel
theorem dksX1_unlike_1 : cX1_unlike.data.toList.drop 23 = dktX1_unlike_1 := dk_seg dksX1_unlike_0 23 rfl rfl
theorem dX1_unlike_0 : decode cX1_unlike 0 = .ok (.aload_n 0, 1) := dk_42 (dk_at dksX1_unlike_0 0 rfl rfl)
theorem dX1_unlike_1 : decode cX1_unlike 1 = .ok (.getfield 201, 3) := dk_180 0 201 (dk_at dksX1_unlike_0 1 rfl rfl)
theorem dX1_unlike_4 : decode cX1_unlike 4 = .ok (.ifCond .eq 34, 3) := dk_153 0 34 (dk_at dksX1_unlike_0 4 rfl rfl)
theorem dX1_unlike_7 : decode cX1_unlike 7 = .ok (.aload_n 0, 1) := dk_42 (dk_at dksX1_unlike_0 7 rfl rfl)
theorem dX1_unlike_8 : decode cX1_unlike 8 = .ok (.invokevirtual 277, 3) := dk_182 1 21 (dk_at dksX1_unlike_0 8 rfl rfl)
theorem dX1_unlike_11 : decode cX1_unlike 11 = .ok (.aload_n 0, 1) := dk_42 (dk_at dksX1_unlike_0 11 rfl rfl)
theorem dX1_unlike_12 : decode cX1_unlike 12 = .ok (.getfield 126, 3) := dk_180 0 126 (dk_at dksX1_unlike_0 12 rfl rfl)
theorem dX1_unlike_15 : decode cX1_unlike 15 = .ok (.aload_n 0, 1) := dk_42 (dk_at dksX1_unlike_0 15 rfl rfl)
theorem dX1_unlike_16 : decode cX1_unlike 16 = .ok (.getfield 145, 3) := dk_180 0 145 (dk_at dksX1_unlike_0 16 rfl rfl)
theorem dX1_unlike_19 : decode cX1_unlike 19 = .ok (.getfield 205, 3) := dk_180 0 205 (dk_at dksX1_unlike_0 19 rfl rfl)
theorem dX1_unlike_22 : decode cX1_unlike 22 = .ok (.aload_n 0, 1) := dk_42 (dk_at dksX1_unlike_0 22 rfl rfl)
theorem dX1_unlike_23 : decode cX1_unlike 23 = .ok (.getfield 145, 3) := dk_180 0 145 (dk_at dksX1_unlike_1 0 rfl rfl)
theorem dX1_unlike_26 : decode cX1_unlike 26 = .ok (.getfield 264, 3) := dk_180 1 8 (dk_at dksX1_unlike_1 3 rfl rfl)
theorem dX1_unlike_29 : decode cX1_unlike 29 = .ok (.invokevirtual 266, 3) := dk_182 1 10 (dk_at dksX1_unlike_1 6 rfl rfl)
theorem dX1_unlike_32 : decode cX1_unlike 32 = .ok (.invokestatic 380, 3) := dk_184 1 124 (dk_at dksX1_unlike_1 9 rfl rfl)
theorem dX1_unlike_35 : decode cX1_unlike 35 = .ok (.goto 4, 3) := dk_167 0 4 (dk_at dksX1_unlike_1 12 rfl rfl)
theorem dX1_unlike_38 : decode cX1_unlike 38 = .ok (.iconst (-1), 1) := dk_2 (dk_at dksX1_unlike_1 15 rfl rfl)
theorem dX1_unlike_39 : decode cX1_unlike 39 = .ok (.ireturn, 1) := dk_172 (dk_at dksX1_unlike_1 16 rfl rfl)
def dkwX1_shift_4 : List UInt8 := [167, 255, 212, 132, 5, 1, 167, 255, 196, 27, 154, 0, 7, 29, 167, 0, 5, 21, 4, 172]
abbrev dktX1_shift_4 : List UInt8 := dkwX1_shift_4 ++ []
def dkwX1_shift_3 : List UInt8 := [21, 7, 21, 4, 163, 0, 6, 167, 0, 13, 21, 6, 21, 5, 104, 62, 21, 7, 54, 4, 132, 6, 2]
abbrev dktX1_shift_3 : List UInt8 := dkwX1_shift_3 ++ dktX1_shift_4
def dkwX1_shift_2 : List UInt8 := [2, 54, 6, 21, 6, 4, 163, 0, 44, 44, 42, 180, 0, 158, 21, 6, 21, 5, 104, 182, 1, 39, 54, 7]
abbrev dktX1_shift_2 : List UInt8 := dkwX1_shift_2 ++ dktX1_shift_3
def dkwX1_shift_1 : List UInt8 := [77, 3, 62, 44, 42, 180, 0, 158, 3, 182, 1, 39, 54, 4, 4, 54, 5, 21, 5, 16, 9, 163, 0, 59]
abbrev dktX1_shift_1 : List UInt8 := dkwX1_shift_1 ++ dktX1_shift_2
def dkwX1_shift_0 : List UInt8 := [42, 180, 0, 158, 198, 0, 13, 27, 133, 9, 10, 184, 0, 162, 154, 0, 6, 18, 245, 172, 42, 182, 1, 21]
abbrev dktX1_shift_0 : List UInt8 := dkwX1_shift_0 ++ dktX1_shift_1
theorem dksX1_shift_0 : cX1_shift.data.toList.drop 0 = dktX1_shift_0 := by decide +kernel
theorem dksX1_shift_1 : cX1_shift.data.toList.drop 24 = dktX1_shift_1 := dk_seg dksX1_shift_0 24 rfl rfl
theorem dksX1_shift_2 : cX1_shift.data.toList.drop 48 = dktX1_shift_2 := dk_seg dksX1_shift_1 24 rfl rfl
theorem dksX1_shift_3 : cX1_shift.data.toList.drop 72 = dktX1_shift_3 := dk_seg dksX1_shift_2 24 rfl rfl
theorem dksX1_shift_4 : cX1_shift.data.toList.drop 95 = dktX1_shift_4 := dk_seg dksX1_shift_3 23 rfl rfl
theorem dX1_shift_0 : decode cX1_shift 0 = .ok (.aload_n 0, 1) := dk_42 (dk_at dksX1_shift_0 0 rfl rfl)
theorem dX1_shift_1 : decode cX1_shift 1 = .ok (.getfield 158, 3) := dk_180 0 158 (dk_at dksX1_shift_0 1 rfl rfl)
theorem dX1_shift_4 : decode cX1_shift 4 = .ok (.ifnull 13, 3) := dk_198 0 13 (dk_at dksX1_shift_0 4 rfl rfl)
theorem dX1_shift_7 : decode cX1_shift 7 = .ok (.iload_n 1, 1) := dk_27 (dk_at dksX1_shift_0 7 rfl rfl)
theorem dX1_shift_8 : decode cX1_shift 8 = .ok (.i2l, 1) := dk_133 (dk_at dksX1_shift_0 8 rfl rfl)
theorem dX1_shift_9 : decode cX1_shift 9 = .ok (.lconst 0, 1) := dk_9 (dk_at dksX1_shift_0 9 rfl rfl)
theorem dX1_shift_10 : decode cX1_shift 10 = .ok (.lconst 1, 1) := dk_10 (dk_at dksX1_shift_0 10 rfl rfl)
theorem dX1_shift_11 : decode cX1_shift 11 = .ok (.invokestatic 162, 3) := dk_184 0 162 (dk_at dksX1_shift_0 11 rfl rfl)
theorem dX1_shift_14 : decode cX1_shift 14 = .ok (.ifCond .ne 6, 3) := dk_154 0 6 (dk_at dksX1_shift_0 14 rfl rfl)
theorem dX1_shift_17 : decode cX1_shift 17 = .ok (.ldc 245, 2) := dk_18 245 (dk_at dksX1_shift_0 17 rfl rfl)
theorem dX1_shift_19 : decode cX1_shift 19 = .ok (.ireturn, 1) := dk_172 (dk_at dksX1_shift_0 19 rfl rfl)
theorem dX1_shift_20 : decode cX1_shift 20 = .ok (.aload_n 0, 1) := dk_42 (dk_at dksX1_shift_0 20 rfl rfl)
theorem dX1_shift_21 : decode cX1_shift 21 = .ok (.invokevirtual 277, 3) := dk_182 1 21 (dk_at dksX1_shift_0 21 rfl rfl)
theorem dX1_shift_24 : decode cX1_shift 24 = .ok (.astore_n 2, 1) := dk_77 (dk_at dksX1_shift_1 0 rfl rfl)
theorem dX1_shift_25 : decode cX1_shift 25 = .ok (.iconst 0, 1) := dk_3 (dk_at dksX1_shift_1 1 rfl rfl)
theorem dX1_shift_26 : decode cX1_shift 26 = .ok (.istore_n 3, 1) := dk_62 (dk_at dksX1_shift_1 2 rfl rfl)
theorem dX1_shift_27 : decode cX1_shift 27 = .ok (.aload_n 2, 1) := dk_44 (dk_at dksX1_shift_1 3 rfl rfl)
theorem dX1_shift_28 : decode cX1_shift 28 = .ok (.aload_n 0, 1) := dk_42 (dk_at dksX1_shift_1 4 rfl rfl)
theorem dX1_shift_29 : decode cX1_shift 29 = .ok (.getfield 158, 3) := dk_180 0 158 (dk_at dksX1_shift_1 5 rfl rfl)
theorem dX1_shift_32 : decode cX1_shift 32 = .ok (.iconst 0, 1) := dk_3 (dk_at dksX1_shift_1 8 rfl rfl)
theorem dX1_shift_33 : decode cX1_shift 33 = .ok (.invokevirtual 295, 3) := dk_182 1 39 (dk_at dksX1_shift_1 9 rfl rfl)
theorem dX1_shift_36 : decode cX1_shift 36 = .ok (.istore 4, 2) := dk_54 4 (dk_at dksX1_shift_1 12 rfl rfl)
theorem dX1_shift_38 : decode cX1_shift 38 = .ok (.iconst 1, 1) := dk_4 (dk_at dksX1_shift_1 14 rfl rfl)
theorem dX1_shift_39 : decode cX1_shift 39 = .ok (.istore 5, 2) := dk_54 5 (dk_at dksX1_shift_1 15 rfl rfl)
theorem dX1_shift_41 : decode cX1_shift 41 = .ok (.iload 5, 2) := dk_21 5 (dk_at dksX1_shift_1 17 rfl rfl)
theorem dX1_shift_43 : decode cX1_shift 43 = .ok (.bipush 9, 2) := dk_16 9 (dk_at dksX1_shift_1 19 rfl rfl)
theorem dX1_shift_45 : decode cX1_shift 45 = .ok (.if_icmp .gt 59, 3) := dk_163 0 59 (dk_at dksX1_shift_1 21 rfl rfl)
theorem dX1_shift_48 : decode cX1_shift 48 = .ok (.iconst (-1), 1) := dk_2 (dk_at dksX1_shift_2 0 rfl rfl)
theorem dX1_shift_49 : decode cX1_shift 49 = .ok (.istore 6, 2) := dk_54 6 (dk_at dksX1_shift_2 1 rfl rfl)
theorem dX1_shift_51 : decode cX1_shift 51 = .ok (.iload 6, 2) := dk_21 6 (dk_at dksX1_shift_2 3 rfl rfl)
theorem dX1_shift_53 : decode cX1_shift 53 = .ok (.iconst 1, 1) := dk_4 (dk_at dksX1_shift_2 5 rfl rfl)
theorem dX1_shift_54 : decode cX1_shift 54 = .ok (.if_icmp .gt 44, 3) := dk_163 0 44 (dk_at dksX1_shift_2 6 rfl rfl)
theorem dX1_shift_57 : decode cX1_shift 57 = .ok (.aload_n 2, 1) := dk_44 (dk_at dksX1_shift_2 9 rfl rfl)
theorem dX1_shift_58 : decode cX1_shift 58 = .ok (.aload_n 0, 1) := dk_42 (dk_at dksX1_shift_2 10 rfl rfl)
theorem dX1_shift_59 : decode cX1_shift 59 = .ok (.getfield 158, 3) := dk_180 0 158 (dk_at dksX1_shift_2 11 rfl rfl)
theorem dX1_shift_62 : decode cX1_shift 62 = .ok (.iload 6, 2) := dk_21 6 (dk_at dksX1_shift_2 14 rfl rfl)
theorem dX1_shift_64 : decode cX1_shift 64 = .ok (.iload 5, 2) := dk_21 5 (dk_at dksX1_shift_2 16 rfl rfl)
theorem dX1_shift_66 : decode cX1_shift 66 = .ok (.imul, 1) := dk_104 (dk_at dksX1_shift_2 18 rfl rfl)
theorem dX1_shift_67 : decode cX1_shift 67 = .ok (.invokevirtual 295, 3) := dk_182 1 39 (dk_at dksX1_shift_2 19 rfl rfl)
theorem dX1_shift_70 : decode cX1_shift 70 = .ok (.istore 7, 2) := dk_54 7 (dk_at dksX1_shift_2 22 rfl rfl)
theorem dX1_shift_72 : decode cX1_shift 72 = .ok (.iload 7, 2) := dk_21 7 (dk_at dksX1_shift_3 0 rfl rfl)
theorem dX1_shift_74 : decode cX1_shift 74 = .ok (.iload 4, 2) := dk_21 4 (dk_at dksX1_shift_3 2 rfl rfl)
theorem dX1_shift_76 : decode cX1_shift 76 = .ok (.if_icmp .gt 6, 3) := dk_163 0 6 (dk_at dksX1_shift_3 4 rfl rfl)
theorem dX1_shift_79 : decode cX1_shift 79 = .ok (.goto 13, 3) := dk_167 0 13 (dk_at dksX1_shift_3 7 rfl rfl)
theorem dX1_shift_82 : decode cX1_shift 82 = .ok (.iload 6, 2) := dk_21 6 (dk_at dksX1_shift_3 10 rfl rfl)
theorem dX1_shift_84 : decode cX1_shift 84 = .ok (.iload 5, 2) := dk_21 5 (dk_at dksX1_shift_3 12 rfl rfl)
theorem dX1_shift_86 : decode cX1_shift 86 = .ok (.imul, 1) := dk_104 (dk_at dksX1_shift_3 14 rfl rfl)
theorem dX1_shift_87 : decode cX1_shift 87 = .ok (.istore_n 3, 1) := dk_62 (dk_at dksX1_shift_3 15 rfl rfl)
theorem dX1_shift_88 : decode cX1_shift 88 = .ok (.iload 7, 2) := dk_21 7 (dk_at dksX1_shift_3 16 rfl rfl)
theorem dX1_shift_90 : decode cX1_shift 90 = .ok (.istore 4, 2) := dk_54 4 (dk_at dksX1_shift_3 18 rfl rfl)
theorem dX1_shift_92 : decode cX1_shift 92 = .ok (.iinc 6 2, 3) := dk_132 6 2 (dk_at dksX1_shift_3 20 rfl rfl)
theorem dX1_shift_95 : decode cX1_shift 95 = .ok (.goto (-44), 3) := dk_167 255 212 (dk_at dksX1_shift_4 0 rfl rfl)
theorem dX1_shift_98 : decode cX1_shift 98 = .ok (.iinc 5 1, 3) := dk_132 5 1 (dk_at dksX1_shift_4 3 rfl rfl)
theorem dX1_shift_101 : decode cX1_shift 101 = .ok (.goto (-60), 3) := dk_167 255 196 (dk_at dksX1_shift_4 6 rfl rfl)
theorem dX1_shift_104 : decode cX1_shift 104 = .ok (.iload_n 1, 1) := dk_27 (dk_at dksX1_shift_4 9 rfl rfl)
theorem dX1_shift_105 : decode cX1_shift 105 = .ok (.ifCond .ne 7, 3) := dk_154 0 7 (dk_at dksX1_shift_4 10 rfl rfl)
theorem dX1_shift_108 : decode cX1_shift 108 = .ok (.iload_n 3, 1) := dk_29 (dk_at dksX1_shift_4 13 rfl rfl)
theorem dX1_shift_109 : decode cX1_shift 109 = .ok (.goto 5, 3) := dk_167 0 5 (dk_at dksX1_shift_4 14 rfl rfl)
theorem dX1_shift_112 : decode cX1_shift 112 = .ok (.iload 4, 2) := dk_21 4 (dk_at dksX1_shift_4 17 rfl rfl)
theorem dX1_shift_114 : decode cX1_shift 114 = .ok (.ireturn, 1) := dk_172 (dk_at dksX1_shift_4 19 rfl rfl)
def dkwX1_missed_0 : List UInt8 := [42, 180, 0, 158, 199, 0, 7, 2, 167, 0, 8, 42, 3, 182, 1, 128, 172]
abbrev dktX1_missed_0 : List UInt8 := dkwX1_missed_0 ++ []
theorem dksX1_missed_0 : cX1_missed.data.toList.drop 0 = dktX1_missed_0 := by decide +kernel
theorem dX1_missed_0 : decode cX1_missed 0 = .ok (.aload_n 0, 1) := dk_42 (dk_at dksX1_missed_0 0 rfl rfl)
theorem dX1_missed_1 : decode cX1_missed 1 = .ok (.getfield 158, 3) := dk_180 0 158 (dk_at dksX1_missed_0 1 rfl rfl)
theorem dX1_missed_4 : decode cX1_missed 4 = .ok (.ifnonnull 7, 3) := dk_199 0 7 (dk_at dksX1_missed_0 4 rfl rfl)
theorem dX1_missed_7 : decode cX1_missed 7 = .ok (.iconst (-1), 1) := dk_2 (dk_at dksX1_missed_0 7 rfl rfl)
theorem dX1_missed_8 : decode cX1_missed 8 = .ok (.goto 8, 3) := dk_167 0 8 (dk_at dksX1_missed_0 8 rfl rfl)
theorem dX1_missed_11 : decode cX1_missed 11 = .ok (.aload_n 0, 1) := dk_42 (dk_at dksX1_missed_0 11 rfl rfl)
theorem dX1_missed_12 : decode cX1_missed 12 = .ok (.iconst 0, 1) := dk_3 (dk_at dksX1_missed_0 12 rfl rfl)
theorem dX1_missed_13 : decode cX1_missed 13 = .ok (.invokevirtual 384, 3) := dk_182 1 128 (dk_at dksX1_missed_0 13 rfl rfl)
theorem dX1_missed_16 : decode cX1_missed 16 = .ok (.ireturn, 1) := dk_172 (dk_at dksX1_missed_0 16 rfl rfl)
def dkwX1_lines_3 : List UInt8 := [29, 172]
abbrev dktX1_lines_3 : List UInt8 := dkwX1_lines_3 ++ []
def dkwX1_lines_2 : List UInt8 := [167, 0, 4, 3, 27, 160, 0, 10, 4, 21, 4, 120, 167, 0, 4, 3, 128, 62, 132, 4, 1, 167, 255, 207]
abbrev dktX1_lines_2 : List UInt8 := dkwX1_lines_2 ++ dktX1_lines_3
def dkwX1_lines_1 : List UInt8 := [180, 1, 18, 162, 0, 43, 29, 42, 180, 0, 122, 180, 1, 115, 21, 4, 46, 2, 159, 0, 7, 4]
abbrev dktX1_lines_1 : List UInt8 := dkwX1_lines_1 ++ dktX1_lines_2
def dkwX1_lines_0 : List UInt8 := [42, 182, 1, 21, 42, 180, 0, 158, 3, 182, 1, 39, 61, 3, 62, 3, 54, 4, 21, 4, 42, 180, 0, 158]
abbrev dktX1_lines_0 : List UInt8 := dkwX1_lines_0 ++ dktX1_lines_1
theorem dksX1_lines_0 : cX1_lines.data.toList.drop 0 = dktX1_lines_0 := by decide +kernel
theorem dksX1_lines_1 : cX1_lines.data.toList.drop 24 = dktX1_lines_1 := dk_seg dksX1_lines_0 24 rfl rfl
theorem dksX1_lines_2 : cX1_lines.data.toList.drop 46 = dktX1_lines_2 := dk_seg dksX1_lines_1 22 rfl rfl
theorem dksX1_lines_3 : cX1_lines.data.toList.drop 70 = dktX1_lines_3 := dk_seg dksX1_lines_2 24 rfl rfl
theorem dX1_lines_0 : decode cX1_lines 0 = .ok (.aload_n 0, 1) := dk_42 (dk_at dksX1_lines_0 0 rfl rfl)
theorem dX1_lines_1 : decode cX1_lines 1 = .ok (.invokevirtual 277, 3) := dk_182 1 21 (dk_at dksX1_lines_0 1 rfl rfl)
theorem dX1_lines_4 : decode cX1_lines 4 = .ok (.aload_n 0, 1) := dk_42 (dk_at dksX1_lines_0 4 rfl rfl)
theorem dX1_lines_5 : decode cX1_lines 5 = .ok (.getfield 158, 3) := dk_180 0 158 (dk_at dksX1_lines_0 5 rfl rfl)
theorem dX1_lines_8 : decode cX1_lines 8 = .ok (.iconst 0, 1) := dk_3 (dk_at dksX1_lines_0 8 rfl rfl)
theorem dX1_lines_9 : decode cX1_lines 9 = .ok (.invokevirtual 295, 3) := dk_182 1 39 (dk_at dksX1_lines_0 9 rfl rfl)
theorem dX1_lines_12 : decode cX1_lines 12 = .ok (.istore_n 2, 1) := dk_61 (dk_at dksX1_lines_0 12 rfl rfl)
theorem dX1_lines_13 : decode cX1_lines 13 = .ok (.iconst 0, 1) := dk_3 (dk_at dksX1_lines_0 13 rfl rfl)
theorem dX1_lines_14 : decode cX1_lines 14 = .ok (.istore_n 3, 1) := dk_62 (dk_at dksX1_lines_0 14 rfl rfl)
theorem dX1_lines_15 : decode cX1_lines 15 = .ok (.iconst 0, 1) := dk_3 (dk_at dksX1_lines_0 15 rfl rfl)
theorem dX1_lines_16 : decode cX1_lines 16 = .ok (.istore 4, 2) := dk_54 4 (dk_at dksX1_lines_0 16 rfl rfl)
theorem dX1_lines_18 : decode cX1_lines 18 = .ok (.iload 4, 2) := dk_21 4 (dk_at dksX1_lines_0 18 rfl rfl)
theorem dX1_lines_20 : decode cX1_lines 20 = .ok (.aload_n 0, 1) := dk_42 (dk_at dksX1_lines_0 20 rfl rfl)
theorem dX1_lines_21 : decode cX1_lines 21 = .ok (.getfield 158, 3) := dk_180 0 158 (dk_at dksX1_lines_0 21 rfl rfl)
theorem dX1_lines_24 : decode cX1_lines 24 = .ok (.getfield 274, 3) := dk_180 1 18 (dk_at dksX1_lines_1 0 rfl rfl)
theorem dX1_lines_27 : decode cX1_lines 27 = .ok (.if_icmp .ge 43, 3) := dk_162 0 43 (dk_at dksX1_lines_1 3 rfl rfl)
theorem dX1_lines_30 : decode cX1_lines 30 = .ok (.iload_n 3, 1) := dk_29 (dk_at dksX1_lines_1 6 rfl rfl)
theorem dX1_lines_31 : decode cX1_lines 31 = .ok (.aload_n 0, 1) := dk_42 (dk_at dksX1_lines_1 7 rfl rfl)
theorem dX1_lines_32 : decode cX1_lines 32 = .ok (.getfield 122, 3) := dk_180 0 122 (dk_at dksX1_lines_1 8 rfl rfl)
theorem dX1_lines_35 : decode cX1_lines 35 = .ok (.getfield 371, 3) := dk_180 1 115 (dk_at dksX1_lines_1 11 rfl rfl)
theorem dX1_lines_38 : decode cX1_lines 38 = .ok (.iload 4, 2) := dk_21 4 (dk_at dksX1_lines_1 14 rfl rfl)
theorem dX1_lines_40 : decode cX1_lines 40 = .ok (.iaload, 1) := dk_46 (dk_at dksX1_lines_1 16 rfl rfl)
theorem dX1_lines_41 : decode cX1_lines 41 = .ok (.iconst (-1), 1) := dk_2 (dk_at dksX1_lines_1 17 rfl rfl)
theorem dX1_lines_42 : decode cX1_lines 42 = .ok (.if_icmp .eq 7, 3) := dk_159 0 7 (dk_at dksX1_lines_1 18 rfl rfl)
theorem dX1_lines_45 : decode cX1_lines 45 = .ok (.iconst 1, 1) := dk_4 (dk_at dksX1_lines_1 21 rfl rfl)
theorem dX1_lines_46 : decode cX1_lines 46 = .ok (.goto 4, 3) := dk_167 0 4 (dk_at dksX1_lines_2 0 rfl rfl)
theorem dX1_lines_49 : decode cX1_lines 49 = .ok (.iconst 0, 1) := dk_3 (dk_at dksX1_lines_2 3 rfl rfl)
theorem dX1_lines_50 : decode cX1_lines 50 = .ok (.iload_n 1, 1) := dk_27 (dk_at dksX1_lines_2 4 rfl rfl)
theorem dX1_lines_51 : decode cX1_lines 51 = .ok (.if_icmp .ne 10, 3) := dk_160 0 10 (dk_at dksX1_lines_2 5 rfl rfl)
theorem dX1_lines_54 : decode cX1_lines 54 = .ok (.iconst 1, 1) := dk_4 (dk_at dksX1_lines_2 8 rfl rfl)
theorem dX1_lines_55 : decode cX1_lines 55 = .ok (.iload 4, 2) := dk_21 4 (dk_at dksX1_lines_2 9 rfl rfl)
theorem dX1_lines_57 : decode cX1_lines 57 = .ok (.ishl, 1) := dk_120 (dk_at dksX1_lines_2 11 rfl rfl)
theorem dX1_lines_58 : decode cX1_lines 58 = .ok (.goto 4, 3) := dk_167 0 4 (dk_at dksX1_lines_2 12 rfl rfl)
theorem dX1_lines_61 : decode cX1_lines 61 = .ok (.iconst 0, 1) := dk_3 (dk_at dksX1_lines_2 15 rfl rfl)
theorem dX1_lines_62 : decode cX1_lines 62 = .ok (.ior, 1) := dk_128 (dk_at dksX1_lines_2 16 rfl rfl)
theorem dX1_lines_63 : decode cX1_lines 63 = .ok (.istore_n 3, 1) := dk_62 (dk_at dksX1_lines_2 17 rfl rfl)
theorem dX1_lines_64 : decode cX1_lines 64 = .ok (.iinc 4 1, 3) := dk_132 4 1 (dk_at dksX1_lines_2 18 rfl rfl)
theorem dX1_lines_67 : decode cX1_lines 67 = .ok (.goto (-49), 3) := dk_167 255 207 (dk_at dksX1_lines_2 21 rfl rfl)
theorem dX1_lines_70 : decode cX1_lines 70 = .ok (.iload_n 3, 1) := dk_29 (dk_at dksX1_lines_3 0 rfl rfl)
theorem dX1_lines_71 : decode cX1_lines 71 = .ok (.ireturn, 1) := dk_172 (dk_at dksX1_lines_3 1 rfl rfl)
def dkwX1_would_4 : List UInt8 := [180, 1, 54, 167, 0, 8, 25, 4, 180, 1, 25, 172]
abbrev dktX1_would_4 : List UInt8 := dkwX1_would_4 ++ []
def dkwX1_would_3 : List UInt8 := [29, 154, 0, 11, 25, 4, 180, 1, 137, 167, 0, 26, 29, 4, 160, 0, 16, 25, 4, 180, 1, 51, 3, 50]
abbrev dktX1_would_3 : List UInt8 := dkwX1_would_3 ++ dktX1_would_4
def dkwX1_would_2 : List UInt8 := [172, 42, 180, 0, 122, 42, 180, 0, 148, 180, 0, 205, 42, 180, 0, 148, 180, 1, 8, 182, 1, 10, 58, 4]
abbrev dktX1_would_2 : List UInt8 := dkwX1_would_2 ++ dktX1_would_3
def dkwX1_would_1 : List UInt8 := [180, 0, 148, 42, 180, 0, 141, 182, 1, 131, 42, 180, 0, 148, 27, 28, 182, 1, 134, 2, 159, 0, 5, 2]
abbrev dktX1_would_1 : List UInt8 := dkwX1_would_1 ++ dktX1_would_2
def dkwX1_would_0 : List UInt8 := [42, 180, 0, 158, 198, 0, 15, 29, 133, 9, 20, 0, 243, 184, 0, 162, 154, 0, 5, 2, 172, 42]
abbrev dktX1_would_0 : List UInt8 := dkwX1_would_0 ++ dktX1_would_1
theorem dksX1_would_0 : cX1_would.data.toList.drop 0 = dktX1_would_0 := by decide +kernel
theorem dksX1_would_1 : cX1_would.data.toList.drop 22 = dktX1_would_1 := dk_seg dksX1_would_0 22 rfl rfl
theorem dksX1_would_2 : cX1_would.data.toList.drop 46 = dktX1_would_2 := dk_seg dksX1_would_1 24 rfl rfl
theorem dksX1_would_3 : cX1_would.data.toList.drop 70 = dktX1_would_3 := dk_seg dksX1_would_2 24 rfl rfl
theorem dksX1_would_4 : cX1_would.data.toList.drop 94 = dktX1_would_4 := dk_seg dksX1_would_3 24 rfl rfl
theorem dX1_would_0 : decode cX1_would 0 = .ok (.aload_n 0, 1) := dk_42 (dk_at dksX1_would_0 0 rfl rfl)
theorem dX1_would_1 : decode cX1_would 1 = .ok (.getfield 158, 3) := dk_180 0 158 (dk_at dksX1_would_0 1 rfl rfl)
theorem dX1_would_4 : decode cX1_would 4 = .ok (.ifnull 15, 3) := dk_198 0 15 (dk_at dksX1_would_0 4 rfl rfl)
theorem dX1_would_7 : decode cX1_would 7 = .ok (.iload_n 3, 1) := dk_29 (dk_at dksX1_would_0 7 rfl rfl)
theorem dX1_would_8 : decode cX1_would 8 = .ok (.i2l, 1) := dk_133 (dk_at dksX1_would_0 8 rfl rfl)
theorem dX1_would_9 : decode cX1_would 9 = .ok (.lconst 0, 1) := dk_9 (dk_at dksX1_would_0 9 rfl rfl)
theorem dX1_would_10 : decode cX1_would 10 = .ok (.ldc2_w 243, 3) := dk_20 0 243 (dk_at dksX1_would_0 10 rfl rfl)
theorem dX1_would_13 : decode cX1_would 13 = .ok (.invokestatic 162, 3) := dk_184 0 162 (dk_at dksX1_would_0 13 rfl rfl)
theorem dX1_would_16 : decode cX1_would 16 = .ok (.ifCond .ne 5, 3) := dk_154 0 5 (dk_at dksX1_would_0 16 rfl rfl)
theorem dX1_would_19 : decode cX1_would 19 = .ok (.iconst (-1), 1) := dk_2 (dk_at dksX1_would_0 19 rfl rfl)
theorem dX1_would_20 : decode cX1_would 20 = .ok (.ireturn, 1) := dk_172 (dk_at dksX1_would_0 20 rfl rfl)
theorem dX1_would_21 : decode cX1_would 21 = .ok (.aload_n 0, 1) := dk_42 (dk_at dksX1_would_0 21 rfl rfl)
theorem dX1_would_22 : decode cX1_would 22 = .ok (.getfield 148, 3) := dk_180 0 148 (dk_at dksX1_would_1 0 rfl rfl)
theorem dX1_would_25 : decode cX1_would 25 = .ok (.aload_n 0, 1) := dk_42 (dk_at dksX1_would_1 3 rfl rfl)
theorem dX1_would_26 : decode cX1_would 26 = .ok (.getfield 141, 3) := dk_180 0 141 (dk_at dksX1_would_1 4 rfl rfl)
theorem dX1_would_29 : decode cX1_would 29 = .ok (.invokevirtual 387, 3) := dk_182 1 131 (dk_at dksX1_would_1 7 rfl rfl)
theorem dX1_would_32 : decode cX1_would 32 = .ok (.aload_n 0, 1) := dk_42 (dk_at dksX1_would_1 10 rfl rfl)
theorem dX1_would_33 : decode cX1_would 33 = .ok (.getfield 148, 3) := dk_180 0 148 (dk_at dksX1_would_1 11 rfl rfl)
theorem dX1_would_36 : decode cX1_would 36 = .ok (.iload_n 1, 1) := dk_27 (dk_at dksX1_would_1 14 rfl rfl)
theorem dX1_would_37 : decode cX1_would 37 = .ok (.iload_n 2, 1) := dk_28 (dk_at dksX1_would_1 15 rfl rfl)
theorem dX1_would_38 : decode cX1_would 38 = .ok (.invokevirtual 390, 3) := dk_182 1 134 (dk_at dksX1_would_1 16 rfl rfl)
theorem dX1_would_41 : decode cX1_would 41 = .ok (.iconst (-1), 1) := dk_2 (dk_at dksX1_would_1 19 rfl rfl)
theorem dX1_would_42 : decode cX1_would 42 = .ok (.if_icmp .eq 5, 3) := dk_159 0 5 (dk_at dksX1_would_1 20 rfl rfl)
theorem dX1_would_45 : decode cX1_would 45 = .ok (.iconst (-1), 1) := dk_2 (dk_at dksX1_would_1 23 rfl rfl)
theorem dX1_would_46 : decode cX1_would 46 = .ok (.ireturn, 1) := dk_172 (dk_at dksX1_would_2 0 rfl rfl)
theorem dX1_would_47 : decode cX1_would 47 = .ok (.aload_n 0, 1) := dk_42 (dk_at dksX1_would_2 1 rfl rfl)
theorem dX1_would_48 : decode cX1_would 48 = .ok (.getfield 122, 3) := dk_180 0 122 (dk_at dksX1_would_2 2 rfl rfl)
theorem dX1_would_51 : decode cX1_would 51 = .ok (.aload_n 0, 1) := dk_42 (dk_at dksX1_would_2 5 rfl rfl)
theorem dX1_would_52 : decode cX1_would 52 = .ok (.getfield 148, 3) := dk_180 0 148 (dk_at dksX1_would_2 6 rfl rfl)
theorem dX1_would_55 : decode cX1_would 55 = .ok (.getfield 205, 3) := dk_180 0 205 (dk_at dksX1_would_2 9 rfl rfl)
theorem dX1_would_58 : decode cX1_would 58 = .ok (.aload_n 0, 1) := dk_42 (dk_at dksX1_would_2 12 rfl rfl)
theorem dX1_would_59 : decode cX1_would 59 = .ok (.getfield 148, 3) := dk_180 0 148 (dk_at dksX1_would_2 13 rfl rfl)
theorem dX1_would_62 : decode cX1_would 62 = .ok (.getfield 264, 3) := dk_180 1 8 (dk_at dksX1_would_2 16 rfl rfl)
theorem dX1_would_65 : decode cX1_would 65 = .ok (.invokevirtual 266, 3) := dk_182 1 10 (dk_at dksX1_would_2 19 rfl rfl)
theorem dX1_would_68 : decode cX1_would 68 = .ok (.astore 4, 2) := dk_58 4 (dk_at dksX1_would_2 22 rfl rfl)
theorem dX1_would_70 : decode cX1_would 70 = .ok (.iload_n 3, 1) := dk_29 (dk_at dksX1_would_3 0 rfl rfl)
theorem dX1_would_71 : decode cX1_would 71 = .ok (.ifCond .ne 11, 3) := dk_154 0 11 (dk_at dksX1_would_3 1 rfl rfl)
theorem dX1_would_74 : decode cX1_would 74 = .ok (.aload 4, 2) := dk_25 4 (dk_at dksX1_would_3 4 rfl rfl)
theorem dX1_would_76 : decode cX1_would 76 = .ok (.getfield 393, 3) := dk_180 1 137 (dk_at dksX1_would_3 6 rfl rfl)
theorem dX1_would_79 : decode cX1_would 79 = .ok (.goto 26, 3) := dk_167 0 26 (dk_at dksX1_would_3 9 rfl rfl)
theorem dX1_would_82 : decode cX1_would 82 = .ok (.iload_n 3, 1) := dk_29 (dk_at dksX1_would_3 12 rfl rfl)
theorem dX1_would_83 : decode cX1_would 83 = .ok (.iconst 1, 1) := dk_4 (dk_at dksX1_would_3 13 rfl rfl)
theorem dX1_would_84 : decode cX1_would 84 = .ok (.if_icmp .ne 16, 3) := dk_160 0 16 (dk_at dksX1_would_3 14 rfl rfl)
theorem dX1_would_87 : decode cX1_would 87 = .ok (.aload 4, 2) := dk_25 4 (dk_at dksX1_would_3 17 rfl rfl)
theorem dX1_would_89 : decode cX1_would 89 = .ok (.getfield 307, 3) := dk_180 1 51 (dk_at dksX1_would_3 19 rfl rfl)
theorem dX1_would_92 : decode cX1_would 92 = .ok (.iconst 0, 1) := dk_3 (dk_at dksX1_would_3 22 rfl rfl)
theorem dX1_would_93 : decode cX1_would 93 = .ok (.aaload, 1) := dk_50 (dk_at dksX1_would_3 23 rfl rfl)
theorem dX1_would_94 : decode cX1_would 94 = .ok (.getfield 310, 3) := dk_180 1 54 (dk_at dksX1_would_4 0 rfl rfl)
theorem dX1_would_97 : decode cX1_would 97 = .ok (.goto 8, 3) := dk_167 0 8 (dk_at dksX1_would_4 3 rfl rfl)
theorem dX1_would_100 : decode cX1_would 100 = .ok (.aload 4, 2) := dk_25 4 (dk_at dksX1_would_4 6 rfl rfl)
theorem dX1_would_102 : decode cX1_would 102 = .ok (.getfield 281, 3) := dk_180 1 25 (dk_at dksX1_would_4 8 rfl rfl)
theorem dX1_would_105 : decode cX1_would 105 = .ok (.ireturn, 1) := dk_172 (dk_at dksX1_would_4 11 rfl rfl)
def dkwX1_solo_1 : List UInt8 := [186, 1, 143, 0, 0, 182, 1, 146, 172]
abbrev dktX1_solo_1 : List UInt8 := dkwX1_solo_1 ++ []
def dkwX1_solo_0 : List UInt8 := [42, 180, 0, 158, 198, 0, 14, 42, 182, 1, 21, 180, 1, 25, 4, 160, 0, 7, 2, 167, 0, 13, 42, 42]
abbrev dktX1_solo_0 : List UInt8 := dkwX1_solo_0 ++ dktX1_solo_1
theorem dksX1_solo_0 : cX1_solo.data.toList.drop 0 = dktX1_solo_0 := by decide +kernel
theorem dksX1_solo_1 : cX1_solo.data.toList.drop 24 = dktX1_solo_1 := dk_seg dksX1_solo_0 24 rfl rfl
theorem dX1_solo_0 : decode cX1_solo 0 = .ok (.aload_n 0, 1) := dk_42 (dk_at dksX1_solo_0 0 rfl rfl)
theorem dX1_solo_1 : decode cX1_solo 1 = .ok (.getfield 158, 3) := dk_180 0 158 (dk_at dksX1_solo_0 1 rfl rfl)
theorem dX1_solo_4 : decode cX1_solo 4 = .ok (.ifnull 14, 3) := dk_198 0 14 (dk_at dksX1_solo_0 4 rfl rfl)
theorem dX1_solo_7 : decode cX1_solo 7 = .ok (.aload_n 0, 1) := dk_42 (dk_at dksX1_solo_0 7 rfl rfl)
theorem dX1_solo_8 : decode cX1_solo 8 = .ok (.invokevirtual 277, 3) := dk_182 1 21 (dk_at dksX1_solo_0 8 rfl rfl)
theorem dX1_solo_11 : decode cX1_solo 11 = .ok (.getfield 281, 3) := dk_180 1 25 (dk_at dksX1_solo_0 11 rfl rfl)
theorem dX1_solo_14 : decode cX1_solo 14 = .ok (.iconst 1, 1) := dk_4 (dk_at dksX1_solo_0 14 rfl rfl)
theorem dX1_solo_15 : decode cX1_solo 15 = .ok (.if_icmp .ne 7, 3) := dk_160 0 7 (dk_at dksX1_solo_0 15 rfl rfl)
theorem dX1_solo_18 : decode cX1_solo 18 = .ok (.iconst (-1), 1) := dk_2 (dk_at dksX1_solo_0 18 rfl rfl)
theorem dX1_solo_19 : decode cX1_solo 19 = .ok (.goto 13, 3) := dk_167 0 13 (dk_at dksX1_solo_0 19 rfl rfl)
theorem dX1_solo_22 : decode cX1_solo 22 = .ok (.aload_n 0, 1) := dk_42 (dk_at dksX1_solo_0 22 rfl rfl)
theorem dX1_solo_23 : decode cX1_solo 23 = .ok (.aload_n 0, 1) := dk_42 (dk_at dksX1_solo_0 23 rfl rfl)
theorem dX1_solo_24 : decode cX1_solo 24 = .ok (.invokedynamic 399, 5) := by decide +kernel
theorem dX1_solo_29 : decode cX1_solo 29 = .ok (.invokevirtual 402, 3) := dk_182 1 146 (dk_at dksX1_solo_1 5 rfl rfl)
theorem dX1_solo_32 : decode cX1_solo 32 = .ok (.ireturn, 1) := dk_172 (dk_at dksX1_solo_1 8 rfl rfl)
def dkwX1_heightBut_0 : List UInt8 := [27, 154, 0, 7, 2, 167, 0, 15, 42, 180, 0, 122, 180, 1, 51, 27, 50, 180, 1, 59, 172]
abbrev dktX1_heightBut_0 : List UInt8 := dkwX1_heightBut_0 ++ []
theorem dksX1_heightBut_0 : cX1_heightBut.data.toList.drop 0 = dktX1_heightBut_0 := by decide +kernel
theorem dX1_heightBut_0 : decode cX1_heightBut 0 = .ok (.iload_n 1, 1) := dk_27 (dk_at dksX1_heightBut_0 0 rfl rfl)
theorem dX1_heightBut_1 : decode cX1_heightBut 1 = .ok (.ifCond .ne 7, 3) := dk_154 0 7 (dk_at dksX1_heightBut_0 1 rfl rfl)
theorem dX1_heightBut_4 : decode cX1_heightBut 4 = .ok (.iconst (-1), 1) := dk_2 (dk_at dksX1_heightBut_0 4 rfl rfl)
theorem dX1_heightBut_5 : decode cX1_heightBut 5 = .ok (.goto 15, 3) := dk_167 0 15 (dk_at dksX1_heightBut_0 5 rfl rfl)
theorem dX1_heightBut_8 : decode cX1_heightBut 8 = .ok (.aload_n 0, 1) := dk_42 (dk_at dksX1_heightBut_0 8 rfl rfl)
theorem dX1_heightBut_9 : decode cX1_heightBut 9 = .ok (.getfield 122, 3) := dk_180 0 122 (dk_at dksX1_heightBut_0 9 rfl rfl)
theorem dX1_heightBut_12 : decode cX1_heightBut 12 = .ok (.getfield 307, 3) := dk_180 1 51 (dk_at dksX1_heightBut_0 12 rfl rfl)
theorem dX1_heightBut_15 : decode cX1_heightBut 15 = .ok (.iload_n 1, 1) := dk_27 (dk_at dksX1_heightBut_0 15 rfl rfl)
theorem dX1_heightBut_16 : decode cX1_heightBut 16 = .ok (.aaload, 1) := dk_50 (dk_at dksX1_heightBut_0 16 rfl rfl)
theorem dX1_heightBut_17 : decode cX1_heightBut 17 = .ok (.getfield 315, 3) := dk_180 1 59 (dk_at dksX1_heightBut_0 17 rfl rfl)
theorem dX1_heightBut_20 : decode cX1_heightBut 20 = .ok (.ireturn, 1) := dk_172 (dk_at dksX1_heightBut_0 20 rfl rfl)
def dkwX1_best_2 : List UInt8 := [164, 0, 5, 29, 61, 132, 3, 1, 167, 255, 207, 28, 172]
abbrev dktX1_best_2 : List UInt8 := dkwX1_best_2 ++ []
def dkwX1_best_1 : List UInt8 := [159, 0, 27, 28, 2, 159, 0, 20, 43, 29, 185, 1, 139, 2, 0, 43, 28, 185, 1, 139, 2, 0]
abbrev dktX1_best_1 : List UInt8 := dkwX1_best_1 ++ dktX1_best_2
def dkwX1_best_0 : List UInt8 := [2, 61, 3, 62, 29, 42, 180, 0, 122, 180, 1, 25, 162, 0, 44, 43, 29, 185, 1, 139, 2, 0, 2]
abbrev dktX1_best_0 : List UInt8 := dkwX1_best_0 ++ dktX1_best_1
theorem dksX1_best_0 : cX1_best.data.toList.drop 0 = dktX1_best_0 := by decide +kernel
theorem dksX1_best_1 : cX1_best.data.toList.drop 23 = dktX1_best_1 := dk_seg dksX1_best_0 23 rfl rfl
theorem dksX1_best_2 : cX1_best.data.toList.drop 45 = dktX1_best_2 := dk_seg dksX1_best_1 22 rfl rfl
theorem dX1_best_0 : decode cX1_best 0 = .ok (.iconst (-1), 1) := dk_2 (dk_at dksX1_best_0 0 rfl rfl)
theorem dX1_best_1 : decode cX1_best 1 = .ok (.istore_n 2, 1) := dk_61 (dk_at dksX1_best_0 1 rfl rfl)
theorem dX1_best_2 : decode cX1_best 2 = .ok (.iconst 0, 1) := dk_3 (dk_at dksX1_best_0 2 rfl rfl)
theorem dX1_best_3 : decode cX1_best 3 = .ok (.istore_n 3, 1) := dk_62 (dk_at dksX1_best_0 3 rfl rfl)
theorem dX1_best_4 : decode cX1_best 4 = .ok (.iload_n 3, 1) := dk_29 (dk_at dksX1_best_0 4 rfl rfl)
theorem dX1_best_5 : decode cX1_best 5 = .ok (.aload_n 0, 1) := dk_42 (dk_at dksX1_best_0 5 rfl rfl)
theorem dX1_best_6 : decode cX1_best 6 = .ok (.getfield 122, 3) := dk_180 0 122 (dk_at dksX1_best_0 6 rfl rfl)
theorem dX1_best_9 : decode cX1_best 9 = .ok (.getfield 281, 3) := dk_180 1 25 (dk_at dksX1_best_0 9 rfl rfl)
theorem dX1_best_12 : decode cX1_best 12 = .ok (.if_icmp .ge 44, 3) := dk_162 0 44 (dk_at dksX1_best_0 12 rfl rfl)
theorem dX1_best_15 : decode cX1_best 15 = .ok (.aload_n 1, 1) := dk_43 (dk_at dksX1_best_0 15 rfl rfl)
theorem dX1_best_16 : decode cX1_best 16 = .ok (.iload_n 3, 1) := dk_29 (dk_at dksX1_best_0 16 rfl rfl)
theorem dX1_best_17 : decode cX1_best 17 = .ok (.invokeinterface 395 2, 5) := by decide +kernel
theorem dX1_best_22 : decode cX1_best 22 = .ok (.iconst (-1), 1) := dk_2 (dk_at dksX1_best_0 22 rfl rfl)
theorem dX1_best_23 : decode cX1_best 23 = .ok (.if_icmp .eq 27, 3) := dk_159 0 27 (dk_at dksX1_best_1 0 rfl rfl)
theorem dX1_best_26 : decode cX1_best 26 = .ok (.iload_n 2, 1) := dk_28 (dk_at dksX1_best_1 3 rfl rfl)
theorem dX1_best_27 : decode cX1_best 27 = .ok (.iconst (-1), 1) := dk_2 (dk_at dksX1_best_1 4 rfl rfl)
theorem dX1_best_28 : decode cX1_best 28 = .ok (.if_icmp .eq 20, 3) := dk_159 0 20 (dk_at dksX1_best_1 5 rfl rfl)
theorem dX1_best_31 : decode cX1_best 31 = .ok (.aload_n 1, 1) := dk_43 (dk_at dksX1_best_1 8 rfl rfl)
theorem dX1_best_32 : decode cX1_best 32 = .ok (.iload_n 3, 1) := dk_29 (dk_at dksX1_best_1 9 rfl rfl)
theorem dX1_best_33 : decode cX1_best 33 = .ok (.invokeinterface 395 2, 5) := by decide +kernel
theorem dX1_best_38 : decode cX1_best 38 = .ok (.aload_n 1, 1) := dk_43 (dk_at dksX1_best_1 15 rfl rfl)
theorem dX1_best_39 : decode cX1_best 39 = .ok (.iload_n 2, 1) := dk_28 (dk_at dksX1_best_1 16 rfl rfl)
theorem dX1_best_40 : decode cX1_best 40 = .ok (.invokeinterface 395 2, 5) := by decide +kernel
theorem dX1_best_45 : decode cX1_best 45 = .ok (.if_icmp .le 5, 3) := dk_164 0 5 (dk_at dksX1_best_2 0 rfl rfl)
theorem dX1_best_48 : decode cX1_best 48 = .ok (.iload_n 3, 1) := dk_29 (dk_at dksX1_best_2 3 rfl rfl)
theorem dX1_best_49 : decode cX1_best 49 = .ok (.istore_n 2, 1) := dk_61 (dk_at dksX1_best_2 4 rfl rfl)
theorem dX1_best_50 : decode cX1_best 50 = .ok (.iinc 3 1, 3) := dk_132 3 1 (dk_at dksX1_best_2 5 rfl rfl)
theorem dX1_best_53 : decode cX1_best 53 = .ok (.goto (-49), 3) := dk_167 255 207 (dk_at dksX1_best_2 8 rfl rfl)
theorem dX1_best_56 : decode cX1_best 56 = .ok (.iload_n 2, 1) := dk_28 (dk_at dksX1_best_2 11 rfl rfl)
theorem dX1_best_57 : decode cX1_best 57 = .ok (.ireturn, 1) := dk_172 (dk_at dksX1_best_2 12 rfl rfl)
def dkwX1_tallest_1 : List UInt8 := [186, 1, 150, 0, 0, 182, 1, 146, 172]
abbrev dktX1_tallest_1 : List UInt8 := dkwX1_tallest_1 ++ []
def dkwX1_tallest_0 : List UInt8 := [42, 180, 0, 158, 198, 0, 13, 42, 182, 1, 21, 180, 1, 25, 154, 0, 5, 2, 172, 42, 42, 27]
abbrev dktX1_tallest_0 : List UInt8 := dkwX1_tallest_0 ++ dktX1_tallest_1
theorem dksX1_tallest_0 : cX1_tallest.data.toList.drop 0 = dktX1_tallest_0 := by decide +kernel
theorem dksX1_tallest_1 : cX1_tallest.data.toList.drop 22 = dktX1_tallest_1 := dk_seg dksX1_tallest_0 22 rfl rfl
theorem dX1_tallest_0 : decode cX1_tallest 0 = .ok (.aload_n 0, 1) := dk_42 (dk_at dksX1_tallest_0 0 rfl rfl)
theorem dX1_tallest_1 : decode cX1_tallest 1 = .ok (.getfield 158, 3) := dk_180 0 158 (dk_at dksX1_tallest_0 1 rfl rfl)
theorem dX1_tallest_4 : decode cX1_tallest 4 = .ok (.ifnull 13, 3) := dk_198 0 13 (dk_at dksX1_tallest_0 4 rfl rfl)
theorem dX1_tallest_7 : decode cX1_tallest 7 = .ok (.aload_n 0, 1) := dk_42 (dk_at dksX1_tallest_0 7 rfl rfl)
theorem dX1_tallest_8 : decode cX1_tallest 8 = .ok (.invokevirtual 277, 3) := dk_182 1 21 (dk_at dksX1_tallest_0 8 rfl rfl)
theorem dX1_tallest_11 : decode cX1_tallest 11 = .ok (.getfield 281, 3) := dk_180 1 25 (dk_at dksX1_tallest_0 11 rfl rfl)
theorem dX1_tallest_14 : decode cX1_tallest 14 = .ok (.ifCond .ne 5, 3) := dk_154 0 5 (dk_at dksX1_tallest_0 14 rfl rfl)
theorem dX1_tallest_17 : decode cX1_tallest 17 = .ok (.iconst (-1), 1) := dk_2 (dk_at dksX1_tallest_0 17 rfl rfl)
theorem dX1_tallest_18 : decode cX1_tallest 18 = .ok (.ireturn, 1) := dk_172 (dk_at dksX1_tallest_0 18 rfl rfl)
theorem dX1_tallest_19 : decode cX1_tallest 19 = .ok (.aload_n 0, 1) := dk_42 (dk_at dksX1_tallest_0 19 rfl rfl)
theorem dX1_tallest_20 : decode cX1_tallest 20 = .ok (.aload_n 0, 1) := dk_42 (dk_at dksX1_tallest_0 20 rfl rfl)
theorem dX1_tallest_21 : decode cX1_tallest 21 = .ok (.iload_n 1, 1) := dk_27 (dk_at dksX1_tallest_0 21 rfl rfl)
theorem dX1_tallest_22 : decode cX1_tallest 22 = .ok (.invokedynamic 406, 5) := by decide +kernel
theorem dX1_tallest_27 : decode cX1_tallest 27 = .ok (.invokevirtual 402, 3) := dk_182 1 146 (dk_at dksX1_tallest_1 5 rfl rfl)
theorem dX1_tallest_30 : decode cX1_tallest 30 = .ok (.ireturn, 1) := dk_172 (dk_at dksX1_tallest_1 8 rfl rfl)
def dkwX1_lambda_tallest_2_1 : List UInt8 := [167, 0, 4, 2, 172]
abbrev dktX1_lambda_tallest_2_1 : List UInt8 := dkwX1_lambda_tallest_2_1 ++ []
def dkwX1_lambda_tallest_2_0 : List UInt8 := [42, 180, 0, 122, 28, 182, 1, 82, 27, 160, 0, 18, 42, 180, 0, 122, 180, 1, 51, 28, 50, 180, 1, 59]
abbrev dktX1_lambda_tallest_2_0 : List UInt8 := dkwX1_lambda_tallest_2_0 ++ dktX1_lambda_tallest_2_1
theorem dksX1_lambda_tallest_2_0 : cX1_lambda_tallest_2.data.toList.drop 0 = dktX1_lambda_tallest_2_0 := by decide +kernel
theorem dksX1_lambda_tallest_2_1 : cX1_lambda_tallest_2.data.toList.drop 24 = dktX1_lambda_tallest_2_1 := dk_seg dksX1_lambda_tallest_2_0 24 rfl rfl
theorem dX1_lambda_tallest_2_0 : decode cX1_lambda_tallest_2 0 = .ok (.aload_n 0, 1) := dk_42 (dk_at dksX1_lambda_tallest_2_0 0 rfl rfl)
theorem dX1_lambda_tallest_2_1 : decode cX1_lambda_tallest_2 1 = .ok (.getfield 122, 3) := dk_180 0 122 (dk_at dksX1_lambda_tallest_2_0 1 rfl rfl)
theorem dX1_lambda_tallest_2_4 : decode cX1_lambda_tallest_2 4 = .ok (.iload_n 2, 1) := dk_28 (dk_at dksX1_lambda_tallest_2_0 4 rfl rfl)
theorem dX1_lambda_tallest_2_5 : decode cX1_lambda_tallest_2 5 = .ok (.invokevirtual 338, 3) := dk_182 1 82 (dk_at dksX1_lambda_tallest_2_0 5 rfl rfl)
theorem dX1_lambda_tallest_2_8 : decode cX1_lambda_tallest_2 8 = .ok (.iload_n 1, 1) := dk_27 (dk_at dksX1_lambda_tallest_2_0 8 rfl rfl)
theorem dX1_lambda_tallest_2_9 : decode cX1_lambda_tallest_2 9 = .ok (.if_icmp .ne 18, 3) := dk_160 0 18 (dk_at dksX1_lambda_tallest_2_0 9 rfl rfl)
theorem dX1_lambda_tallest_2_12 : decode cX1_lambda_tallest_2 12 = .ok (.aload_n 0, 1) := dk_42 (dk_at dksX1_lambda_tallest_2_0 12 rfl rfl)
theorem dX1_lambda_tallest_2_13 : decode cX1_lambda_tallest_2 13 = .ok (.getfield 122, 3) := dk_180 0 122 (dk_at dksX1_lambda_tallest_2_0 13 rfl rfl)
theorem dX1_lambda_tallest_2_16 : decode cX1_lambda_tallest_2 16 = .ok (.getfield 307, 3) := dk_180 1 51 (dk_at dksX1_lambda_tallest_2_0 16 rfl rfl)
theorem dX1_lambda_tallest_2_19 : decode cX1_lambda_tallest_2 19 = .ok (.iload_n 2, 1) := dk_28 (dk_at dksX1_lambda_tallest_2_0 19 rfl rfl)
theorem dX1_lambda_tallest_2_20 : decode cX1_lambda_tallest_2 20 = .ok (.aaload, 1) := dk_50 (dk_at dksX1_lambda_tallest_2_0 20 rfl rfl)
theorem dX1_lambda_tallest_2_21 : decode cX1_lambda_tallest_2 21 = .ok (.getfield 315, 3) := dk_180 1 59 (dk_at dksX1_lambda_tallest_2_0 21 rfl rfl)
theorem dX1_lambda_tallest_2_24 : decode cX1_lambda_tallest_2 24 = .ok (.goto 4, 3) := dk_167 0 4 (dk_at dksX1_lambda_tallest_2_1 0 rfl rfl)
theorem dX1_lambda_tallest_2_27 : decode cX1_lambda_tallest_2 27 = .ok (.iconst (-1), 1) := dk_2 (dk_at dksX1_lambda_tallest_2_1 3 rfl rfl)
theorem dX1_lambda_tallest_2_28 : decode cX1_lambda_tallest_2 28 = .ok (.ireturn, 1) := dk_172 (dk_at dksX1_lambda_tallest_2_1 4 rfl rfl)
def dkwX1_change_4 : List UInt8 := [167, 255, 189, 27, 154, 0, 7, 28, 167, 0, 4, 29, 172]
abbrev dktX1_change_4 : List UInt8 := dkwX1_change_4 ++ []
def dkwX1_change_3 : List UInt8 := [182, 0, 224, 54, 5, 21, 5, 29, 161, 0, 6, 167, 0, 9, 21, 4, 61, 21, 5, 62, 132, 4, 1]
abbrev dktX1_change_3 : List UInt8 := dkwX1_change_3 ++ dktX1_change_4
def dkwX1_change_2 : List UInt8 := [180, 0, 141, 182, 1, 131, 42, 180, 0, 148, 180, 0, 205, 180, 1, 36, 21, 4, 3, 79, 42, 180, 0, 148]
abbrev dktX1_change_2 : List UInt8 := dkwX1_change_2 ++ dktX1_change_3
def dkwX1_change_1 : List UInt8 := [3, 54, 4, 21, 4, 42, 180, 0, 141, 180, 0, 205, 180, 0, 208, 162, 0, 58, 42, 180, 0, 148, 42]
abbrev dktX1_change_1 : List UInt8 := dkwX1_change_1 ++ dktX1_change_2
def dkwX1_change_0 : List UInt8 := [42, 180, 0, 158, 198, 0, 13, 27, 133, 9, 10, 184, 0, 162, 154, 0, 5, 2, 172, 2, 61, 16, 48, 62]
abbrev dktX1_change_0 : List UInt8 := dkwX1_change_0 ++ dktX1_change_1
theorem dksX1_change_0 : cX1_change.data.toList.drop 0 = dktX1_change_0 := by decide +kernel
theorem dksX1_change_1 : cX1_change.data.toList.drop 24 = dktX1_change_1 := dk_seg dksX1_change_0 24 rfl rfl
theorem dksX1_change_2 : cX1_change.data.toList.drop 47 = dktX1_change_2 := dk_seg dksX1_change_1 23 rfl rfl
theorem dksX1_change_3 : cX1_change.data.toList.drop 71 = dktX1_change_3 := dk_seg dksX1_change_2 24 rfl rfl
theorem dksX1_change_4 : cX1_change.data.toList.drop 94 = dktX1_change_4 := dk_seg dksX1_change_3 23 rfl rfl
theorem dX1_change_0 : decode cX1_change 0 = .ok (.aload_n 0, 1) := dk_42 (dk_at dksX1_change_0 0 rfl rfl)
theorem dX1_change_1 : decode cX1_change 1 = .ok (.getfield 158, 3) := dk_180 0 158 (dk_at dksX1_change_0 1 rfl rfl)
theorem dX1_change_4 : decode cX1_change 4 = .ok (.ifnull 13, 3) := dk_198 0 13 (dk_at dksX1_change_0 4 rfl rfl)
theorem dX1_change_7 : decode cX1_change 7 = .ok (.iload_n 1, 1) := dk_27 (dk_at dksX1_change_0 7 rfl rfl)
theorem dX1_change_8 : decode cX1_change 8 = .ok (.i2l, 1) := dk_133 (dk_at dksX1_change_0 8 rfl rfl)
theorem dX1_change_9 : decode cX1_change 9 = .ok (.lconst 0, 1) := dk_9 (dk_at dksX1_change_0 9 rfl rfl)
theorem dX1_change_10 : decode cX1_change 10 = .ok (.lconst 1, 1) := dk_10 (dk_at dksX1_change_0 10 rfl rfl)
theorem dX1_change_11 : decode cX1_change 11 = .ok (.invokestatic 162, 3) := dk_184 0 162 (dk_at dksX1_change_0 11 rfl rfl)
theorem dX1_change_14 : decode cX1_change 14 = .ok (.ifCond .ne 5, 3) := dk_154 0 5 (dk_at dksX1_change_0 14 rfl rfl)
theorem dX1_change_17 : decode cX1_change 17 = .ok (.iconst (-1), 1) := dk_2 (dk_at dksX1_change_0 17 rfl rfl)
theorem dX1_change_18 : decode cX1_change 18 = .ok (.ireturn, 1) := dk_172 (dk_at dksX1_change_0 18 rfl rfl)
theorem dX1_change_19 : decode cX1_change 19 = .ok (.iconst (-1), 1) := dk_2 (dk_at dksX1_change_0 19 rfl rfl)
theorem dX1_change_20 : decode cX1_change 20 = .ok (.istore_n 2, 1) := dk_61 (dk_at dksX1_change_0 20 rfl rfl)
theorem dX1_change_21 : decode cX1_change 21 = .ok (.bipush 48, 2) := dk_16 48 (dk_at dksX1_change_0 21 rfl rfl)
theorem dX1_change_23 : decode cX1_change 23 = .ok (.istore_n 3, 1) := dk_62 (dk_at dksX1_change_0 23 rfl rfl)
theorem dX1_change_24 : decode cX1_change 24 = .ok (.iconst 0, 1) := dk_3 (dk_at dksX1_change_1 0 rfl rfl)
theorem dX1_change_25 : decode cX1_change 25 = .ok (.istore 4, 2) := dk_54 4 (dk_at dksX1_change_1 1 rfl rfl)
theorem dX1_change_27 : decode cX1_change 27 = .ok (.iload 4, 2) := dk_21 4 (dk_at dksX1_change_1 3 rfl rfl)
theorem dX1_change_29 : decode cX1_change 29 = .ok (.aload_n 0, 1) := dk_42 (dk_at dksX1_change_1 5 rfl rfl)
theorem dX1_change_30 : decode cX1_change 30 = .ok (.getfield 141, 3) := dk_180 0 141 (dk_at dksX1_change_1 6 rfl rfl)
theorem dX1_change_33 : decode cX1_change 33 = .ok (.getfield 205, 3) := dk_180 0 205 (dk_at dksX1_change_1 9 rfl rfl)
theorem dX1_change_36 : decode cX1_change 36 = .ok (.getfield 208, 3) := dk_180 0 208 (dk_at dksX1_change_1 12 rfl rfl)
theorem dX1_change_39 : decode cX1_change 39 = .ok (.if_icmp .ge 58, 3) := dk_162 0 58 (dk_at dksX1_change_1 15 rfl rfl)
theorem dX1_change_42 : decode cX1_change 42 = .ok (.aload_n 0, 1) := dk_42 (dk_at dksX1_change_1 18 rfl rfl)
theorem dX1_change_43 : decode cX1_change 43 = .ok (.getfield 148, 3) := dk_180 0 148 (dk_at dksX1_change_1 19 rfl rfl)
theorem dX1_change_46 : decode cX1_change 46 = .ok (.aload_n 0, 1) := dk_42 (dk_at dksX1_change_1 22 rfl rfl)
theorem dX1_change_47 : decode cX1_change 47 = .ok (.getfield 141, 3) := dk_180 0 141 (dk_at dksX1_change_2 0 rfl rfl)
theorem dX1_change_50 : decode cX1_change 50 = .ok (.invokevirtual 387, 3) := dk_182 1 131 (dk_at dksX1_change_2 3 rfl rfl)
theorem dX1_change_53 : decode cX1_change 53 = .ok (.aload_n 0, 1) := dk_42 (dk_at dksX1_change_2 6 rfl rfl)
theorem dX1_change_54 : decode cX1_change 54 = .ok (.getfield 148, 3) := dk_180 0 148 (dk_at dksX1_change_2 7 rfl rfl)
theorem dX1_change_57 : decode cX1_change 57 = .ok (.getfield 205, 3) := dk_180 0 205 (dk_at dksX1_change_2 10 rfl rfl)
theorem dX1_change_60 : decode cX1_change 60 = .ok (.getfield 292, 3) := dk_180 1 36 (dk_at dksX1_change_2 13 rfl rfl)
theorem dX1_change_63 : decode cX1_change 63 = .ok (.iload 4, 2) := dk_21 4 (dk_at dksX1_change_2 16 rfl rfl)
theorem dX1_change_65 : decode cX1_change 65 = .ok (.iconst 0, 1) := dk_3 (dk_at dksX1_change_2 18 rfl rfl)
theorem dX1_change_66 : decode cX1_change 66 = .ok (.iastore, 1) := dk_79 (dk_at dksX1_change_2 19 rfl rfl)
theorem dX1_change_67 : decode cX1_change 67 = .ok (.aload_n 0, 1) := dk_42 (dk_at dksX1_change_2 20 rfl rfl)
theorem dX1_change_68 : decode cX1_change 68 = .ok (.getfield 148, 3) := dk_180 0 148 (dk_at dksX1_change_2 21 rfl rfl)
theorem dX1_change_71 : decode cX1_change 71 = .ok (.invokevirtual 224, 3) := dk_182 0 224 (dk_at dksX1_change_3 0 rfl rfl)
theorem dX1_change_74 : decode cX1_change 74 = .ok (.istore 5, 2) := dk_54 5 (dk_at dksX1_change_3 3 rfl rfl)
theorem dX1_change_76 : decode cX1_change 76 = .ok (.iload 5, 2) := dk_21 5 (dk_at dksX1_change_3 5 rfl rfl)
theorem dX1_change_78 : decode cX1_change 78 = .ok (.iload_n 3, 1) := dk_29 (dk_at dksX1_change_3 7 rfl rfl)
theorem dX1_change_79 : decode cX1_change 79 = .ok (.if_icmp .lt 6, 3) := dk_161 0 6 (dk_at dksX1_change_3 8 rfl rfl)
theorem dX1_change_82 : decode cX1_change 82 = .ok (.goto 9, 3) := dk_167 0 9 (dk_at dksX1_change_3 11 rfl rfl)
theorem dX1_change_85 : decode cX1_change 85 = .ok (.iload 4, 2) := dk_21 4 (dk_at dksX1_change_3 14 rfl rfl)
theorem dX1_change_87 : decode cX1_change 87 = .ok (.istore_n 2, 1) := dk_61 (dk_at dksX1_change_3 16 rfl rfl)
theorem dX1_change_88 : decode cX1_change 88 = .ok (.iload 5, 2) := dk_21 5 (dk_at dksX1_change_3 17 rfl rfl)
theorem dX1_change_90 : decode cX1_change 90 = .ok (.istore_n 3, 1) := dk_62 (dk_at dksX1_change_3 19 rfl rfl)
theorem dX1_change_91 : decode cX1_change 91 = .ok (.iinc 4 1, 3) := dk_132 4 1 (dk_at dksX1_change_3 20 rfl rfl)
theorem dX1_change_94 : decode cX1_change 94 = .ok (.goto (-67), 3) := dk_167 255 189 (dk_at dksX1_change_4 0 rfl rfl)
theorem dX1_change_97 : decode cX1_change 97 = .ok (.iload_n 1, 1) := dk_27 (dk_at dksX1_change_4 3 rfl rfl)
theorem dX1_change_98 : decode cX1_change 98 = .ok (.ifCond .ne 7, 3) := dk_154 0 7 (dk_at dksX1_change_4 4 rfl rfl)
theorem dX1_change_101 : decode cX1_change 101 = .ok (.iload_n 2, 1) := dk_28 (dk_at dksX1_change_4 7 rfl rfl)
theorem dX1_change_102 : decode cX1_change 102 = .ok (.goto 4, 3) := dk_167 0 4 (dk_at dksX1_change_4 8 rfl rfl)
theorem dX1_change_105 : decode cX1_change 105 = .ok (.iload_n 3, 1) := dk_29 (dk_at dksX1_change_4 11 rfl rfl)
theorem dX1_change_106 : decode cX1_change 106 = .ok (.ireturn, 1) := dk_172 (dk_at dksX1_change_4 12 rfl rfl)
def dkwX1_spell_2 : List UInt8 := [45, 28, 185, 1, 179, 2, 0, 167, 0, 4, 2, 172]
abbrev dktX1_spell_2 : List UInt8 := dkwX1_spell_2 ++ []
def dkwX1_spell_1 : List UInt8 := [185, 1, 178, 1, 0, 172, 28, 133, 9, 45, 185, 1, 178, 1, 0, 4, 100, 133, 184, 0, 162, 153, 0, 13]
abbrev dktX1_spell_1 : List UInt8 := dkwX1_spell_1 ++ dktX1_spell_2
def dkwX1_spell_0 : List UInt8 := [42, 27, 182, 1, 89, 154, 0, 5, 2, 172, 42, 27, 182, 1, 174, 78, 28, 2, 160, 0, 10, 45]
abbrev dktX1_spell_0 : List UInt8 := dkwX1_spell_0 ++ dktX1_spell_1
theorem dksX1_spell_0 : cX1_spell.data.toList.drop 0 = dktX1_spell_0 := by decide +kernel
theorem dksX1_spell_1 : cX1_spell.data.toList.drop 22 = dktX1_spell_1 := dk_seg dksX1_spell_0 22 rfl rfl
theorem dksX1_spell_2 : cX1_spell.data.toList.drop 46 = dktX1_spell_2 := dk_seg dksX1_spell_1 24 rfl rfl
theorem dX1_spell_0 : decode cX1_spell 0 = .ok (.aload_n 0, 1) := dk_42 (dk_at dksX1_spell_0 0 rfl rfl)
theorem dX1_spell_1 : decode cX1_spell 1 = .ok (.iload_n 1, 1) := dk_27 (dk_at dksX1_spell_0 1 rfl rfl)
theorem dX1_spell_2 : decode cX1_spell 2 = .ok (.invokevirtual 345, 3) := dk_182 1 89 (dk_at dksX1_spell_0 2 rfl rfl)
theorem dX1_spell_5 : decode cX1_spell 5 = .ok (.ifCond .ne 5, 3) := dk_154 0 5 (dk_at dksX1_spell_0 5 rfl rfl)
theorem dX1_spell_8 : decode cX1_spell 8 = .ok (.iconst (-1), 1) := dk_2 (dk_at dksX1_spell_0 8 rfl rfl)
theorem dX1_spell_9 : decode cX1_spell 9 = .ok (.ireturn, 1) := dk_172 (dk_at dksX1_spell_0 9 rfl rfl)
theorem dX1_spell_10 : decode cX1_spell 10 = .ok (.aload_n 0, 1) := dk_42 (dk_at dksX1_spell_0 10 rfl rfl)
theorem dX1_spell_11 : decode cX1_spell 11 = .ok (.iload_n 1, 1) := dk_27 (dk_at dksX1_spell_0 11 rfl rfl)
theorem dX1_spell_12 : decode cX1_spell 12 = .ok (.invokevirtual 430, 3) := dk_182 1 174 (dk_at dksX1_spell_0 12 rfl rfl)
theorem dX1_spell_15 : decode cX1_spell 15 = .ok (.astore_n 3, 1) := dk_78 (dk_at dksX1_spell_0 15 rfl rfl)
theorem dX1_spell_16 : decode cX1_spell 16 = .ok (.iload_n 2, 1) := dk_28 (dk_at dksX1_spell_0 16 rfl rfl)
theorem dX1_spell_17 : decode cX1_spell 17 = .ok (.iconst (-1), 1) := dk_2 (dk_at dksX1_spell_0 17 rfl rfl)
theorem dX1_spell_18 : decode cX1_spell 18 = .ok (.if_icmp .ne 10, 3) := dk_160 0 10 (dk_at dksX1_spell_0 18 rfl rfl)
theorem dX1_spell_21 : decode cX1_spell 21 = .ok (.aload_n 3, 1) := dk_45 (dk_at dksX1_spell_0 21 rfl rfl)
theorem dX1_spell_22 : decode cX1_spell 22 = .ok (.invokeinterface 434 1, 5) := by decide +kernel
theorem dX1_spell_27 : decode cX1_spell 27 = .ok (.ireturn, 1) := dk_172 (dk_at dksX1_spell_1 5 rfl rfl)
theorem dX1_spell_28 : decode cX1_spell 28 = .ok (.iload_n 2, 1) := dk_28 (dk_at dksX1_spell_1 6 rfl rfl)
theorem dX1_spell_29 : decode cX1_spell 29 = .ok (.i2l, 1) := dk_133 (dk_at dksX1_spell_1 7 rfl rfl)
theorem dX1_spell_30 : decode cX1_spell 30 = .ok (.lconst 0, 1) := dk_9 (dk_at dksX1_spell_1 8 rfl rfl)
theorem dX1_spell_31 : decode cX1_spell 31 = .ok (.aload_n 3, 1) := dk_45 (dk_at dksX1_spell_1 9 rfl rfl)
theorem dX1_spell_32 : decode cX1_spell 32 = .ok (.invokeinterface 434 1, 5) := by decide +kernel
theorem dX1_spell_37 : decode cX1_spell 37 = .ok (.iconst 1, 1) := dk_4 (dk_at dksX1_spell_1 15 rfl rfl)
theorem dX1_spell_38 : decode cX1_spell 38 = .ok (.isub, 1) := dk_100 (dk_at dksX1_spell_1 16 rfl rfl)
theorem dX1_spell_39 : decode cX1_spell 39 = .ok (.i2l, 1) := dk_133 (dk_at dksX1_spell_1 17 rfl rfl)
theorem dX1_spell_40 : decode cX1_spell 40 = .ok (.invokestatic 162, 3) := dk_184 0 162 (dk_at dksX1_spell_1 18 rfl rfl)
theorem dX1_spell_43 : decode cX1_spell 43 = .ok (.ifCond .eq 13, 3) := dk_153 0 13 (dk_at dksX1_spell_1 21 rfl rfl)
theorem dX1_spell_46 : decode cX1_spell 46 = .ok (.aload_n 3, 1) := dk_45 (dk_at dksX1_spell_2 0 rfl rfl)
theorem dX1_spell_47 : decode cX1_spell 47 = .ok (.iload_n 2, 1) := dk_28 (dk_at dksX1_spell_2 1 rfl rfl)
theorem dX1_spell_48 : decode cX1_spell 48 = .ok (.invokeinterface 435 2, 5) := by decide +kernel
theorem dX1_spell_53 : decode cX1_spell 53 = .ok (.goto 4, 3) := dk_167 0 4 (dk_at dksX1_spell_2 7 rfl rfl)
theorem dX1_spell_56 : decode cX1_spell 56 = .ok (.iconst (-1), 1) := dk_2 (dk_at dksX1_spell_2 10 rfl rfl)
theorem dX1_spell_57 : decode cX1_spell 57 = .ok (.ireturn, 1) := dk_172 (dk_at dksX1_spell_2 11 rfl rfl)
def dkwX1_spelled_4 : List UInt8 := [182, 1, 168, 182, 1, 173, 176]
abbrev dktX1_spelled_4 : List UInt8 := dkwX1_spelled_4 ++ []
def dkwX1_spelled_3 : List UInt8 := [182, 1, 160, 25, 4, 180, 1, 54, 182, 1, 168, 19, 1, 171, 182, 1, 160, 25, 4, 180, 1, 59]
abbrev dktX1_spelled_3 : List UInt8 := dkwX1_spelled_3 ++ dktX1_spelled_4
def dkwX1_spelled_2 : List UInt8 := [180, 0, 122, 180, 1, 51, 27, 50, 58, 4, 187, 1, 153, 89, 183, 1, 155, 45, 182, 1, 163, 19, 1, 166]
abbrev dktX1_spelled_2 : List UInt8 := dkwX1_spelled_2 ++ dktX1_spelled_3
def dkwX1_spelled_1 : List UInt8 := [16, 63, 182, 1, 156, 87, 167, 0, 17, 45, 42, 180, 0, 158, 180, 1, 109, 28, 50, 182, 1, 160, 87, 42]
abbrev dktX1_spelled_1 : List UInt8 := dkwX1_spelled_1 ++ dktX1_spelled_2
def dkwX1_spelled_0 : List UInt8 := [42, 42, 180, 0, 122, 27, 182, 1, 85, 61, 187, 1, 153, 89, 183, 1, 155, 78, 28, 2, 160, 0, 13, 45]
abbrev dktX1_spelled_0 : List UInt8 := dkwX1_spelled_0 ++ dktX1_spelled_1
theorem dksX1_spelled_0 : cX1_spelled.data.toList.drop 0 = dktX1_spelled_0 := by decide +kernel
theorem dksX1_spelled_1 : cX1_spelled.data.toList.drop 24 = dktX1_spelled_1 := dk_seg dksX1_spelled_0 24 rfl rfl
theorem dksX1_spelled_2 : cX1_spelled.data.toList.drop 48 = dktX1_spelled_2 := dk_seg dksX1_spelled_1 24 rfl rfl
theorem dksX1_spelled_3 : cX1_spelled.data.toList.drop 72 = dktX1_spelled_3 := dk_seg dksX1_spelled_2 24 rfl rfl
theorem dksX1_spelled_4 : cX1_spelled.data.toList.drop 94 = dktX1_spelled_4 := dk_seg dksX1_spelled_3 22 rfl rfl
theorem dX1_spelled_0 : decode cX1_spelled 0 = .ok (.aload_n 0, 1) := dk_42 (dk_at dksX1_spelled_0 0 rfl rfl)
theorem dX1_spelled_1 : decode cX1_spelled 1 = .ok (.aload_n 0, 1) := dk_42 (dk_at dksX1_spelled_0 1 rfl rfl)
theorem dX1_spelled_2 : decode cX1_spelled 2 = .ok (.getfield 122, 3) := dk_180 0 122 (dk_at dksX1_spelled_0 2 rfl rfl)
theorem dX1_spelled_5 : decode cX1_spelled 5 = .ok (.iload_n 1, 1) := dk_27 (dk_at dksX1_spelled_0 5 rfl rfl)
theorem dX1_spelled_6 : decode cX1_spelled 6 = .ok (.invokevirtual 341, 3) := dk_182 1 85 (dk_at dksX1_spelled_0 6 rfl rfl)
theorem dX1_spelled_9 : decode cX1_spelled 9 = .ok (.istore_n 2, 1) := dk_61 (dk_at dksX1_spelled_0 9 rfl rfl)
theorem dX1_spelled_10 : decode cX1_spelled 10 = .ok (.new 409, 3) := dk_187 1 153 (dk_at dksX1_spelled_0 10 rfl rfl)
theorem dX1_spelled_13 : decode cX1_spelled 13 = .ok (.dup, 1) := dk_89 (dk_at dksX1_spelled_0 13 rfl rfl)
theorem dX1_spelled_14 : decode cX1_spelled 14 = .ok (.invokespecial 411, 3) := dk_183 1 155 (dk_at dksX1_spelled_0 14 rfl rfl)
theorem dX1_spelled_17 : decode cX1_spelled 17 = .ok (.astore_n 3, 1) := dk_78 (dk_at dksX1_spelled_0 17 rfl rfl)
theorem dX1_spelled_18 : decode cX1_spelled 18 = .ok (.iload_n 2, 1) := dk_28 (dk_at dksX1_spelled_0 18 rfl rfl)
theorem dX1_spelled_19 : decode cX1_spelled 19 = .ok (.iconst (-1), 1) := dk_2 (dk_at dksX1_spelled_0 19 rfl rfl)
theorem dX1_spelled_20 : decode cX1_spelled 20 = .ok (.if_icmp .ne 13, 3) := dk_160 0 13 (dk_at dksX1_spelled_0 20 rfl rfl)
theorem dX1_spelled_23 : decode cX1_spelled 23 = .ok (.aload_n 3, 1) := dk_45 (dk_at dksX1_spelled_0 23 rfl rfl)
theorem dX1_spelled_24 : decode cX1_spelled 24 = .ok (.bipush 63, 2) := dk_16 63 (dk_at dksX1_spelled_1 0 rfl rfl)
theorem dX1_spelled_26 : decode cX1_spelled 26 = .ok (.invokevirtual 412, 3) := dk_182 1 156 (dk_at dksX1_spelled_1 2 rfl rfl)
theorem dX1_spelled_29 : decode cX1_spelled 29 = .ok (.pop, 1) := dk_87 (dk_at dksX1_spelled_1 5 rfl rfl)
theorem dX1_spelled_30 : decode cX1_spelled 30 = .ok (.goto 17, 3) := dk_167 0 17 (dk_at dksX1_spelled_1 6 rfl rfl)
theorem dX1_spelled_33 : decode cX1_spelled 33 = .ok (.aload_n 3, 1) := dk_45 (dk_at dksX1_spelled_1 9 rfl rfl)
theorem dX1_spelled_34 : decode cX1_spelled 34 = .ok (.aload_n 0, 1) := dk_42 (dk_at dksX1_spelled_1 10 rfl rfl)
theorem dX1_spelled_35 : decode cX1_spelled 35 = .ok (.getfield 158, 3) := dk_180 0 158 (dk_at dksX1_spelled_1 11 rfl rfl)
theorem dX1_spelled_38 : decode cX1_spelled 38 = .ok (.getfield 365, 3) := dk_180 1 109 (dk_at dksX1_spelled_1 14 rfl rfl)
theorem dX1_spelled_41 : decode cX1_spelled 41 = .ok (.iload_n 2, 1) := dk_28 (dk_at dksX1_spelled_1 17 rfl rfl)
theorem dX1_spelled_42 : decode cX1_spelled 42 = .ok (.aaload, 1) := dk_50 (dk_at dksX1_spelled_1 18 rfl rfl)
theorem dX1_spelled_43 : decode cX1_spelled 43 = .ok (.invokevirtual 416, 3) := dk_182 1 160 (dk_at dksX1_spelled_1 19 rfl rfl)
theorem dX1_spelled_46 : decode cX1_spelled 46 = .ok (.pop, 1) := dk_87 (dk_at dksX1_spelled_1 22 rfl rfl)
theorem dX1_spelled_47 : decode cX1_spelled 47 = .ok (.aload_n 0, 1) := dk_42 (dk_at dksX1_spelled_1 23 rfl rfl)
theorem dX1_spelled_48 : decode cX1_spelled 48 = .ok (.getfield 122, 3) := dk_180 0 122 (dk_at dksX1_spelled_2 0 rfl rfl)
theorem dX1_spelled_51 : decode cX1_spelled 51 = .ok (.getfield 307, 3) := dk_180 1 51 (dk_at dksX1_spelled_2 3 rfl rfl)
theorem dX1_spelled_54 : decode cX1_spelled 54 = .ok (.iload_n 1, 1) := dk_27 (dk_at dksX1_spelled_2 6 rfl rfl)
theorem dX1_spelled_55 : decode cX1_spelled 55 = .ok (.aaload, 1) := dk_50 (dk_at dksX1_spelled_2 7 rfl rfl)
theorem dX1_spelled_56 : decode cX1_spelled 56 = .ok (.astore 4, 2) := dk_58 4 (dk_at dksX1_spelled_2 8 rfl rfl)
theorem dX1_spelled_58 : decode cX1_spelled 58 = .ok (.new 409, 3) := dk_187 1 153 (dk_at dksX1_spelled_2 10 rfl rfl)
theorem dX1_spelled_61 : decode cX1_spelled 61 = .ok (.dup, 1) := dk_89 (dk_at dksX1_spelled_2 13 rfl rfl)
theorem dX1_spelled_62 : decode cX1_spelled 62 = .ok (.invokespecial 411, 3) := dk_183 1 155 (dk_at dksX1_spelled_2 14 rfl rfl)
theorem dX1_spelled_65 : decode cX1_spelled 65 = .ok (.aload_n 3, 1) := dk_45 (dk_at dksX1_spelled_2 17 rfl rfl)
theorem dX1_spelled_66 : decode cX1_spelled 66 = .ok (.invokevirtual 419, 3) := dk_182 1 163 (dk_at dksX1_spelled_2 18 rfl rfl)
theorem dX1_spelled_69 : decode cX1_spelled 69 = .ok (.ldc_w 422, 3) := dk_19 1 166 (dk_at dksX1_spelled_2 21 rfl rfl)
theorem dX1_spelled_72 : decode cX1_spelled 72 = .ok (.invokevirtual 416, 3) := dk_182 1 160 (dk_at dksX1_spelled_3 0 rfl rfl)
theorem dX1_spelled_75 : decode cX1_spelled 75 = .ok (.aload 4, 2) := dk_25 4 (dk_at dksX1_spelled_3 3 rfl rfl)
theorem dX1_spelled_77 : decode cX1_spelled 77 = .ok (.getfield 310, 3) := dk_180 1 54 (dk_at dksX1_spelled_3 5 rfl rfl)
theorem dX1_spelled_80 : decode cX1_spelled 80 = .ok (.invokevirtual 424, 3) := dk_182 1 168 (dk_at dksX1_spelled_3 8 rfl rfl)
theorem dX1_spelled_83 : decode cX1_spelled 83 = .ok (.ldc_w 427, 3) := dk_19 1 171 (dk_at dksX1_spelled_3 11 rfl rfl)
theorem dX1_spelled_86 : decode cX1_spelled 86 = .ok (.invokevirtual 416, 3) := dk_182 1 160 (dk_at dksX1_spelled_3 14 rfl rfl)
theorem dX1_spelled_89 : decode cX1_spelled 89 = .ok (.aload 4, 2) := dk_25 4 (dk_at dksX1_spelled_3 17 rfl rfl)
theorem dX1_spelled_91 : decode cX1_spelled 91 = .ok (.getfield 315, 3) := dk_180 1 59 (dk_at dksX1_spelled_3 19 rfl rfl)
theorem dX1_spelled_94 : decode cX1_spelled 94 = .ok (.invokevirtual 424, 3) := dk_182 1 168 (dk_at dksX1_spelled_4 0 rfl rfl)
theorem dX1_spelled_97 : decode cX1_spelled 97 = .ok (.invokevirtual 429, 3) := dk_182 1 173 (dk_at dksX1_spelled_4 3 rfl rfl)
theorem dX1_spelled_100 : decode cX1_spelled 100 = .ok (.areturn, 1) := dk_176 (dk_at dksX1_spelled_4 6 rfl rfl)
def dkwX1_matchOf_0 : List UInt8 := [43, 42, 180, 0, 158, 3, 182, 1, 39, 62, 43, 180, 1, 43, 28, 46, 172]
abbrev dktX1_matchOf_0 : List UInt8 := dkwX1_matchOf_0 ++ []
theorem dksX1_matchOf_0 : cX1_matchOf.data.toList.drop 0 = dktX1_matchOf_0 := by decide +kernel
theorem dX1_matchOf_0 : decode cX1_matchOf 0 = .ok (.aload_n 1, 1) := dk_43 (dk_at dksX1_matchOf_0 0 rfl rfl)
theorem dX1_matchOf_1 : decode cX1_matchOf 1 = .ok (.aload_n 0, 1) := dk_42 (dk_at dksX1_matchOf_0 1 rfl rfl)
theorem dX1_matchOf_2 : decode cX1_matchOf 2 = .ok (.getfield 158, 3) := dk_180 0 158 (dk_at dksX1_matchOf_0 2 rfl rfl)
theorem dX1_matchOf_5 : decode cX1_matchOf 5 = .ok (.iconst 0, 1) := dk_3 (dk_at dksX1_matchOf_0 5 rfl rfl)
theorem dX1_matchOf_6 : decode cX1_matchOf 6 = .ok (.invokevirtual 295, 3) := dk_182 1 39 (dk_at dksX1_matchOf_0 6 rfl rfl)
theorem dX1_matchOf_9 : decode cX1_matchOf 9 = .ok (.istore_n 3, 1) := dk_62 (dk_at dksX1_matchOf_0 9 rfl rfl)
theorem dX1_matchOf_10 : decode cX1_matchOf 10 = .ok (.aload_n 1, 1) := dk_43 (dk_at dksX1_matchOf_0 10 rfl rfl)
theorem dX1_matchOf_11 : decode cX1_matchOf 11 = .ok (.getfield 299, 3) := dk_180 1 43 (dk_at dksX1_matchOf_0 11 rfl rfl)
theorem dX1_matchOf_14 : decode cX1_matchOf 14 = .ok (.iload_n 2, 1) := dk_28 (dk_at dksX1_matchOf_0 14 rfl rfl)
theorem dX1_matchOf_15 : decode cX1_matchOf 15 = .ok (.iaload, 1) := dk_46 (dk_at dksX1_matchOf_0 15 rfl rfl)
theorem dX1_matchOf_16 : decode cX1_matchOf 16 = .ok (.ireturn, 1) := dk_172 (dk_at dksX1_matchOf_0 16 rfl rfl)
def dkwX1_step_3 : List UInt8 := [29, 4, 100, 182, 1, 190, 172]
abbrev dktX1_step_3 : List UInt8 := dkwX1_step_3 ++ []
def dkwX1_step_2 : List UInt8 := [154, 0, 17, 42, 180, 0, 111, 27, 50, 180, 1, 187, 28, 46, 167, 0, 16, 42, 180, 0, 111, 27, 50, 28]
abbrev dktX1_step_2 : List UInt8 := dkwX1_step_2 ++ dktX1_step_3
def dkwX1_step_1 : List UInt8 := [184, 0, 162, 153, 0, 15, 29, 133, 9, 20, 0, 243, 184, 0, 162, 154, 0, 6, 18, 245, 172, 29]
abbrev dktX1_step_1 : List UInt8 := dkwX1_step_1 ++ dktX1_step_2
def dkwX1_step_0 : List UInt8 := [42, 27, 182, 1, 183, 153, 0, 36, 28, 133, 9, 42, 180, 0, 111, 27, 50, 180, 1, 186, 4, 100, 133]
abbrev dktX1_step_0 : List UInt8 := dkwX1_step_0 ++ dktX1_step_1
theorem dksX1_step_0 : cX1_step.data.toList.drop 0 = dktX1_step_0 := by decide +kernel
theorem dksX1_step_1 : cX1_step.data.toList.drop 23 = dktX1_step_1 := dk_seg dksX1_step_0 23 rfl rfl
theorem dksX1_step_2 : cX1_step.data.toList.drop 45 = dktX1_step_2 := dk_seg dksX1_step_1 22 rfl rfl
theorem dksX1_step_3 : cX1_step.data.toList.drop 69 = dktX1_step_3 := dk_seg dksX1_step_2 24 rfl rfl
theorem dX1_step_0 : decode cX1_step 0 = .ok (.aload_n 0, 1) := dk_42 (dk_at dksX1_step_0 0 rfl rfl)
theorem dX1_step_1 : decode cX1_step 1 = .ok (.iload_n 1, 1) := dk_27 (dk_at dksX1_step_0 1 rfl rfl)
theorem dX1_step_2 : decode cX1_step 2 = .ok (.invokevirtual 439, 3) := dk_182 1 183 (dk_at dksX1_step_0 2 rfl rfl)
theorem dX1_step_5 : decode cX1_step 5 = .ok (.ifCond .eq 36, 3) := dk_153 0 36 (dk_at dksX1_step_0 5 rfl rfl)
theorem dX1_step_8 : decode cX1_step 8 = .ok (.iload_n 2, 1) := dk_28 (dk_at dksX1_step_0 8 rfl rfl)
theorem dX1_step_9 : decode cX1_step 9 = .ok (.i2l, 1) := dk_133 (dk_at dksX1_step_0 9 rfl rfl)
theorem dX1_step_10 : decode cX1_step 10 = .ok (.lconst 0, 1) := dk_9 (dk_at dksX1_step_0 10 rfl rfl)
theorem dX1_step_11 : decode cX1_step 11 = .ok (.aload_n 0, 1) := dk_42 (dk_at dksX1_step_0 11 rfl rfl)
theorem dX1_step_12 : decode cX1_step 12 = .ok (.getfield 111, 3) := dk_180 0 111 (dk_at dksX1_step_0 12 rfl rfl)
theorem dX1_step_15 : decode cX1_step 15 = .ok (.iload_n 1, 1) := dk_27 (dk_at dksX1_step_0 15 rfl rfl)
theorem dX1_step_16 : decode cX1_step 16 = .ok (.aaload, 1) := dk_50 (dk_at dksX1_step_0 16 rfl rfl)
theorem dX1_step_17 : decode cX1_step 17 = .ok (.getfield 442, 3) := dk_180 1 186 (dk_at dksX1_step_0 17 rfl rfl)
theorem dX1_step_20 : decode cX1_step 20 = .ok (.iconst 1, 1) := dk_4 (dk_at dksX1_step_0 20 rfl rfl)
theorem dX1_step_21 : decode cX1_step 21 = .ok (.isub, 1) := dk_100 (dk_at dksX1_step_0 21 rfl rfl)
theorem dX1_step_22 : decode cX1_step 22 = .ok (.i2l, 1) := dk_133 (dk_at dksX1_step_0 22 rfl rfl)
theorem dX1_step_23 : decode cX1_step 23 = .ok (.invokestatic 162, 3) := dk_184 0 162 (dk_at dksX1_step_1 0 rfl rfl)
theorem dX1_step_26 : decode cX1_step 26 = .ok (.ifCond .eq 15, 3) := dk_153 0 15 (dk_at dksX1_step_1 3 rfl rfl)
theorem dX1_step_29 : decode cX1_step 29 = .ok (.iload_n 3, 1) := dk_29 (dk_at dksX1_step_1 6 rfl rfl)
theorem dX1_step_30 : decode cX1_step 30 = .ok (.i2l, 1) := dk_133 (dk_at dksX1_step_1 7 rfl rfl)
theorem dX1_step_31 : decode cX1_step 31 = .ok (.lconst 0, 1) := dk_9 (dk_at dksX1_step_1 8 rfl rfl)
theorem dX1_step_32 : decode cX1_step 32 = .ok (.ldc2_w 243, 3) := dk_20 0 243 (dk_at dksX1_step_1 9 rfl rfl)
theorem dX1_step_35 : decode cX1_step 35 = .ok (.invokestatic 162, 3) := dk_184 0 162 (dk_at dksX1_step_1 12 rfl rfl)
theorem dX1_step_38 : decode cX1_step 38 = .ok (.ifCond .ne 6, 3) := dk_154 0 6 (dk_at dksX1_step_1 15 rfl rfl)
theorem dX1_step_41 : decode cX1_step 41 = .ok (.ldc 245, 2) := dk_18 245 (dk_at dksX1_step_1 18 rfl rfl)
theorem dX1_step_43 : decode cX1_step 43 = .ok (.ireturn, 1) := dk_172 (dk_at dksX1_step_1 20 rfl rfl)
theorem dX1_step_44 : decode cX1_step 44 = .ok (.iload_n 3, 1) := dk_29 (dk_at dksX1_step_1 21 rfl rfl)
theorem dX1_step_45 : decode cX1_step 45 = .ok (.ifCond .ne 17, 3) := dk_154 0 17 (dk_at dksX1_step_2 0 rfl rfl)
theorem dX1_step_48 : decode cX1_step 48 = .ok (.aload_n 0, 1) := dk_42 (dk_at dksX1_step_2 3 rfl rfl)
theorem dX1_step_49 : decode cX1_step 49 = .ok (.getfield 111, 3) := dk_180 0 111 (dk_at dksX1_step_2 4 rfl rfl)
theorem dX1_step_52 : decode cX1_step 52 = .ok (.iload_n 1, 1) := dk_27 (dk_at dksX1_step_2 7 rfl rfl)
theorem dX1_step_53 : decode cX1_step 53 = .ok (.aaload, 1) := dk_50 (dk_at dksX1_step_2 8 rfl rfl)
theorem dX1_step_54 : decode cX1_step 54 = .ok (.getfield 443, 3) := dk_180 1 187 (dk_at dksX1_step_2 9 rfl rfl)
theorem dX1_step_57 : decode cX1_step 57 = .ok (.iload_n 2, 1) := dk_28 (dk_at dksX1_step_2 12 rfl rfl)
theorem dX1_step_58 : decode cX1_step 58 = .ok (.iaload, 1) := dk_46 (dk_at dksX1_step_2 13 rfl rfl)
theorem dX1_step_59 : decode cX1_step 59 = .ok (.goto 16, 3) := dk_167 0 16 (dk_at dksX1_step_2 14 rfl rfl)
theorem dX1_step_62 : decode cX1_step 62 = .ok (.aload_n 0, 1) := dk_42 (dk_at dksX1_step_2 17 rfl rfl)
theorem dX1_step_63 : decode cX1_step 63 = .ok (.getfield 111, 3) := dk_180 0 111 (dk_at dksX1_step_2 18 rfl rfl)
theorem dX1_step_66 : decode cX1_step 66 = .ok (.iload_n 1, 1) := dk_27 (dk_at dksX1_step_2 21 rfl rfl)
theorem dX1_step_67 : decode cX1_step 67 = .ok (.aaload, 1) := dk_50 (dk_at dksX1_step_2 22 rfl rfl)
theorem dX1_step_68 : decode cX1_step 68 = .ok (.iload_n 2, 1) := dk_28 (dk_at dksX1_step_2 23 rfl rfl)
theorem dX1_step_69 : decode cX1_step 69 = .ok (.iload_n 3, 1) := dk_29 (dk_at dksX1_step_3 0 rfl rfl)
theorem dX1_step_70 : decode cX1_step 70 = .ok (.iconst 1, 1) := dk_4 (dk_at dksX1_step_3 1 rfl rfl)
theorem dX1_step_71 : decode cX1_step 71 = .ok (.isub, 1) := dk_100 (dk_at dksX1_step_3 2 rfl rfl)
theorem dX1_step_72 : decode cX1_step 72 = .ok (.invokevirtual 446, 3) := dk_182 1 190 (dk_at dksX1_step_3 3 rfl rfl)
theorem dX1_step_75 : decode cX1_step 75 = .ok (.ireturn, 1) := dk_172 (dk_at dksX1_step_3 6 rfl rfl)
def dkwX1_isScript_0 : List UInt8 := [27, 133, 9, 42, 180, 0, 188, 4, 100, 133, 184, 0, 162, 172]
abbrev dktX1_isScript_0 : List UInt8 := dkwX1_isScript_0 ++ []
theorem dksX1_isScript_0 : cX1_isScript.data.toList.drop 0 = dktX1_isScript_0 := by decide +kernel
theorem dX1_isScript_0 : decode cX1_isScript 0 = .ok (.iload_n 1, 1) := dk_27 (dk_at dksX1_isScript_0 0 rfl rfl)
theorem dX1_isScript_1 : decode cX1_isScript 1 = .ok (.i2l, 1) := dk_133 (dk_at dksX1_isScript_0 1 rfl rfl)
theorem dX1_isScript_2 : decode cX1_isScript 2 = .ok (.lconst 0, 1) := dk_9 (dk_at dksX1_isScript_0 2 rfl rfl)
theorem dX1_isScript_3 : decode cX1_isScript 3 = .ok (.aload_n 0, 1) := dk_42 (dk_at dksX1_isScript_0 3 rfl rfl)
theorem dX1_isScript_4 : decode cX1_isScript 4 = .ok (.getfield 188, 3) := dk_180 0 188 (dk_at dksX1_isScript_0 4 rfl rfl)
theorem dX1_isScript_7 : decode cX1_isScript 7 = .ok (.iconst 1, 1) := dk_4 (dk_at dksX1_isScript_0 7 rfl rfl)
theorem dX1_isScript_8 : decode cX1_isScript 8 = .ok (.isub, 1) := dk_100 (dk_at dksX1_isScript_0 8 rfl rfl)
theorem dX1_isScript_9 : decode cX1_isScript 9 = .ok (.i2l, 1) := dk_133 (dk_at dksX1_isScript_0 9 rfl rfl)
theorem dX1_isScript_10 : decode cX1_isScript 10 = .ok (.invokestatic 162, 3) := dk_184 0 162 (dk_at dksX1_isScript_0 10 rfl rfl)
theorem dX1_isScript_13 : decode cX1_isScript 13 = .ok (.ireturn, 1) := dk_172 (dk_at dksX1_isScript_0 13 rfl rfl)
def dkwX1_run_5 : List UInt8 := [160, 0, 7, 2, 167, 0, 5, 21, 4, 172]
abbrev dktX1_run_5 : List UInt8 := dkwX1_run_5 ++ []
def dkwX1_run_4 : List UInt8 := [167, 255, 212, 28, 4, 160, 0, 13, 42, 180, 0, 148, 182, 0, 224, 167, 0, 18, 21, 4, 45, 180, 1, 186]
abbrev dktX1_run_4 : List UInt8 := dkwX1_run_4 ++ dktX1_run_5
def dkwX1_run_3 : List UInt8 := [21, 4, 3, 182, 1, 190, 45, 21, 4, 4, 182, 1, 190, 182, 0, 215, 2, 160, 0, 9, 132, 4, 1]
abbrev dktX1_run_3 : List UInt8 := dkwX1_run_3 ++ dktX1_run_4
def dkwX1_run_2 : List UInt8 := [3, 54, 4, 21, 4, 45, 180, 1, 186, 162, 0, 41, 42, 180, 0, 148, 45, 180, 1, 187, 21, 4, 46, 45]
abbrev dktX1_run_2 : List UInt8 := dkwX1_run_2 ++ dktX1_run_3
def dkwX1_run_1 : List UInt8 := [154, 0, 6, 18, 245, 172, 42, 180, 0, 111, 27, 50, 78, 42, 180, 0, 148, 42, 180, 0, 141, 182, 1, 131]
abbrev dktX1_run_1 : List UInt8 := dkwX1_run_1 ++ dktX1_run_2
def dkwX1_run_0 : List UInt8 := [42, 27, 182, 1, 183, 153, 0, 20, 42, 180, 0, 158, 198, 0, 13, 28, 133, 9, 10, 184, 0, 162]
abbrev dktX1_run_0 : List UInt8 := dkwX1_run_0 ++ dktX1_run_1
theorem dksX1_run_0 : cX1_run.data.toList.drop 0 = dktX1_run_0 := by decide +kernel
theorem dksX1_run_1 : cX1_run.data.toList.drop 22 = dktX1_run_1 := dk_seg dksX1_run_0 22 rfl rfl
theorem dksX1_run_2 : cX1_run.data.toList.drop 46 = dktX1_run_2 := dk_seg dksX1_run_1 24 rfl rfl
theorem dksX1_run_3 : cX1_run.data.toList.drop 70 = dktX1_run_3 := dk_seg dksX1_run_2 24 rfl rfl
theorem dksX1_run_4 : cX1_run.data.toList.drop 93 = dktX1_run_4 := dk_seg dksX1_run_3 23 rfl rfl
theorem dksX1_run_5 : cX1_run.data.toList.drop 117 = dktX1_run_5 := dk_seg dksX1_run_4 24 rfl rfl
theorem dX1_run_0 : decode cX1_run 0 = .ok (.aload_n 0, 1) := dk_42 (dk_at dksX1_run_0 0 rfl rfl)
theorem dX1_run_1 : decode cX1_run 1 = .ok (.iload_n 1, 1) := dk_27 (dk_at dksX1_run_0 1 rfl rfl)
theorem dX1_run_2 : decode cX1_run 2 = .ok (.invokevirtual 439, 3) := dk_182 1 183 (dk_at dksX1_run_0 2 rfl rfl)
theorem dX1_run_5 : decode cX1_run 5 = .ok (.ifCond .eq 20, 3) := dk_153 0 20 (dk_at dksX1_run_0 5 rfl rfl)
theorem dX1_run_8 : decode cX1_run 8 = .ok (.aload_n 0, 1) := dk_42 (dk_at dksX1_run_0 8 rfl rfl)
theorem dX1_run_9 : decode cX1_run 9 = .ok (.getfield 158, 3) := dk_180 0 158 (dk_at dksX1_run_0 9 rfl rfl)
theorem dX1_run_12 : decode cX1_run 12 = .ok (.ifnull 13, 3) := dk_198 0 13 (dk_at dksX1_run_0 12 rfl rfl)
theorem dX1_run_15 : decode cX1_run 15 = .ok (.iload_n 2, 1) := dk_28 (dk_at dksX1_run_0 15 rfl rfl)
theorem dX1_run_16 : decode cX1_run 16 = .ok (.i2l, 1) := dk_133 (dk_at dksX1_run_0 16 rfl rfl)
theorem dX1_run_17 : decode cX1_run 17 = .ok (.lconst 0, 1) := dk_9 (dk_at dksX1_run_0 17 rfl rfl)
theorem dX1_run_18 : decode cX1_run 18 = .ok (.lconst 1, 1) := dk_10 (dk_at dksX1_run_0 18 rfl rfl)
theorem dX1_run_19 : decode cX1_run 19 = .ok (.invokestatic 162, 3) := dk_184 0 162 (dk_at dksX1_run_0 19 rfl rfl)
theorem dX1_run_22 : decode cX1_run 22 = .ok (.ifCond .ne 6, 3) := dk_154 0 6 (dk_at dksX1_run_1 0 rfl rfl)
theorem dX1_run_25 : decode cX1_run 25 = .ok (.ldc 245, 2) := dk_18 245 (dk_at dksX1_run_1 3 rfl rfl)
theorem dX1_run_27 : decode cX1_run 27 = .ok (.ireturn, 1) := dk_172 (dk_at dksX1_run_1 5 rfl rfl)
theorem dX1_run_28 : decode cX1_run 28 = .ok (.aload_n 0, 1) := dk_42 (dk_at dksX1_run_1 6 rfl rfl)
theorem dX1_run_29 : decode cX1_run 29 = .ok (.getfield 111, 3) := dk_180 0 111 (dk_at dksX1_run_1 7 rfl rfl)
theorem dX1_run_32 : decode cX1_run 32 = .ok (.iload_n 1, 1) := dk_27 (dk_at dksX1_run_1 10 rfl rfl)
theorem dX1_run_33 : decode cX1_run 33 = .ok (.aaload, 1) := dk_50 (dk_at dksX1_run_1 11 rfl rfl)
theorem dX1_run_34 : decode cX1_run 34 = .ok (.astore_n 3, 1) := dk_78 (dk_at dksX1_run_1 12 rfl rfl)
theorem dX1_run_35 : decode cX1_run 35 = .ok (.aload_n 0, 1) := dk_42 (dk_at dksX1_run_1 13 rfl rfl)
theorem dX1_run_36 : decode cX1_run 36 = .ok (.getfield 148, 3) := dk_180 0 148 (dk_at dksX1_run_1 14 rfl rfl)
theorem dX1_run_39 : decode cX1_run 39 = .ok (.aload_n 0, 1) := dk_42 (dk_at dksX1_run_1 17 rfl rfl)
theorem dX1_run_40 : decode cX1_run 40 = .ok (.getfield 141, 3) := dk_180 0 141 (dk_at dksX1_run_1 18 rfl rfl)
theorem dX1_run_43 : decode cX1_run 43 = .ok (.invokevirtual 387, 3) := dk_182 1 131 (dk_at dksX1_run_1 21 rfl rfl)
theorem dX1_run_46 : decode cX1_run 46 = .ok (.iconst 0, 1) := dk_3 (dk_at dksX1_run_2 0 rfl rfl)
theorem dX1_run_47 : decode cX1_run 47 = .ok (.istore 4, 2) := dk_54 4 (dk_at dksX1_run_2 1 rfl rfl)
theorem dX1_run_49 : decode cX1_run 49 = .ok (.iload 4, 2) := dk_21 4 (dk_at dksX1_run_2 3 rfl rfl)
theorem dX1_run_51 : decode cX1_run 51 = .ok (.aload_n 3, 1) := dk_45 (dk_at dksX1_run_2 5 rfl rfl)
theorem dX1_run_52 : decode cX1_run 52 = .ok (.getfield 442, 3) := dk_180 1 186 (dk_at dksX1_run_2 6 rfl rfl)
theorem dX1_run_55 : decode cX1_run 55 = .ok (.if_icmp .ge 41, 3) := dk_162 0 41 (dk_at dksX1_run_2 9 rfl rfl)
theorem dX1_run_58 : decode cX1_run 58 = .ok (.aload_n 0, 1) := dk_42 (dk_at dksX1_run_2 12 rfl rfl)
theorem dX1_run_59 : decode cX1_run 59 = .ok (.getfield 148, 3) := dk_180 0 148 (dk_at dksX1_run_2 13 rfl rfl)
theorem dX1_run_62 : decode cX1_run 62 = .ok (.aload_n 3, 1) := dk_45 (dk_at dksX1_run_2 16 rfl rfl)
theorem dX1_run_63 : decode cX1_run 63 = .ok (.getfield 443, 3) := dk_180 1 187 (dk_at dksX1_run_2 17 rfl rfl)
theorem dX1_run_66 : decode cX1_run 66 = .ok (.iload 4, 2) := dk_21 4 (dk_at dksX1_run_2 20 rfl rfl)
theorem dX1_run_68 : decode cX1_run 68 = .ok (.iaload, 1) := dk_46 (dk_at dksX1_run_2 22 rfl rfl)
theorem dX1_run_69 : decode cX1_run 69 = .ok (.aload_n 3, 1) := dk_45 (dk_at dksX1_run_2 23 rfl rfl)
theorem dX1_run_70 : decode cX1_run 70 = .ok (.iload 4, 2) := dk_21 4 (dk_at dksX1_run_3 0 rfl rfl)
theorem dX1_run_72 : decode cX1_run 72 = .ok (.iconst 0, 1) := dk_3 (dk_at dksX1_run_3 2 rfl rfl)
theorem dX1_run_73 : decode cX1_run 73 = .ok (.invokevirtual 446, 3) := dk_182 1 190 (dk_at dksX1_run_3 3 rfl rfl)
theorem dX1_run_76 : decode cX1_run 76 = .ok (.aload_n 3, 1) := dk_45 (dk_at dksX1_run_3 6 rfl rfl)
theorem dX1_run_77 : decode cX1_run 77 = .ok (.iload 4, 2) := dk_21 4 (dk_at dksX1_run_3 7 rfl rfl)
theorem dX1_run_79 : decode cX1_run 79 = .ok (.iconst 1, 1) := dk_4 (dk_at dksX1_run_3 9 rfl rfl)
theorem dX1_run_80 : decode cX1_run 80 = .ok (.invokevirtual 446, 3) := dk_182 1 190 (dk_at dksX1_run_3 10 rfl rfl)
theorem dX1_run_83 : decode cX1_run 83 = .ok (.invokevirtual 215, 3) := dk_182 0 215 (dk_at dksX1_run_3 13 rfl rfl)
theorem dX1_run_86 : decode cX1_run 86 = .ok (.iconst (-1), 1) := dk_2 (dk_at dksX1_run_3 16 rfl rfl)
theorem dX1_run_87 : decode cX1_run 87 = .ok (.if_icmp .ne 9, 3) := dk_160 0 9 (dk_at dksX1_run_3 17 rfl rfl)
theorem dX1_run_90 : decode cX1_run 90 = .ok (.iinc 4 1, 3) := dk_132 4 1 (dk_at dksX1_run_3 20 rfl rfl)
theorem dX1_run_93 : decode cX1_run 93 = .ok (.goto (-44), 3) := dk_167 255 212 (dk_at dksX1_run_4 0 rfl rfl)
theorem dX1_run_96 : decode cX1_run 96 = .ok (.iload_n 2, 1) := dk_28 (dk_at dksX1_run_4 3 rfl rfl)
theorem dX1_run_97 : decode cX1_run 97 = .ok (.iconst 1, 1) := dk_4 (dk_at dksX1_run_4 4 rfl rfl)
theorem dX1_run_98 : decode cX1_run 98 = .ok (.if_icmp .ne 13, 3) := dk_160 0 13 (dk_at dksX1_run_4 5 rfl rfl)
theorem dX1_run_101 : decode cX1_run 101 = .ok (.aload_n 0, 1) := dk_42 (dk_at dksX1_run_4 8 rfl rfl)
theorem dX1_run_102 : decode cX1_run 102 = .ok (.getfield 148, 3) := dk_180 0 148 (dk_at dksX1_run_4 9 rfl rfl)
theorem dX1_run_105 : decode cX1_run 105 = .ok (.invokevirtual 224, 3) := dk_182 0 224 (dk_at dksX1_run_4 12 rfl rfl)
theorem dX1_run_108 : decode cX1_run 108 = .ok (.goto 18, 3) := dk_167 0 18 (dk_at dksX1_run_4 15 rfl rfl)
theorem dX1_run_111 : decode cX1_run 111 = .ok (.iload 4, 2) := dk_21 4 (dk_at dksX1_run_4 18 rfl rfl)
theorem dX1_run_113 : decode cX1_run 113 = .ok (.aload_n 3, 1) := dk_45 (dk_at dksX1_run_4 20 rfl rfl)
theorem dX1_run_114 : decode cX1_run 114 = .ok (.getfield 442, 3) := dk_180 1 186 (dk_at dksX1_run_4 21 rfl rfl)
theorem dX1_run_117 : decode cX1_run 117 = .ok (.if_icmp .ne 7, 3) := dk_160 0 7 (dk_at dksX1_run_5 0 rfl rfl)
theorem dX1_run_120 : decode cX1_run 120 = .ok (.iconst (-1), 1) := dk_2 (dk_at dksX1_run_5 3 rfl rfl)
theorem dX1_run_121 : decode cX1_run 121 = .ok (.goto 5, 3) := dk_167 0 5 (dk_at dksX1_run_5 4 rfl rfl)
theorem dX1_run_124 : decode cX1_run 124 = .ok (.iload 4, 2) := dk_21 4 (dk_at dksX1_run_5 7 rfl rfl)
theorem dX1_run_126 : decode cX1_run 126 = .ok (.ireturn, 1) := dk_172 (dk_at dksX1_run_5 9 rfl rfl)
def dkwX1_perform_2 : List UInt8 := [29, 4, 182, 1, 190, 182, 0, 231, 2, 160, 0, 9, 132, 3, 1, 167, 255, 219, 29, 172]
abbrev dktX1_perform_2 : List UInt8 := dkwX1_perform_2 ++ []
def dkwX1_perform_1 : List UInt8 := [3, 62, 29, 44, 180, 1, 186, 162, 0, 35, 42, 44, 180, 1, 187, 29, 46, 44, 29, 3, 182, 1, 190, 44]
abbrev dktX1_perform_1 : List UInt8 := dkwX1_perform_1 ++ dktX1_perform_2
def dkwX1_perform_0 : List UInt8 := [42, 27, 182, 1, 183, 153, 0, 10, 42, 180, 0, 158, 199, 0, 5, 2, 172, 42, 180, 0, 111, 27, 50, 77]
abbrev dktX1_perform_0 : List UInt8 := dkwX1_perform_0 ++ dktX1_perform_1
theorem dksX1_perform_0 : cX1_perform.data.toList.drop 0 = dktX1_perform_0 := by decide +kernel
theorem dksX1_perform_1 : cX1_perform.data.toList.drop 24 = dktX1_perform_1 := dk_seg dksX1_perform_0 24 rfl rfl
theorem dksX1_perform_2 : cX1_perform.data.toList.drop 48 = dktX1_perform_2 := dk_seg dksX1_perform_1 24 rfl rfl
theorem dX1_perform_0 : decode cX1_perform 0 = .ok (.aload_n 0, 1) := dk_42 (dk_at dksX1_perform_0 0 rfl rfl)
theorem dX1_perform_1 : decode cX1_perform 1 = .ok (.iload_n 1, 1) := dk_27 (dk_at dksX1_perform_0 1 rfl rfl)
theorem dX1_perform_2 : decode cX1_perform 2 = .ok (.invokevirtual 439, 3) := dk_182 1 183 (dk_at dksX1_perform_0 2 rfl rfl)
theorem dX1_perform_5 : decode cX1_perform 5 = .ok (.ifCond .eq 10, 3) := dk_153 0 10 (dk_at dksX1_perform_0 5 rfl rfl)
theorem dX1_perform_8 : decode cX1_perform 8 = .ok (.aload_n 0, 1) := dk_42 (dk_at dksX1_perform_0 8 rfl rfl)
theorem dX1_perform_9 : decode cX1_perform 9 = .ok (.getfield 158, 3) := dk_180 0 158 (dk_at dksX1_perform_0 9 rfl rfl)
theorem dX1_perform_12 : decode cX1_perform 12 = .ok (.ifnonnull 5, 3) := dk_199 0 5 (dk_at dksX1_perform_0 12 rfl rfl)
theorem dX1_perform_15 : decode cX1_perform 15 = .ok (.iconst (-1), 1) := dk_2 (dk_at dksX1_perform_0 15 rfl rfl)
theorem dX1_perform_16 : decode cX1_perform 16 = .ok (.ireturn, 1) := dk_172 (dk_at dksX1_perform_0 16 rfl rfl)
theorem dX1_perform_17 : decode cX1_perform 17 = .ok (.aload_n 0, 1) := dk_42 (dk_at dksX1_perform_0 17 rfl rfl)
theorem dX1_perform_18 : decode cX1_perform 18 = .ok (.getfield 111, 3) := dk_180 0 111 (dk_at dksX1_perform_0 18 rfl rfl)
theorem dX1_perform_21 : decode cX1_perform 21 = .ok (.iload_n 1, 1) := dk_27 (dk_at dksX1_perform_0 21 rfl rfl)
theorem dX1_perform_22 : decode cX1_perform 22 = .ok (.aaload, 1) := dk_50 (dk_at dksX1_perform_0 22 rfl rfl)
theorem dX1_perform_23 : decode cX1_perform 23 = .ok (.astore_n 2, 1) := dk_77 (dk_at dksX1_perform_0 23 rfl rfl)
theorem dX1_perform_24 : decode cX1_perform 24 = .ok (.iconst 0, 1) := dk_3 (dk_at dksX1_perform_1 0 rfl rfl)
theorem dX1_perform_25 : decode cX1_perform 25 = .ok (.istore_n 3, 1) := dk_62 (dk_at dksX1_perform_1 1 rfl rfl)
theorem dX1_perform_26 : decode cX1_perform 26 = .ok (.iload_n 3, 1) := dk_29 (dk_at dksX1_perform_1 2 rfl rfl)
theorem dX1_perform_27 : decode cX1_perform 27 = .ok (.aload_n 2, 1) := dk_44 (dk_at dksX1_perform_1 3 rfl rfl)
theorem dX1_perform_28 : decode cX1_perform 28 = .ok (.getfield 442, 3) := dk_180 1 186 (dk_at dksX1_perform_1 4 rfl rfl)
theorem dX1_perform_31 : decode cX1_perform 31 = .ok (.if_icmp .ge 35, 3) := dk_162 0 35 (dk_at dksX1_perform_1 7 rfl rfl)
theorem dX1_perform_34 : decode cX1_perform 34 = .ok (.aload_n 0, 1) := dk_42 (dk_at dksX1_perform_1 10 rfl rfl)
theorem dX1_perform_35 : decode cX1_perform 35 = .ok (.aload_n 2, 1) := dk_44 (dk_at dksX1_perform_1 11 rfl rfl)
theorem dX1_perform_36 : decode cX1_perform 36 = .ok (.getfield 443, 3) := dk_180 1 187 (dk_at dksX1_perform_1 12 rfl rfl)
theorem dX1_perform_39 : decode cX1_perform 39 = .ok (.iload_n 3, 1) := dk_29 (dk_at dksX1_perform_1 15 rfl rfl)
theorem dX1_perform_40 : decode cX1_perform 40 = .ok (.iaload, 1) := dk_46 (dk_at dksX1_perform_1 16 rfl rfl)
theorem dX1_perform_41 : decode cX1_perform 41 = .ok (.aload_n 2, 1) := dk_44 (dk_at dksX1_perform_1 17 rfl rfl)
theorem dX1_perform_42 : decode cX1_perform 42 = .ok (.iload_n 3, 1) := dk_29 (dk_at dksX1_perform_1 18 rfl rfl)
theorem dX1_perform_43 : decode cX1_perform 43 = .ok (.iconst 0, 1) := dk_3 (dk_at dksX1_perform_1 19 rfl rfl)
theorem dX1_perform_44 : decode cX1_perform 44 = .ok (.invokevirtual 446, 3) := dk_182 1 190 (dk_at dksX1_perform_1 20 rfl rfl)
theorem dX1_perform_47 : decode cX1_perform 47 = .ok (.aload_n 2, 1) := dk_44 (dk_at dksX1_perform_1 23 rfl rfl)
theorem dX1_perform_48 : decode cX1_perform 48 = .ok (.iload_n 3, 1) := dk_29 (dk_at dksX1_perform_2 0 rfl rfl)
theorem dX1_perform_49 : decode cX1_perform 49 = .ok (.iconst 1, 1) := dk_4 (dk_at dksX1_perform_2 1 rfl rfl)
theorem dX1_perform_50 : decode cX1_perform 50 = .ok (.invokevirtual 446, 3) := dk_182 1 190 (dk_at dksX1_perform_2 2 rfl rfl)
theorem dX1_perform_53 : decode cX1_perform 53 = .ok (.invokevirtual 231, 3) := dk_182 0 231 (dk_at dksX1_perform_2 5 rfl rfl)
theorem dX1_perform_56 : decode cX1_perform 56 = .ok (.iconst (-1), 1) := dk_2 (dk_at dksX1_perform_2 8 rfl rfl)
theorem dX1_perform_57 : decode cX1_perform 57 = .ok (.if_icmp .ne 9, 3) := dk_160 0 9 (dk_at dksX1_perform_2 9 rfl rfl)
theorem dX1_perform_60 : decode cX1_perform 60 = .ok (.iinc 3 1, 3) := dk_132 3 1 (dk_at dksX1_perform_2 12 rfl rfl)
theorem dX1_perform_63 : decode cX1_perform 63 = .ok (.goto (-37), 3) := dk_167 255 219 (dk_at dksX1_perform_2 15 rfl rfl)
theorem dX1_perform_66 : decode cX1_perform 66 = .ok (.iload_n 3, 1) := dk_29 (dk_at dksX1_perform_2 18 rfl rfl)
theorem dX1_perform_67 : decode cX1_perform 67 = .ok (.ireturn, 1) := dk_172 (dk_at dksX1_perform_2 19 rfl rfl)
def dkwX1_most_6 : List UInt8 := [18, 245, 172]
abbrev dktX1_most_6 : List UInt8 := dkwX1_most_6 ++ []
def dkwX1_most_5 : List UInt8 := [186, 1, 203, 0, 0, 182, 1, 146, 167, 0, 18, 42, 180, 0, 141, 180, 0, 205, 182, 1, 204, 167, 0, 5]
abbrev dktX1_most_5 : List UInt8 := dkwX1_most_5 ++ dktX1_most_6
def dkwX1_most_4 : List UInt8 := [182, 1, 194, 167, 0, 46, 42, 182, 1, 200, 167, 0, 39, 42, 4, 182, 1, 128, 167, 0, 31, 42, 42]
abbrev dktX1_most_4 : List UInt8 := dkwX1_most_4 ++ dktX1_most_5
def dkwX1_most_3 : List UInt8 := [42, 42, 186, 1, 198, 0, 0, 4, 182, 1, 194, 167, 0, 60, 42, 42, 186, 1, 199, 0, 0, 4]
abbrev dktX1_most_3 : List UInt8 := dkwX1_most_3 ++ dktX1_most_4
def dkwX1_most_2 : List UInt8 := [42, 42, 186, 1, 193, 0, 0, 4, 182, 1, 194, 167, 0, 84, 42, 180, 0, 122, 182, 1, 197, 167, 0, 74]
abbrev dktX1_most_2 : List UInt8 := dkwX1_most_2 ++ dktX1_most_3
def dkwX1_most_1 : List UInt8 := [170, 0, 0, 0, 0, 0, 140, 0, 0, 0, 0, 0, 0, 0, 7, 0, 0, 0, 47, 0, 0, 0, 61, 0, 0, 0, 71, 0, 0, 0, 85, 0, 0, 0, 99, 0, 0, 0, 106, 0, 0, 0, 114, 0, 0, 0, 127]
abbrev dktX1_most_1 : List UInt8 := dkwX1_most_1 ++ dktX1_most_2
def dkwX1_most_0 : List UInt8 := [42, 180, 0, 158, 198, 0, 13, 42, 182, 1, 21, 180, 1, 25, 154, 0, 6, 18, 245, 172, 27]
abbrev dktX1_most_0 : List UInt8 := dkwX1_most_0 ++ dktX1_most_1
theorem dksX1_most_0 : cX1_most.data.toList.drop 0 = dktX1_most_0 := by decide +kernel
theorem dksX1_most_1 : cX1_most.data.toList.drop 21 = dktX1_most_1 := dk_seg dksX1_most_0 21 rfl rfl
theorem dksX1_most_2 : cX1_most.data.toList.drop 68 = dktX1_most_2 := dk_seg dksX1_most_1 47 rfl rfl
theorem dksX1_most_3 : cX1_most.data.toList.drop 92 = dktX1_most_3 := dk_seg dksX1_most_2 24 rfl rfl
theorem dksX1_most_4 : cX1_most.data.toList.drop 114 = dktX1_most_4 := dk_seg dksX1_most_3 22 rfl rfl
theorem dksX1_most_5 : cX1_most.data.toList.drop 137 = dktX1_most_5 := dk_seg dksX1_most_4 23 rfl rfl
theorem dksX1_most_6 : cX1_most.data.toList.drop 161 = dktX1_most_6 := dk_seg dksX1_most_5 24 rfl rfl
theorem dX1_most_0 : decode cX1_most 0 = .ok (.aload_n 0, 1) := dk_42 (dk_at dksX1_most_0 0 rfl rfl)
theorem dX1_most_1 : decode cX1_most 1 = .ok (.getfield 158, 3) := dk_180 0 158 (dk_at dksX1_most_0 1 rfl rfl)
theorem dX1_most_4 : decode cX1_most 4 = .ok (.ifnull 13, 3) := dk_198 0 13 (dk_at dksX1_most_0 4 rfl rfl)
theorem dX1_most_7 : decode cX1_most 7 = .ok (.aload_n 0, 1) := dk_42 (dk_at dksX1_most_0 7 rfl rfl)
theorem dX1_most_8 : decode cX1_most 8 = .ok (.invokevirtual 277, 3) := dk_182 1 21 (dk_at dksX1_most_0 8 rfl rfl)
theorem dX1_most_11 : decode cX1_most 11 = .ok (.getfield 281, 3) := dk_180 1 25 (dk_at dksX1_most_0 11 rfl rfl)
theorem dX1_most_14 : decode cX1_most 14 = .ok (.ifCond .ne 6, 3) := dk_154 0 6 (dk_at dksX1_most_0 14 rfl rfl)
theorem dX1_most_17 : decode cX1_most 17 = .ok (.ldc 245, 2) := dk_18 245 (dk_at dksX1_most_0 17 rfl rfl)
theorem dX1_most_19 : decode cX1_most 19 = .ok (.ireturn, 1) := dk_172 (dk_at dksX1_most_0 19 rfl rfl)
theorem dX1_most_20 : decode cX1_most 20 = .ok (.iload_n 1, 1) := dk_27 (dk_at dksX1_most_0 20 rfl rfl)
theorem dX1_most_21 : decode cX1_most 21 = .ok (.tableswitch 140 0 7 #[47, 61, 71, 85, 99, 106, 114, 127], 47) := by decide +kernel
theorem dX1_most_68 : decode cX1_most 68 = .ok (.aload_n 0, 1) := dk_42 (dk_at dksX1_most_2 0 rfl rfl)
theorem dX1_most_69 : decode cX1_most 69 = .ok (.aload_n 0, 1) := dk_42 (dk_at dksX1_most_2 1 rfl rfl)
theorem dX1_most_70 : decode cX1_most 70 = .ok (.invokedynamic 449, 5) := by decide +kernel
theorem dX1_most_75 : decode cX1_most 75 = .ok (.iconst 1, 1) := dk_4 (dk_at dksX1_most_2 7 rfl rfl)
theorem dX1_most_76 : decode cX1_most 76 = .ok (.invokevirtual 450, 3) := dk_182 1 194 (dk_at dksX1_most_2 8 rfl rfl)
theorem dX1_most_79 : decode cX1_most 79 = .ok (.goto 84, 3) := dk_167 0 84 (dk_at dksX1_most_2 11 rfl rfl)
theorem dX1_most_82 : decode cX1_most 82 = .ok (.aload_n 0, 1) := dk_42 (dk_at dksX1_most_2 14 rfl rfl)
theorem dX1_most_83 : decode cX1_most 83 = .ok (.getfield 122, 3) := dk_180 0 122 (dk_at dksX1_most_2 15 rfl rfl)
theorem dX1_most_86 : decode cX1_most 86 = .ok (.invokevirtual 453, 3) := dk_182 1 197 (dk_at dksX1_most_2 18 rfl rfl)
theorem dX1_most_89 : decode cX1_most 89 = .ok (.goto 74, 3) := dk_167 0 74 (dk_at dksX1_most_2 21 rfl rfl)
theorem dX1_most_92 : decode cX1_most 92 = .ok (.aload_n 0, 1) := dk_42 (dk_at dksX1_most_3 0 rfl rfl)
theorem dX1_most_93 : decode cX1_most 93 = .ok (.aload_n 0, 1) := dk_42 (dk_at dksX1_most_3 1 rfl rfl)
theorem dX1_most_94 : decode cX1_most 94 = .ok (.invokedynamic 454, 5) := by decide +kernel
theorem dX1_most_99 : decode cX1_most 99 = .ok (.iconst 1, 1) := dk_4 (dk_at dksX1_most_3 7 rfl rfl)
theorem dX1_most_100 : decode cX1_most 100 = .ok (.invokevirtual 450, 3) := dk_182 1 194 (dk_at dksX1_most_3 8 rfl rfl)
theorem dX1_most_103 : decode cX1_most 103 = .ok (.goto 60, 3) := dk_167 0 60 (dk_at dksX1_most_3 11 rfl rfl)
theorem dX1_most_106 : decode cX1_most 106 = .ok (.aload_n 0, 1) := dk_42 (dk_at dksX1_most_3 14 rfl rfl)
theorem dX1_most_107 : decode cX1_most 107 = .ok (.aload_n 0, 1) := dk_42 (dk_at dksX1_most_3 15 rfl rfl)
theorem dX1_most_108 : decode cX1_most 108 = .ok (.invokedynamic 455, 5) := by decide +kernel
theorem dX1_most_113 : decode cX1_most 113 = .ok (.iconst 1, 1) := dk_4 (dk_at dksX1_most_3 21 rfl rfl)
theorem dX1_most_114 : decode cX1_most 114 = .ok (.invokevirtual 450, 3) := dk_182 1 194 (dk_at dksX1_most_4 0 rfl rfl)
theorem dX1_most_117 : decode cX1_most 117 = .ok (.goto 46, 3) := dk_167 0 46 (dk_at dksX1_most_4 3 rfl rfl)
theorem dX1_most_120 : decode cX1_most 120 = .ok (.aload_n 0, 1) := dk_42 (dk_at dksX1_most_4 6 rfl rfl)
theorem dX1_most_121 : decode cX1_most 121 = .ok (.invokevirtual 456, 3) := dk_182 1 200 (dk_at dksX1_most_4 7 rfl rfl)
theorem dX1_most_124 : decode cX1_most 124 = .ok (.goto 39, 3) := dk_167 0 39 (dk_at dksX1_most_4 10 rfl rfl)
theorem dX1_most_127 : decode cX1_most 127 = .ok (.aload_n 0, 1) := dk_42 (dk_at dksX1_most_4 13 rfl rfl)
theorem dX1_most_128 : decode cX1_most 128 = .ok (.iconst 1, 1) := dk_4 (dk_at dksX1_most_4 14 rfl rfl)
theorem dX1_most_129 : decode cX1_most 129 = .ok (.invokevirtual 384, 3) := dk_182 1 128 (dk_at dksX1_most_4 15 rfl rfl)
theorem dX1_most_132 : decode cX1_most 132 = .ok (.goto 31, 3) := dk_167 0 31 (dk_at dksX1_most_4 18 rfl rfl)
theorem dX1_most_135 : decode cX1_most 135 = .ok (.aload_n 0, 1) := dk_42 (dk_at dksX1_most_4 21 rfl rfl)
theorem dX1_most_136 : decode cX1_most 136 = .ok (.aload_n 0, 1) := dk_42 (dk_at dksX1_most_4 22 rfl rfl)
theorem dX1_most_137 : decode cX1_most 137 = .ok (.invokedynamic 459, 5) := by decide +kernel
theorem dX1_most_142 : decode cX1_most 142 = .ok (.invokevirtual 402, 3) := dk_182 1 146 (dk_at dksX1_most_5 5 rfl rfl)
theorem dX1_most_145 : decode cX1_most 145 = .ok (.goto 18, 3) := dk_167 0 18 (dk_at dksX1_most_5 8 rfl rfl)
theorem dX1_most_148 : decode cX1_most 148 = .ok (.aload_n 0, 1) := dk_42 (dk_at dksX1_most_5 11 rfl rfl)
theorem dX1_most_149 : decode cX1_most 149 = .ok (.getfield 141, 3) := dk_180 0 141 (dk_at dksX1_most_5 12 rfl rfl)
theorem dX1_most_152 : decode cX1_most 152 = .ok (.getfield 205, 3) := dk_180 0 205 (dk_at dksX1_most_5 15 rfl rfl)
theorem dX1_most_155 : decode cX1_most 155 = .ok (.invokevirtual 460, 3) := dk_182 1 204 (dk_at dksX1_most_5 18 rfl rfl)
theorem dX1_most_158 : decode cX1_most 158 = .ok (.goto 5, 3) := dk_167 0 5 (dk_at dksX1_most_5 21 rfl rfl)
theorem dX1_most_161 : decode cX1_most 161 = .ok (.ldc 245, 2) := dk_18 245 (dk_at dksX1_most_6 0 rfl rfl)
theorem dX1_most_163 : decode cX1_most 163 = .ok (.ireturn, 1) := dk_172 (dk_at dksX1_most_6 2 rfl rfl)
def dkwX1_lambda_most_3_0 : List UInt8 := [42, 180, 0, 122, 180, 1, 51, 27, 50, 180, 1, 54, 172]
abbrev dktX1_lambda_most_3_0 : List UInt8 := dkwX1_lambda_most_3_0 ++ []
theorem dksX1_lambda_most_3_0 : cX1_lambda_most_3.data.toList.drop 0 = dktX1_lambda_most_3_0 := by decide +kernel
theorem dX1_lambda_most_3_0 : decode cX1_lambda_most_3 0 = .ok (.aload_n 0, 1) := dk_42 (dk_at dksX1_lambda_most_3_0 0 rfl rfl)
theorem dX1_lambda_most_3_1 : decode cX1_lambda_most_3 1 = .ok (.getfield 122, 3) := dk_180 0 122 (dk_at dksX1_lambda_most_3_0 1 rfl rfl)
theorem dX1_lambda_most_3_4 : decode cX1_lambda_most_3 4 = .ok (.getfield 307, 3) := dk_180 1 51 (dk_at dksX1_lambda_most_3_0 4 rfl rfl)
theorem dX1_lambda_most_3_7 : decode cX1_lambda_most_3 7 = .ok (.iload_n 1, 1) := dk_27 (dk_at dksX1_lambda_most_3_0 7 rfl rfl)
theorem dX1_lambda_most_3_8 : decode cX1_lambda_most_3 8 = .ok (.aaload, 1) := dk_50 (dk_at dksX1_lambda_most_3_0 8 rfl rfl)
theorem dX1_lambda_most_3_9 : decode cX1_lambda_most_3 9 = .ok (.getfield 310, 3) := dk_180 1 54 (dk_at dksX1_lambda_most_3_0 9 rfl rfl)
theorem dX1_lambda_most_3_12 : decode cX1_lambda_most_3 12 = .ok (.ireturn, 1) := dk_172 (dk_at dksX1_lambda_most_3_0 12 rfl rfl)
def dkwX1_sum_2 : List UInt8 := [167, 0, 4, 3, 96, 62, 132, 4, 1, 167, 255, 206, 29, 172]
abbrev dktX1_sum_2 : List UInt8 := dkwX1_sum_2 ++ []
def dkwX1_sum_1 : List UInt8 := [180, 0, 122, 180, 1, 51, 21, 4, 50, 180, 1, 79, 153, 0, 14, 43, 21, 4, 185, 1, 139, 2, 0]
abbrev dktX1_sum_1 : List UInt8 := dkwX1_sum_1 ++ dktX1_sum_2
def dkwX1_sum_0 : List UInt8 := [3, 62, 3, 54, 4, 21, 4, 42, 180, 0, 122, 180, 1, 25, 162, 0, 44, 29, 28, 153, 0, 19, 42]
abbrev dktX1_sum_0 : List UInt8 := dkwX1_sum_0 ++ dktX1_sum_1
theorem dksX1_sum_0 : cX1_sum.data.toList.drop 0 = dktX1_sum_0 := by decide +kernel
theorem dksX1_sum_1 : cX1_sum.data.toList.drop 23 = dktX1_sum_1 := dk_seg dksX1_sum_0 23 rfl rfl
theorem dksX1_sum_2 : cX1_sum.data.toList.drop 46 = dktX1_sum_2 := dk_seg dksX1_sum_1 23 rfl rfl
theorem dX1_sum_0 : decode cX1_sum 0 = .ok (.iconst 0, 1) := dk_3 (dk_at dksX1_sum_0 0 rfl rfl)
theorem dX1_sum_1 : decode cX1_sum 1 = .ok (.istore_n 3, 1) := dk_62 (dk_at dksX1_sum_0 1 rfl rfl)
theorem dX1_sum_2 : decode cX1_sum 2 = .ok (.iconst 0, 1) := dk_3 (dk_at dksX1_sum_0 2 rfl rfl)
theorem dX1_sum_3 : decode cX1_sum 3 = .ok (.istore 4, 2) := dk_54 4 (dk_at dksX1_sum_0 3 rfl rfl)
theorem dX1_sum_5 : decode cX1_sum 5 = .ok (.iload 4, 2) := dk_21 4 (dk_at dksX1_sum_0 5 rfl rfl)
theorem dX1_sum_7 : decode cX1_sum 7 = .ok (.aload_n 0, 1) := dk_42 (dk_at dksX1_sum_0 7 rfl rfl)
theorem dX1_sum_8 : decode cX1_sum 8 = .ok (.getfield 122, 3) := dk_180 0 122 (dk_at dksX1_sum_0 8 rfl rfl)
theorem dX1_sum_11 : decode cX1_sum 11 = .ok (.getfield 281, 3) := dk_180 1 25 (dk_at dksX1_sum_0 11 rfl rfl)
theorem dX1_sum_14 : decode cX1_sum 14 = .ok (.if_icmp .ge 44, 3) := dk_162 0 44 (dk_at dksX1_sum_0 14 rfl rfl)
theorem dX1_sum_17 : decode cX1_sum 17 = .ok (.iload_n 3, 1) := dk_29 (dk_at dksX1_sum_0 17 rfl rfl)
theorem dX1_sum_18 : decode cX1_sum 18 = .ok (.iload_n 2, 1) := dk_28 (dk_at dksX1_sum_0 18 rfl rfl)
theorem dX1_sum_19 : decode cX1_sum 19 = .ok (.ifCond .eq 19, 3) := dk_153 0 19 (dk_at dksX1_sum_0 19 rfl rfl)
theorem dX1_sum_22 : decode cX1_sum 22 = .ok (.aload_n 0, 1) := dk_42 (dk_at dksX1_sum_0 22 rfl rfl)
theorem dX1_sum_23 : decode cX1_sum 23 = .ok (.getfield 122, 3) := dk_180 0 122 (dk_at dksX1_sum_1 0 rfl rfl)
theorem dX1_sum_26 : decode cX1_sum 26 = .ok (.getfield 307, 3) := dk_180 1 51 (dk_at dksX1_sum_1 3 rfl rfl)
theorem dX1_sum_29 : decode cX1_sum 29 = .ok (.iload 4, 2) := dk_21 4 (dk_at dksX1_sum_1 6 rfl rfl)
theorem dX1_sum_31 : decode cX1_sum 31 = .ok (.aaload, 1) := dk_50 (dk_at dksX1_sum_1 8 rfl rfl)
theorem dX1_sum_32 : decode cX1_sum 32 = .ok (.getfield 335, 3) := dk_180 1 79 (dk_at dksX1_sum_1 9 rfl rfl)
theorem dX1_sum_35 : decode cX1_sum 35 = .ok (.ifCond .eq 14, 3) := dk_153 0 14 (dk_at dksX1_sum_1 12 rfl rfl)
theorem dX1_sum_38 : decode cX1_sum 38 = .ok (.aload_n 1, 1) := dk_43 (dk_at dksX1_sum_1 15 rfl rfl)
theorem dX1_sum_39 : decode cX1_sum 39 = .ok (.iload 4, 2) := dk_21 4 (dk_at dksX1_sum_1 16 rfl rfl)
theorem dX1_sum_41 : decode cX1_sum 41 = .ok (.invokeinterface 395 2, 5) := by decide +kernel
theorem dX1_sum_46 : decode cX1_sum 46 = .ok (.goto 4, 3) := dk_167 0 4 (dk_at dksX1_sum_2 0 rfl rfl)
theorem dX1_sum_49 : decode cX1_sum 49 = .ok (.iconst 0, 1) := dk_3 (dk_at dksX1_sum_2 3 rfl rfl)
theorem dX1_sum_50 : decode cX1_sum 50 = .ok (.iadd, 1) := dk_96 (dk_at dksX1_sum_2 4 rfl rfl)
theorem dX1_sum_51 : decode cX1_sum 51 = .ok (.istore_n 3, 1) := dk_62 (dk_at dksX1_sum_2 5 rfl rfl)
theorem dX1_sum_52 : decode cX1_sum 52 = .ok (.iinc 4 1, 3) := dk_132 4 1 (dk_at dksX1_sum_2 6 rfl rfl)
theorem dX1_sum_55 : decode cX1_sum 55 = .ok (.goto (-50), 3) := dk_167 255 206 (dk_at dksX1_sum_2 9 rfl rfl)
theorem dX1_sum_58 : decode cX1_sum 58 = .ok (.iload_n 3, 1) := dk_29 (dk_at dksX1_sum_2 12 rfl rfl)
theorem dX1_sum_59 : decode cX1_sum 59 = .ok (.ireturn, 1) := dk_172 (dk_at dksX1_sum_2 13 rfl rfl)
def dkwX1_lambda_most_4_0 : List UInt8 := [42, 180, 0, 122, 27, 182, 1, 122, 172]
abbrev dktX1_lambda_most_4_0 : List UInt8 := dkwX1_lambda_most_4_0 ++ []
theorem dksX1_lambda_most_4_0 : cX1_lambda_most_4.data.toList.drop 0 = dktX1_lambda_most_4_0 := by decide +kernel
theorem dX1_lambda_most_4_0 : decode cX1_lambda_most_4 0 = .ok (.aload_n 0, 1) := dk_42 (dk_at dksX1_lambda_most_4_0 0 rfl rfl)
theorem dX1_lambda_most_4_1 : decode cX1_lambda_most_4 1 = .ok (.getfield 122, 3) := dk_180 0 122 (dk_at dksX1_lambda_most_4_0 1 rfl rfl)
theorem dX1_lambda_most_4_4 : decode cX1_lambda_most_4 4 = .ok (.iload_n 1, 1) := dk_27 (dk_at dksX1_lambda_most_4_0 4 rfl rfl)
theorem dX1_lambda_most_4_5 : decode cX1_lambda_most_4 5 = .ok (.invokevirtual 378, 3) := dk_182 1 122 (dk_at dksX1_lambda_most_4_0 5 rfl rfl)
theorem dX1_lambda_most_4_8 : decode cX1_lambda_most_4 8 = .ok (.ireturn, 1) := dk_172 (dk_at dksX1_lambda_most_4_0 8 rfl rfl)
def dkwX1_lambda_most_5_0 : List UInt8 := [42, 180, 0, 122, 27, 182, 1, 97, 172]
abbrev dktX1_lambda_most_5_0 : List UInt8 := dkwX1_lambda_most_5_0 ++ []
theorem dksX1_lambda_most_5_0 : cX1_lambda_most_5.data.toList.drop 0 = dktX1_lambda_most_5_0 := by decide +kernel
theorem dX1_lambda_most_5_0 : decode cX1_lambda_most_5 0 = .ok (.aload_n 0, 1) := dk_42 (dk_at dksX1_lambda_most_5_0 0 rfl rfl)
theorem dX1_lambda_most_5_1 : decode cX1_lambda_most_5 1 = .ok (.getfield 122, 3) := dk_180 0 122 (dk_at dksX1_lambda_most_5_0 1 rfl rfl)
theorem dX1_lambda_most_5_4 : decode cX1_lambda_most_5 4 = .ok (.iload_n 1, 1) := dk_27 (dk_at dksX1_lambda_most_5_0 4 rfl rfl)
theorem dX1_lambda_most_5_5 : decode cX1_lambda_most_5 5 = .ok (.invokevirtual 353, 3) := dk_182 1 97 (dk_at dksX1_lambda_most_5_0 5 rfl rfl)
theorem dX1_lambda_most_5_8 : decode cX1_lambda_most_5 8 = .ok (.ireturn, 1) := dk_172 (dk_at dksX1_lambda_most_5_0 8 rfl rfl)
def dkwX1_generations_1 : List UInt8 := [184, 0, 9, 60, 132, 2, 1, 167, 255, 229, 27, 172]
abbrev dktX1_generations_1 : List UInt8 := dkwX1_generations_1 ++ []
def dkwX1_generations_0 : List UInt8 := [3, 60, 3, 61, 28, 42, 180, 0, 122, 180, 1, 25, 162, 0, 22, 27, 42, 180, 0, 122, 28, 182, 1, 82]
abbrev dktX1_generations_0 : List UInt8 := dkwX1_generations_0 ++ dktX1_generations_1
theorem dksX1_generations_0 : cX1_generations.data.toList.drop 0 = dktX1_generations_0 := by decide +kernel
theorem dksX1_generations_1 : cX1_generations.data.toList.drop 24 = dktX1_generations_1 := dk_seg dksX1_generations_0 24 rfl rfl
theorem dX1_generations_0 : decode cX1_generations 0 = .ok (.iconst 0, 1) := dk_3 (dk_at dksX1_generations_0 0 rfl rfl)
theorem dX1_generations_1 : decode cX1_generations 1 = .ok (.istore_n 1, 1) := dk_60 (dk_at dksX1_generations_0 1 rfl rfl)
theorem dX1_generations_2 : decode cX1_generations 2 = .ok (.iconst 0, 1) := dk_3 (dk_at dksX1_generations_0 2 rfl rfl)
theorem dX1_generations_3 : decode cX1_generations 3 = .ok (.istore_n 2, 1) := dk_61 (dk_at dksX1_generations_0 3 rfl rfl)
theorem dX1_generations_4 : decode cX1_generations 4 = .ok (.iload_n 2, 1) := dk_28 (dk_at dksX1_generations_0 4 rfl rfl)
theorem dX1_generations_5 : decode cX1_generations 5 = .ok (.aload_n 0, 1) := dk_42 (dk_at dksX1_generations_0 5 rfl rfl)
theorem dX1_generations_6 : decode cX1_generations 6 = .ok (.getfield 122, 3) := dk_180 0 122 (dk_at dksX1_generations_0 6 rfl rfl)
theorem dX1_generations_9 : decode cX1_generations 9 = .ok (.getfield 281, 3) := dk_180 1 25 (dk_at dksX1_generations_0 9 rfl rfl)
theorem dX1_generations_12 : decode cX1_generations 12 = .ok (.if_icmp .ge 22, 3) := dk_162 0 22 (dk_at dksX1_generations_0 12 rfl rfl)
theorem dX1_generations_15 : decode cX1_generations 15 = .ok (.iload_n 1, 1) := dk_27 (dk_at dksX1_generations_0 15 rfl rfl)
theorem dX1_generations_16 : decode cX1_generations 16 = .ok (.aload_n 0, 1) := dk_42 (dk_at dksX1_generations_0 16 rfl rfl)
theorem dX1_generations_17 : decode cX1_generations 17 = .ok (.getfield 122, 3) := dk_180 0 122 (dk_at dksX1_generations_0 17 rfl rfl)
theorem dX1_generations_20 : decode cX1_generations 20 = .ok (.iload_n 2, 1) := dk_28 (dk_at dksX1_generations_0 20 rfl rfl)
theorem dX1_generations_21 : decode cX1_generations 21 = .ok (.invokevirtual 338, 3) := dk_182 1 82 (dk_at dksX1_generations_0 21 rfl rfl)
theorem dX1_generations_24 : decode cX1_generations 24 = .ok (.invokestatic 9, 3) := dk_184 0 9 (dk_at dksX1_generations_1 0 rfl rfl)
theorem dX1_generations_27 : decode cX1_generations 27 = .ok (.istore_n 1, 1) := dk_60 (dk_at dksX1_generations_1 3 rfl rfl)
theorem dX1_generations_28 : decode cX1_generations 28 = .ok (.iinc 2 1, 3) := dk_132 2 1 (dk_at dksX1_generations_1 4 rfl rfl)
theorem dX1_generations_31 : decode cX1_generations 31 = .ok (.goto (-27), 3) := dk_167 255 229 (dk_at dksX1_generations_1 7 rfl rfl)
theorem dX1_generations_34 : decode cX1_generations 34 = .ok (.iload_n 1, 1) := dk_27 (dk_at dksX1_generations_1 10 rfl rfl)
theorem dX1_generations_35 : decode cX1_generations 35 = .ok (.ireturn, 1) := dk_172 (dk_at dksX1_generations_1 11 rfl rfl)
def dkwX1_lambda_most_6_1 : List UInt8 := [167, 0, 4, 2, 172]
abbrev dktX1_lambda_most_6_1 : List UInt8 := dkwX1_lambda_most_6_1 ++ []
def dkwX1_lambda_most_6_0 : List UInt8 := [42, 180, 0, 122, 180, 1, 51, 27, 50, 180, 1, 79, 153, 0, 14, 42, 180, 0, 122, 27, 182, 1, 100]
abbrev dktX1_lambda_most_6_0 : List UInt8 := dkwX1_lambda_most_6_0 ++ dktX1_lambda_most_6_1
theorem dksX1_lambda_most_6_0 : cX1_lambda_most_6.data.toList.drop 0 = dktX1_lambda_most_6_0 := by decide +kernel
theorem dksX1_lambda_most_6_1 : cX1_lambda_most_6.data.toList.drop 23 = dktX1_lambda_most_6_1 := dk_seg dksX1_lambda_most_6_0 23 rfl rfl
theorem dX1_lambda_most_6_0 : decode cX1_lambda_most_6 0 = .ok (.aload_n 0, 1) := dk_42 (dk_at dksX1_lambda_most_6_0 0 rfl rfl)
theorem dX1_lambda_most_6_1 : decode cX1_lambda_most_6 1 = .ok (.getfield 122, 3) := dk_180 0 122 (dk_at dksX1_lambda_most_6_0 1 rfl rfl)
theorem dX1_lambda_most_6_4 : decode cX1_lambda_most_6 4 = .ok (.getfield 307, 3) := dk_180 1 51 (dk_at dksX1_lambda_most_6_0 4 rfl rfl)
theorem dX1_lambda_most_6_7 : decode cX1_lambda_most_6 7 = .ok (.iload_n 1, 1) := dk_27 (dk_at dksX1_lambda_most_6_0 7 rfl rfl)
theorem dX1_lambda_most_6_8 : decode cX1_lambda_most_6 8 = .ok (.aaload, 1) := dk_50 (dk_at dksX1_lambda_most_6_0 8 rfl rfl)
theorem dX1_lambda_most_6_9 : decode cX1_lambda_most_6 9 = .ok (.getfield 335, 3) := dk_180 1 79 (dk_at dksX1_lambda_most_6_0 9 rfl rfl)
theorem dX1_lambda_most_6_12 : decode cX1_lambda_most_6 12 = .ok (.ifCond .eq 14, 3) := dk_153 0 14 (dk_at dksX1_lambda_most_6_0 12 rfl rfl)
theorem dX1_lambda_most_6_15 : decode cX1_lambda_most_6 15 = .ok (.aload_n 0, 1) := dk_42 (dk_at dksX1_lambda_most_6_0 15 rfl rfl)
theorem dX1_lambda_most_6_16 : decode cX1_lambda_most_6 16 = .ok (.getfield 122, 3) := dk_180 0 122 (dk_at dksX1_lambda_most_6_0 16 rfl rfl)
theorem dX1_lambda_most_6_19 : decode cX1_lambda_most_6 19 = .ok (.iload_n 1, 1) := dk_27 (dk_at dksX1_lambda_most_6_0 19 rfl rfl)
theorem dX1_lambda_most_6_20 : decode cX1_lambda_most_6 20 = .ok (.invokevirtual 356, 3) := dk_182 1 100 (dk_at dksX1_lambda_most_6_0 20 rfl rfl)
theorem dX1_lambda_most_6_23 : decode cX1_lambda_most_6 23 = .ok (.goto 4, 3) := dk_167 0 4 (dk_at dksX1_lambda_most_6_1 0 rfl rfl)
theorem dX1_lambda_most_6_26 : decode cX1_lambda_most_6 26 = .ok (.iconst (-1), 1) := dk_2 (dk_at dksX1_lambda_most_6_1 3 rfl rfl)
theorem dX1_lambda_most_6_27 : decode cX1_lambda_most_6 27 = .ok (.ireturn, 1) := dk_172 (dk_at dksX1_lambda_most_6_1 4 rfl rfl)
def dkwX1_image_1 : List UInt8 := [181, 0, 201, 42, 180, 0, 141, 182, 0, 224, 172]
abbrev dktX1_image_1 : List UInt8 := dkwX1_image_1 ++ []
def dkwX1_image_0 : List UInt8 := [42, 180, 0, 158, 199, 0, 5, 2, 172, 42, 180, 0, 145, 42, 180, 0, 141, 182, 0, 211, 42, 4]
abbrev dktX1_image_0 : List UInt8 := dkwX1_image_0 ++ dktX1_image_1
theorem dksX1_image_0 : cX1_image.data.toList.drop 0 = dktX1_image_0 := by decide +kernel
theorem dksX1_image_1 : cX1_image.data.toList.drop 22 = dktX1_image_1 := dk_seg dksX1_image_0 22 rfl rfl
theorem dX1_image_0 : decode cX1_image 0 = .ok (.aload_n 0, 1) := dk_42 (dk_at dksX1_image_0 0 rfl rfl)
theorem dX1_image_1 : decode cX1_image 1 = .ok (.getfield 158, 3) := dk_180 0 158 (dk_at dksX1_image_0 1 rfl rfl)
theorem dX1_image_4 : decode cX1_image 4 = .ok (.ifnonnull 5, 3) := dk_199 0 5 (dk_at dksX1_image_0 4 rfl rfl)
theorem dX1_image_7 : decode cX1_image 7 = .ok (.iconst (-1), 1) := dk_2 (dk_at dksX1_image_0 7 rfl rfl)
theorem dX1_image_8 : decode cX1_image 8 = .ok (.ireturn, 1) := dk_172 (dk_at dksX1_image_0 8 rfl rfl)
theorem dX1_image_9 : decode cX1_image 9 = .ok (.aload_n 0, 1) := dk_42 (dk_at dksX1_image_0 9 rfl rfl)
theorem dX1_image_10 : decode cX1_image 10 = .ok (.getfield 145, 3) := dk_180 0 145 (dk_at dksX1_image_0 10 rfl rfl)
theorem dX1_image_13 : decode cX1_image 13 = .ok (.aload_n 0, 1) := dk_42 (dk_at dksX1_image_0 13 rfl rfl)
theorem dX1_image_14 : decode cX1_image 14 = .ok (.getfield 141, 3) := dk_180 0 141 (dk_at dksX1_image_0 14 rfl rfl)
theorem dX1_image_17 : decode cX1_image 17 = .ok (.invokevirtual 211, 3) := dk_182 0 211 (dk_at dksX1_image_0 17 rfl rfl)
theorem dX1_image_20 : decode cX1_image 20 = .ok (.aload_n 0, 1) := dk_42 (dk_at dksX1_image_0 20 rfl rfl)
theorem dX1_image_21 : decode cX1_image 21 = .ok (.iconst 1, 1) := dk_4 (dk_at dksX1_image_0 21 rfl rfl)
theorem dX1_image_22 : decode cX1_image 22 = .ok (.putfield 201, 3) := dk_181 0 201 (dk_at dksX1_image_1 0 rfl rfl)
theorem dX1_image_25 : decode cX1_image 25 = .ok (.aload_n 0, 1) := dk_42 (dk_at dksX1_image_1 3 rfl rfl)
theorem dX1_image_26 : decode cX1_image 26 = .ok (.getfield 141, 3) := dk_180 0 141 (dk_at dksX1_image_1 4 rfl rfl)
theorem dX1_image_29 : decode cX1_image 29 = .ok (.invokevirtual 224, 3) := dk_182 0 224 (dk_at dksX1_image_1 7 rfl rfl)
theorem dX1_image_32 : decode cX1_image 32 = .ok (.ireturn, 1) := dk_172 (dk_at dksX1_image_1 10 rfl rfl)
def dkwX1_back_1 : List UInt8 := [181, 0, 198, 42, 180, 0, 141, 182, 0, 224, 172]
abbrev dktX1_back_1 : List UInt8 := dkwX1_back_1 ++ []
def dkwX1_back_0 : List UInt8 := [42, 180, 0, 201, 154, 0, 5, 2, 172, 42, 180, 0, 141, 42, 180, 0, 145, 182, 0, 211, 42, 3]
abbrev dktX1_back_0 : List UInt8 := dkwX1_back_0 ++ dktX1_back_1
theorem dksX1_back_0 : cX1_back.data.toList.drop 0 = dktX1_back_0 := by decide +kernel
theorem dksX1_back_1 : cX1_back.data.toList.drop 22 = dktX1_back_1 := dk_seg dksX1_back_0 22 rfl rfl
theorem dX1_back_0 : decode cX1_back 0 = .ok (.aload_n 0, 1) := dk_42 (dk_at dksX1_back_0 0 rfl rfl)
theorem dX1_back_1 : decode cX1_back 1 = .ok (.getfield 201, 3) := dk_180 0 201 (dk_at dksX1_back_0 1 rfl rfl)
theorem dX1_back_4 : decode cX1_back 4 = .ok (.ifCond .ne 5, 3) := dk_154 0 5 (dk_at dksX1_back_0 4 rfl rfl)
theorem dX1_back_7 : decode cX1_back 7 = .ok (.iconst (-1), 1) := dk_2 (dk_at dksX1_back_0 7 rfl rfl)
theorem dX1_back_8 : decode cX1_back 8 = .ok (.ireturn, 1) := dk_172 (dk_at dksX1_back_0 8 rfl rfl)
theorem dX1_back_9 : decode cX1_back 9 = .ok (.aload_n 0, 1) := dk_42 (dk_at dksX1_back_0 9 rfl rfl)
theorem dX1_back_10 : decode cX1_back 10 = .ok (.getfield 141, 3) := dk_180 0 141 (dk_at dksX1_back_0 10 rfl rfl)
theorem dX1_back_13 : decode cX1_back 13 = .ok (.aload_n 0, 1) := dk_42 (dk_at dksX1_back_0 13 rfl rfl)
theorem dX1_back_14 : decode cX1_back 14 = .ok (.getfield 145, 3) := dk_180 0 145 (dk_at dksX1_back_0 14 rfl rfl)
theorem dX1_back_17 : decode cX1_back 17 = .ok (.invokevirtual 211, 3) := dk_182 0 211 (dk_at dksX1_back_0 17 rfl rfl)
theorem dX1_back_20 : decode cX1_back 20 = .ok (.aload_n 0, 1) := dk_42 (dk_at dksX1_back_0 20 rfl rfl)
theorem dX1_back_21 : decode cX1_back 21 = .ok (.iconst 0, 1) := dk_3 (dk_at dksX1_back_0 21 rfl rfl)
theorem dX1_back_22 : decode cX1_back 22 = .ok (.putfield 198, 3) := dk_181 0 198 (dk_at dksX1_back_1 0 rfl rfl)
theorem dX1_back_25 : decode cX1_back 25 = .ok (.aload_n 0, 1) := dk_42 (dk_at dksX1_back_1 3 rfl rfl)
theorem dX1_back_26 : decode cX1_back 26 = .ok (.getfield 141, 3) := dk_180 0 141 (dk_at dksX1_back_1 4 rfl rfl)
theorem dX1_back_29 : decode cX1_back 29 = .ok (.invokevirtual 224, 3) := dk_182 0 224 (dk_at dksX1_back_1 7 rfl rfl)
theorem dX1_back_32 : decode cX1_back 32 = .ok (.ireturn, 1) := dk_172 (dk_at dksX1_back_1 10 rfl rfl)
def dkwX1_held_4 : List UInt8 := [180, 0, 240, 172, 42, 180, 0, 198, 172, 18, 245, 172]
abbrev dktX1_held_4 : List UInt8 := dkwX1_held_4 ++ []
def dkwX1_held_3 : List UInt8 := [180, 0, 188, 172, 42, 180, 0, 61, 172, 42, 180, 0, 158, 199, 0, 7, 3, 167, 0, 10, 42, 180, 0, 141]
abbrev dktX1_held_3 : List UInt8 := dkwX1_held_3 ++ dktX1_held_4
def dkwX1_held_2 : List UInt8 := [42, 180, 0, 158, 199, 0, 7, 3, 167, 0, 13, 42, 180, 0, 141, 180, 0, 205, 180, 0, 208, 172, 42]
abbrev dktX1_held_2 : List UInt8 := dkwX1_held_2 ++ dktX1_held_3
def dkwX1_held_1 : List UInt8 := [170, 0, 0, 0, 0, 0, 91, 0, 0, 0, 0, 0, 0, 0, 4, 0, 0, 0, 35, 0, 0, 0, 57, 0, 0, 0, 62, 0, 0, 0, 67, 0, 0, 0, 86]
abbrev dktX1_held_1 : List UInt8 := dkwX1_held_1 ++ dktX1_held_2
def dkwX1_held_0 : List UInt8 := [27]
abbrev dktX1_held_0 : List UInt8 := dkwX1_held_0 ++ dktX1_held_1
theorem dksX1_held_0 : cX1_held.data.toList.drop 0 = dktX1_held_0 := by decide +kernel
theorem dksX1_held_1 : cX1_held.data.toList.drop 1 = dktX1_held_1 := dk_seg dksX1_held_0 1 rfl rfl
theorem dksX1_held_2 : cX1_held.data.toList.drop 36 = dktX1_held_2 := dk_seg dksX1_held_1 35 rfl rfl
theorem dksX1_held_3 : cX1_held.data.toList.drop 59 = dktX1_held_3 := dk_seg dksX1_held_2 23 rfl rfl
theorem dksX1_held_4 : cX1_held.data.toList.drop 83 = dktX1_held_4 := dk_seg dksX1_held_3 24 rfl rfl
theorem dX1_held_0 : decode cX1_held 0 = .ok (.iload_n 1, 1) := dk_27 (dk_at dksX1_held_0 0 rfl rfl)
theorem dX1_held_1 : decode cX1_held 1 = .ok (.tableswitch 91 0 4 #[35, 57, 62, 67, 86], 35) := by decide +kernel
theorem dX1_held_36 : decode cX1_held 36 = .ok (.aload_n 0, 1) := dk_42 (dk_at dksX1_held_2 0 rfl rfl)
theorem dX1_held_37 : decode cX1_held 37 = .ok (.getfield 158, 3) := dk_180 0 158 (dk_at dksX1_held_2 1 rfl rfl)
theorem dX1_held_40 : decode cX1_held 40 = .ok (.ifnonnull 7, 3) := dk_199 0 7 (dk_at dksX1_held_2 4 rfl rfl)
theorem dX1_held_43 : decode cX1_held 43 = .ok (.iconst 0, 1) := dk_3 (dk_at dksX1_held_2 7 rfl rfl)
theorem dX1_held_44 : decode cX1_held 44 = .ok (.goto 13, 3) := dk_167 0 13 (dk_at dksX1_held_2 8 rfl rfl)
theorem dX1_held_47 : decode cX1_held 47 = .ok (.aload_n 0, 1) := dk_42 (dk_at dksX1_held_2 11 rfl rfl)
theorem dX1_held_48 : decode cX1_held 48 = .ok (.getfield 141, 3) := dk_180 0 141 (dk_at dksX1_held_2 12 rfl rfl)
theorem dX1_held_51 : decode cX1_held 51 = .ok (.getfield 205, 3) := dk_180 0 205 (dk_at dksX1_held_2 15 rfl rfl)
theorem dX1_held_54 : decode cX1_held 54 = .ok (.getfield 208, 3) := dk_180 0 208 (dk_at dksX1_held_2 18 rfl rfl)
theorem dX1_held_57 : decode cX1_held 57 = .ok (.ireturn, 1) := dk_172 (dk_at dksX1_held_2 21 rfl rfl)
theorem dX1_held_58 : decode cX1_held 58 = .ok (.aload_n 0, 1) := dk_42 (dk_at dksX1_held_2 22 rfl rfl)
theorem dX1_held_59 : decode cX1_held 59 = .ok (.getfield 188, 3) := dk_180 0 188 (dk_at dksX1_held_3 0 rfl rfl)
theorem dX1_held_62 : decode cX1_held 62 = .ok (.ireturn, 1) := dk_172 (dk_at dksX1_held_3 3 rfl rfl)
theorem dX1_held_63 : decode cX1_held 63 = .ok (.aload_n 0, 1) := dk_42 (dk_at dksX1_held_3 4 rfl rfl)
theorem dX1_held_64 : decode cX1_held 64 = .ok (.getfield 61, 3) := dk_180 0 61 (dk_at dksX1_held_3 5 rfl rfl)
theorem dX1_held_67 : decode cX1_held 67 = .ok (.ireturn, 1) := dk_172 (dk_at dksX1_held_3 8 rfl rfl)
theorem dX1_held_68 : decode cX1_held 68 = .ok (.aload_n 0, 1) := dk_42 (dk_at dksX1_held_3 9 rfl rfl)
theorem dX1_held_69 : decode cX1_held 69 = .ok (.getfield 158, 3) := dk_180 0 158 (dk_at dksX1_held_3 10 rfl rfl)
theorem dX1_held_72 : decode cX1_held 72 = .ok (.ifnonnull 7, 3) := dk_199 0 7 (dk_at dksX1_held_3 13 rfl rfl)
theorem dX1_held_75 : decode cX1_held 75 = .ok (.iconst 0, 1) := dk_3 (dk_at dksX1_held_3 16 rfl rfl)
theorem dX1_held_76 : decode cX1_held 76 = .ok (.goto 10, 3) := dk_167 0 10 (dk_at dksX1_held_3 17 rfl rfl)
theorem dX1_held_79 : decode cX1_held 79 = .ok (.aload_n 0, 1) := dk_42 (dk_at dksX1_held_3 20 rfl rfl)
theorem dX1_held_80 : decode cX1_held 80 = .ok (.getfield 141, 3) := dk_180 0 141 (dk_at dksX1_held_3 21 rfl rfl)
theorem dX1_held_83 : decode cX1_held 83 = .ok (.getfield 240, 3) := dk_180 0 240 (dk_at dksX1_held_4 0 rfl rfl)
theorem dX1_held_86 : decode cX1_held 86 = .ok (.ireturn, 1) := dk_172 (dk_at dksX1_held_4 3 rfl rfl)
theorem dX1_held_87 : decode cX1_held 87 = .ok (.aload_n 0, 1) := dk_42 (dk_at dksX1_held_4 4 rfl rfl)
theorem dX1_held_88 : decode cX1_held 88 = .ok (.getfield 198, 3) := dk_180 0 198 (dk_at dksX1_held_4 5 rfl rfl)
theorem dX1_held_91 : decode cX1_held 91 = .ok (.ireturn, 1) := dk_172 (dk_at dksX1_held_4 8 rfl rfl)
theorem dX1_held_92 : decode cX1_held 92 = .ok (.ldc 245, 2) := dk_18 245 (dk_at dksX1_held_4 9 rfl rfl)
theorem dX1_held_94 : decode cX1_held 94 = .ok (.ireturn, 1) := dk_172 (dk_at dksX1_held_4 11 rfl rfl)
def dkwX1_peak_8 : List UInt8 := [182, 1, 85, 172]
abbrev dktX1_peak_8 : List UInt8 := dkwX1_peak_8 ++ []
def dkwX1_peak_7 : List UInt8 := [167, 0, 27, 3, 167, 0, 23, 42, 180, 0, 122, 27, 182, 1, 82, 167, 0, 12, 42, 42, 180, 0, 122, 27]
abbrev dktX1_peak_7 : List UInt8 := dkwX1_peak_7 ++ dktX1_peak_8
def dkwX1_peak_6 : List UInt8 := [42, 180, 0, 122, 45, 180, 1, 71, 182, 1, 75, 167, 0, 38, 45, 180, 1, 79, 153, 0, 7, 4]
abbrev dktX1_peak_6 : List UInt8 := dkwX1_peak_6 ++ dktX1_peak_7
def dkwX1_peak_5 : List UInt8 := [180, 1, 65, 167, 0, 70, 45, 182, 1, 68, 167, 0, 63, 45, 180, 1, 71, 199, 0, 7, 2, 167, 0, 52]
abbrev dktX1_peak_5 : List UInt8 := dkwX1_peak_5 ++ dktX1_peak_6
def dkwX1_peak_4 : List UInt8 := [45, 180, 1, 54, 167, 0, 91, 45, 180, 1, 59, 167, 0, 84, 45, 180, 1, 62, 167, 0, 77, 45]
abbrev dktX1_peak_4 : List UInt8 := dkwX1_peak_4 ++ dktX1_peak_5
def dkwX1_peak_3 : List UInt8 := [170, 0, 0, 0, 0, 0, 133, 0, 0, 0, 0, 0, 0, 0, 7, 0, 0, 0, 47, 0, 0, 0, 54, 0, 0, 0, 61, 0, 0, 0, 68, 0, 0, 0, 75, 0, 0, 0, 82, 0, 0, 0, 107, 0, 0, 0, 122]
abbrev dktX1_peak_3 : List UInt8 := dkwX1_peak_3 ++ dktX1_peak_4
def dkwX1_peak_2 : List UInt8 := [180, 0, 122, 180, 1, 51, 27, 50, 78, 28]
abbrev dktX1_peak_2 : List UInt8 := dkwX1_peak_2 ++ dktX1_peak_3
def dkwX1_peak_1 : List UInt8 := [153, 0, 15, 28, 133, 9, 20, 1, 46, 184, 0, 162, 154, 0, 11, 187, 1, 48, 89, 183, 1, 50, 191, 42]
abbrev dktX1_peak_1 : List UInt8 := dkwX1_peak_1 ++ dktX1_peak_2
def dkwX1_peak_0 : List UInt8 := [42, 180, 0, 158, 198, 0, 34, 27, 133, 9, 42, 182, 1, 21, 180, 1, 25, 4, 100, 133, 184, 0, 162]
abbrev dktX1_peak_0 : List UInt8 := dkwX1_peak_0 ++ dktX1_peak_1
theorem dksX1_peak_0 : cX1_peak.data.toList.drop 0 = dktX1_peak_0 := by decide +kernel
theorem dksX1_peak_1 : cX1_peak.data.toList.drop 23 = dktX1_peak_1 := dk_seg dksX1_peak_0 23 rfl rfl
theorem dksX1_peak_2 : cX1_peak.data.toList.drop 47 = dktX1_peak_2 := dk_seg dksX1_peak_1 24 rfl rfl
theorem dksX1_peak_3 : cX1_peak.data.toList.drop 57 = dktX1_peak_3 := dk_seg dksX1_peak_2 10 rfl rfl
theorem dksX1_peak_4 : cX1_peak.data.toList.drop 104 = dktX1_peak_4 := dk_seg dksX1_peak_3 47 rfl rfl
theorem dksX1_peak_5 : cX1_peak.data.toList.drop 126 = dktX1_peak_5 := dk_seg dksX1_peak_4 22 rfl rfl
theorem dksX1_peak_6 : cX1_peak.data.toList.drop 150 = dktX1_peak_6 := dk_seg dksX1_peak_5 24 rfl rfl
theorem dksX1_peak_7 : cX1_peak.data.toList.drop 172 = dktX1_peak_7 := dk_seg dksX1_peak_6 22 rfl rfl
theorem dksX1_peak_8 : cX1_peak.data.toList.drop 196 = dktX1_peak_8 := dk_seg dksX1_peak_7 24 rfl rfl
theorem dX1_peak_0 : decode cX1_peak 0 = .ok (.aload_n 0, 1) := dk_42 (dk_at dksX1_peak_0 0 rfl rfl)
theorem dX1_peak_1 : decode cX1_peak 1 = .ok (.getfield 158, 3) := dk_180 0 158 (dk_at dksX1_peak_0 1 rfl rfl)
theorem dX1_peak_4 : decode cX1_peak 4 = .ok (.ifnull 34, 3) := dk_198 0 34 (dk_at dksX1_peak_0 4 rfl rfl)
theorem dX1_peak_7 : decode cX1_peak 7 = .ok (.iload_n 1, 1) := dk_27 (dk_at dksX1_peak_0 7 rfl rfl)
theorem dX1_peak_8 : decode cX1_peak 8 = .ok (.i2l, 1) := dk_133 (dk_at dksX1_peak_0 8 rfl rfl)
theorem dX1_peak_9 : decode cX1_peak 9 = .ok (.lconst 0, 1) := dk_9 (dk_at dksX1_peak_0 9 rfl rfl)
theorem dX1_peak_10 : decode cX1_peak 10 = .ok (.aload_n 0, 1) := dk_42 (dk_at dksX1_peak_0 10 rfl rfl)
theorem dX1_peak_11 : decode cX1_peak 11 = .ok (.invokevirtual 277, 3) := dk_182 1 21 (dk_at dksX1_peak_0 11 rfl rfl)
theorem dX1_peak_14 : decode cX1_peak 14 = .ok (.getfield 281, 3) := dk_180 1 25 (dk_at dksX1_peak_0 14 rfl rfl)
theorem dX1_peak_17 : decode cX1_peak 17 = .ok (.iconst 1, 1) := dk_4 (dk_at dksX1_peak_0 17 rfl rfl)
theorem dX1_peak_18 : decode cX1_peak 18 = .ok (.isub, 1) := dk_100 (dk_at dksX1_peak_0 18 rfl rfl)
theorem dX1_peak_19 : decode cX1_peak 19 = .ok (.i2l, 1) := dk_133 (dk_at dksX1_peak_0 19 rfl rfl)
theorem dX1_peak_20 : decode cX1_peak 20 = .ok (.invokestatic 162, 3) := dk_184 0 162 (dk_at dksX1_peak_0 20 rfl rfl)
theorem dX1_peak_23 : decode cX1_peak 23 = .ok (.ifCond .eq 15, 3) := dk_153 0 15 (dk_at dksX1_peak_1 0 rfl rfl)
theorem dX1_peak_26 : decode cX1_peak 26 = .ok (.iload_n 2, 1) := dk_28 (dk_at dksX1_peak_1 3 rfl rfl)
theorem dX1_peak_27 : decode cX1_peak 27 = .ok (.i2l, 1) := dk_133 (dk_at dksX1_peak_1 4 rfl rfl)
theorem dX1_peak_28 : decode cX1_peak 28 = .ok (.lconst 0, 1) := dk_9 (dk_at dksX1_peak_1 5 rfl rfl)
theorem dX1_peak_29 : decode cX1_peak 29 = .ok (.ldc2_w 302, 3) := dk_20 1 46 (dk_at dksX1_peak_1 6 rfl rfl)
theorem dX1_peak_32 : decode cX1_peak 32 = .ok (.invokestatic 162, 3) := dk_184 0 162 (dk_at dksX1_peak_1 9 rfl rfl)
theorem dX1_peak_35 : decode cX1_peak 35 = .ok (.ifCond .ne 11, 3) := dk_154 0 11 (dk_at dksX1_peak_1 12 rfl rfl)
theorem dX1_peak_38 : decode cX1_peak 38 = .ok (.new 304, 3) := dk_187 1 48 (dk_at dksX1_peak_1 15 rfl rfl)
theorem dX1_peak_41 : decode cX1_peak 41 = .ok (.dup, 1) := dk_89 (dk_at dksX1_peak_1 18 rfl rfl)
theorem dX1_peak_42 : decode cX1_peak 42 = .ok (.invokespecial 306, 3) := dk_183 1 50 (dk_at dksX1_peak_1 19 rfl rfl)
theorem dX1_peak_45 : decode cX1_peak 45 = .ok (.athrow, 1) := dk_191 (dk_at dksX1_peak_1 22 rfl rfl)
theorem dX1_peak_46 : decode cX1_peak 46 = .ok (.aload_n 0, 1) := dk_42 (dk_at dksX1_peak_1 23 rfl rfl)
theorem dX1_peak_47 : decode cX1_peak 47 = .ok (.getfield 122, 3) := dk_180 0 122 (dk_at dksX1_peak_2 0 rfl rfl)
theorem dX1_peak_50 : decode cX1_peak 50 = .ok (.getfield 307, 3) := dk_180 1 51 (dk_at dksX1_peak_2 3 rfl rfl)
theorem dX1_peak_53 : decode cX1_peak 53 = .ok (.iload_n 1, 1) := dk_27 (dk_at dksX1_peak_2 6 rfl rfl)
theorem dX1_peak_54 : decode cX1_peak 54 = .ok (.aaload, 1) := dk_50 (dk_at dksX1_peak_2 7 rfl rfl)
theorem dX1_peak_55 : decode cX1_peak 55 = .ok (.astore_n 3, 1) := dk_78 (dk_at dksX1_peak_2 8 rfl rfl)
theorem dX1_peak_56 : decode cX1_peak 56 = .ok (.iload_n 2, 1) := dk_28 (dk_at dksX1_peak_2 9 rfl rfl)
theorem dX1_peak_57 : decode cX1_peak 57 = .ok (.tableswitch 133 0 7 #[47, 54, 61, 68, 75, 82, 107, 122], 47) := by decide +kernel
theorem dX1_peak_104 : decode cX1_peak 104 = .ok (.aload_n 3, 1) := dk_45 (dk_at dksX1_peak_4 0 rfl rfl)
theorem dX1_peak_105 : decode cX1_peak 105 = .ok (.getfield 310, 3) := dk_180 1 54 (dk_at dksX1_peak_4 1 rfl rfl)
theorem dX1_peak_108 : decode cX1_peak 108 = .ok (.goto 91, 3) := dk_167 0 91 (dk_at dksX1_peak_4 4 rfl rfl)
theorem dX1_peak_111 : decode cX1_peak 111 = .ok (.aload_n 3, 1) := dk_45 (dk_at dksX1_peak_4 7 rfl rfl)
theorem dX1_peak_112 : decode cX1_peak 112 = .ok (.getfield 315, 3) := dk_180 1 59 (dk_at dksX1_peak_4 8 rfl rfl)
theorem dX1_peak_115 : decode cX1_peak 115 = .ok (.goto 84, 3) := dk_167 0 84 (dk_at dksX1_peak_4 11 rfl rfl)
theorem dX1_peak_118 : decode cX1_peak 118 = .ok (.aload_n 3, 1) := dk_45 (dk_at dksX1_peak_4 14 rfl rfl)
theorem dX1_peak_119 : decode cX1_peak 119 = .ok (.getfield 318, 3) := dk_180 1 62 (dk_at dksX1_peak_4 15 rfl rfl)
theorem dX1_peak_122 : decode cX1_peak 122 = .ok (.goto 77, 3) := dk_167 0 77 (dk_at dksX1_peak_4 18 rfl rfl)
theorem dX1_peak_125 : decode cX1_peak 125 = .ok (.aload_n 3, 1) := dk_45 (dk_at dksX1_peak_4 21 rfl rfl)
theorem dX1_peak_126 : decode cX1_peak 126 = .ok (.getfield 321, 3) := dk_180 1 65 (dk_at dksX1_peak_5 0 rfl rfl)
theorem dX1_peak_129 : decode cX1_peak 129 = .ok (.goto 70, 3) := dk_167 0 70 (dk_at dksX1_peak_5 3 rfl rfl)
theorem dX1_peak_132 : decode cX1_peak 132 = .ok (.aload_n 3, 1) := dk_45 (dk_at dksX1_peak_5 6 rfl rfl)
theorem dX1_peak_133 : decode cX1_peak 133 = .ok (.invokevirtual 324, 3) := dk_182 1 68 (dk_at dksX1_peak_5 7 rfl rfl)
theorem dX1_peak_136 : decode cX1_peak 136 = .ok (.goto 63, 3) := dk_167 0 63 (dk_at dksX1_peak_5 10 rfl rfl)
theorem dX1_peak_139 : decode cX1_peak 139 = .ok (.aload_n 3, 1) := dk_45 (dk_at dksX1_peak_5 13 rfl rfl)
theorem dX1_peak_140 : decode cX1_peak 140 = .ok (.getfield 327, 3) := dk_180 1 71 (dk_at dksX1_peak_5 14 rfl rfl)
theorem dX1_peak_143 : decode cX1_peak 143 = .ok (.ifnonnull 7, 3) := dk_199 0 7 (dk_at dksX1_peak_5 17 rfl rfl)
theorem dX1_peak_146 : decode cX1_peak 146 = .ok (.iconst (-1), 1) := dk_2 (dk_at dksX1_peak_5 20 rfl rfl)
theorem dX1_peak_147 : decode cX1_peak 147 = .ok (.goto 52, 3) := dk_167 0 52 (dk_at dksX1_peak_5 21 rfl rfl)
theorem dX1_peak_150 : decode cX1_peak 150 = .ok (.aload_n 0, 1) := dk_42 (dk_at dksX1_peak_6 0 rfl rfl)
theorem dX1_peak_151 : decode cX1_peak 151 = .ok (.getfield 122, 3) := dk_180 0 122 (dk_at dksX1_peak_6 1 rfl rfl)
theorem dX1_peak_154 : decode cX1_peak 154 = .ok (.aload_n 3, 1) := dk_45 (dk_at dksX1_peak_6 4 rfl rfl)
theorem dX1_peak_155 : decode cX1_peak 155 = .ok (.getfield 327, 3) := dk_180 1 71 (dk_at dksX1_peak_6 5 rfl rfl)
theorem dX1_peak_158 : decode cX1_peak 158 = .ok (.invokevirtual 331, 3) := dk_182 1 75 (dk_at dksX1_peak_6 8 rfl rfl)
theorem dX1_peak_161 : decode cX1_peak 161 = .ok (.goto 38, 3) := dk_167 0 38 (dk_at dksX1_peak_6 11 rfl rfl)
theorem dX1_peak_164 : decode cX1_peak 164 = .ok (.aload_n 3, 1) := dk_45 (dk_at dksX1_peak_6 14 rfl rfl)
theorem dX1_peak_165 : decode cX1_peak 165 = .ok (.getfield 335, 3) := dk_180 1 79 (dk_at dksX1_peak_6 15 rfl rfl)
theorem dX1_peak_168 : decode cX1_peak 168 = .ok (.ifCond .eq 7, 3) := dk_153 0 7 (dk_at dksX1_peak_6 18 rfl rfl)
theorem dX1_peak_171 : decode cX1_peak 171 = .ok (.iconst 1, 1) := dk_4 (dk_at dksX1_peak_6 21 rfl rfl)
theorem dX1_peak_172 : decode cX1_peak 172 = .ok (.goto 27, 3) := dk_167 0 27 (dk_at dksX1_peak_7 0 rfl rfl)
theorem dX1_peak_175 : decode cX1_peak 175 = .ok (.iconst 0, 1) := dk_3 (dk_at dksX1_peak_7 3 rfl rfl)
theorem dX1_peak_176 : decode cX1_peak 176 = .ok (.goto 23, 3) := dk_167 0 23 (dk_at dksX1_peak_7 4 rfl rfl)
theorem dX1_peak_179 : decode cX1_peak 179 = .ok (.aload_n 0, 1) := dk_42 (dk_at dksX1_peak_7 7 rfl rfl)
theorem dX1_peak_180 : decode cX1_peak 180 = .ok (.getfield 122, 3) := dk_180 0 122 (dk_at dksX1_peak_7 8 rfl rfl)
theorem dX1_peak_183 : decode cX1_peak 183 = .ok (.iload_n 1, 1) := dk_27 (dk_at dksX1_peak_7 11 rfl rfl)
theorem dX1_peak_184 : decode cX1_peak 184 = .ok (.invokevirtual 338, 3) := dk_182 1 82 (dk_at dksX1_peak_7 12 rfl rfl)
theorem dX1_peak_187 : decode cX1_peak 187 = .ok (.goto 12, 3) := dk_167 0 12 (dk_at dksX1_peak_7 15 rfl rfl)
theorem dX1_peak_190 : decode cX1_peak 190 = .ok (.aload_n 0, 1) := dk_42 (dk_at dksX1_peak_7 18 rfl rfl)
theorem dX1_peak_191 : decode cX1_peak 191 = .ok (.aload_n 0, 1) := dk_42 (dk_at dksX1_peak_7 19 rfl rfl)
theorem dX1_peak_192 : decode cX1_peak 192 = .ok (.getfield 122, 3) := dk_180 0 122 (dk_at dksX1_peak_7 20 rfl rfl)
theorem dX1_peak_195 : decode cX1_peak 195 = .ok (.iload_n 1, 1) := dk_27 (dk_at dksX1_peak_7 23 rfl rfl)
theorem dX1_peak_196 : decode cX1_peak 196 = .ok (.invokevirtual 341, 3) := dk_182 1 85 (dk_at dksX1_peak_8 0 rfl rfl)
theorem dX1_peak_199 : decode cX1_peak 199 = .ok (.ireturn, 1) := dk_172 (dk_at dksX1_peak_8 3 rfl rfl)
