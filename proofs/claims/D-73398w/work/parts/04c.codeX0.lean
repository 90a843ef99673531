set_option maxRecDepth 100000
def dkwX0_peak_0 : List UInt8 := [45, 3, 42, 27, 28, 182, 0, 7, 133, 80, 167, 0, 7, 58, 4, 4, 172, 3, 172]
abbrev dktX0_peak_0 : List UInt8 := dkwX0_peak_0 ++ []
theorem dksX0_peak_0 : cX0_peak.data.toList.drop 0 = dktX0_peak_0 := by decide +kernel
theorem dX0_peak_0 : decode cX0_peak 0 = .ok (.aload_n 3, 1) := dk_45 (dk_at dksX0_peak_0 0 rfl rfl)
theorem dX0_peak_1 : decode cX0_peak 1 = .ok (.iconst 0, 1) := dk_3 (dk_at dksX0_peak_0 1 rfl rfl)
theorem dX0_peak_2 : decode cX0_peak 2 = .ok (.aload_n 0, 1) := dk_42 (dk_at dksX0_peak_0 2 rfl rfl)
theorem dX0_peak_3 : decode cX0_peak 3 = .ok (.iload_n 1, 1) := dk_27 (dk_at dksX0_peak_0 3 rfl rfl)
theorem dX0_peak_4 : decode cX0_peak 4 = .ok (.iload_n 2, 1) := dk_28 (dk_at dksX0_peak_0 4 rfl rfl)
theorem dX0_peak_5 : decode cX0_peak 5 = .ok (.invokevirtual 7, 3) := dk_182 0 7 (dk_at dksX0_peak_0 5 rfl rfl)
theorem dX0_peak_8 : decode cX0_peak 8 = .ok (.i2l, 1) := dk_133 (dk_at dksX0_peak_0 8 rfl rfl)
theorem dX0_peak_9 : decode cX0_peak 9 = .ok (.lastore, 1) := dk_80 (dk_at dksX0_peak_0 9 rfl rfl)
theorem dX0_peak_10 : decode cX0_peak 10 = .ok (.goto 7, 3) := dk_167 0 7 (dk_at dksX0_peak_0 10 rfl rfl)
theorem dX0_peak_13 : decode cX0_peak 13 = .ok (.astore 4, 2) := dk_58 4 (dk_at dksX0_peak_0 13 rfl rfl)
theorem dX0_peak_15 : decode cX0_peak 15 = .ok (.iconst 1, 1) := dk_4 (dk_at dksX0_peak_0 15 rfl rfl)
theorem dX0_peak_16 : decode cX0_peak 16 = .ok (.ireturn, 1) := dk_172 (dk_at dksX0_peak_0 16 rfl rfl)
theorem dX0_peak_17 : decode cX0_peak 17 = .ok (.iconst 0, 1) := dk_3 (dk_at dksX0_peak_0 17 rfl rfl)
theorem dX0_peak_18 : decode cX0_peak 18 = .ok (.ireturn, 1) := dk_172 (dk_at dksX0_peak_0 18 rfl rfl)
def dkwX2_init_0 : List UInt8 := [42, 183, 0, 1, 42, 43, 181, 0, 7, 177]
abbrev dktX2_init_0 : List UInt8 := dkwX2_init_0 ++ []
theorem dksX2_init_0 : cX2_init.data.toList.drop 0 = dktX2_init_0 := by decide +kernel
theorem dX2_init_0 : decode cX2_init 0 = .ok (.aload_n 0, 1) := dk_42 (dk_at dksX2_init_0 0 rfl rfl)
theorem dX2_init_1 : decode cX2_init 1 = .ok (.invokespecial 1, 3) := dk_183 0 1 (dk_at dksX2_init_0 1 rfl rfl)
theorem dX2_init_4 : decode cX2_init 4 = .ok (.aload_n 0, 1) := dk_42 (dk_at dksX2_init_0 4 rfl rfl)
theorem dX2_init_5 : decode cX2_init 5 = .ok (.aload_n 1, 1) := dk_43 (dk_at dksX2_init_0 5 rfl rfl)
theorem dX2_init_6 : decode cX2_init 6 = .ok (.putfield 7, 3) := dk_181 0 7 (dk_at dksX2_init_0 6 rfl rfl)
theorem dX2_init_9 : decode cX2_init 9 = .ok (.return_, 1) := dk_177 (dk_at dksX2_init_0 9 rfl rfl)
def dkwX3_middle_0 : List UInt8 := [26, 27, 184, 0, 11, 26, 27, 184, 0, 17, 28, 184, 0, 11, 184, 0, 17, 172]
abbrev dktX3_middle_0 : List UInt8 := dkwX3_middle_0 ++ []
theorem dksX3_middle_0 : cX3_middle.data.toList.drop 0 = dktX3_middle_0 := by decide +kernel
theorem dX3_middle_0 : decode cX3_middle 0 = .ok (.iload_n 0, 1) := dk_26 (dk_at dksX3_middle_0 0 rfl rfl)
theorem dX3_middle_1 : decode cX3_middle 1 = .ok (.iload_n 1, 1) := dk_27 (dk_at dksX3_middle_0 1 rfl rfl)
theorem dX3_middle_2 : decode cX3_middle 2 = .ok (.invokestatic 11, 3) := dk_184 0 11 (dk_at dksX3_middle_0 2 rfl rfl)
theorem dX3_middle_5 : decode cX3_middle 5 = .ok (.iload_n 0, 1) := dk_26 (dk_at dksX3_middle_0 5 rfl rfl)
theorem dX3_middle_6 : decode cX3_middle 6 = .ok (.iload_n 1, 1) := dk_27 (dk_at dksX3_middle_0 6 rfl rfl)
theorem dX3_middle_7 : decode cX3_middle 7 = .ok (.invokestatic 17, 3) := dk_184 0 17 (dk_at dksX3_middle_0 7 rfl rfl)
theorem dX3_middle_10 : decode cX3_middle 10 = .ok (.iload_n 2, 1) := dk_28 (dk_at dksX3_middle_0 10 rfl rfl)
theorem dX3_middle_11 : decode cX3_middle 11 = .ok (.invokestatic 11, 3) := dk_184 0 11 (dk_at dksX3_middle_0 11 rfl rfl)
theorem dX3_middle_14 : decode cX3_middle 14 = .ok (.invokestatic 17, 3) := dk_184 0 17 (dk_at dksX3_middle_0 14 rfl rfl)
theorem dX3_middle_17 : decode cX3_middle 17 = .ok (.ireturn, 1) := dk_172 (dk_at dksX3_middle_0 17 rfl rfl)
def dkwX3_least_1 : List UInt8 := [185, 0, 7, 2, 0, 184, 0, 11, 60, 132, 2, 1, 167, 255, 231, 27, 172]
abbrev dktX3_least_1 : List UInt8 := dkwX3_least_1 ++ []
def dkwX3_least_0 : List UInt8 := [42, 3, 185, 0, 7, 2, 0, 60, 4, 61, 28, 42, 185, 0, 1, 1, 0, 162, 0, 21, 27, 42, 28]
abbrev dktX3_least_0 : List UInt8 := dkwX3_least_0 ++ dktX3_least_1
theorem dksX3_least_0 : cX3_least.data.toList.drop 0 = dktX3_least_0 := by decide +kernel
theorem dksX3_least_1 : cX3_least.data.toList.drop 23 = dktX3_least_1 := dk_seg dksX3_least_0 23 rfl rfl
theorem dX3_least_0 : decode cX3_least 0 = .ok (.aload_n 0, 1) := dk_42 (dk_at dksX3_least_0 0 rfl rfl)
theorem dX3_least_1 : decode cX3_least 1 = .ok (.iconst 0, 1) := dk_3 (dk_at dksX3_least_0 1 rfl rfl)
theorem dX3_least_2 : decode cX3_least 2 = .ok (.invokeinterface 7 2, 5) := by decide +kernel
theorem dX3_least_7 : decode cX3_least 7 = .ok (.istore_n 1, 1) := dk_60 (dk_at dksX3_least_0 7 rfl rfl)
theorem dX3_least_8 : decode cX3_least 8 = .ok (.iconst 1, 1) := dk_4 (dk_at dksX3_least_0 8 rfl rfl)
theorem dX3_least_9 : decode cX3_least 9 = .ok (.istore_n 2, 1) := dk_61 (dk_at dksX3_least_0 9 rfl rfl)
theorem dX3_least_10 : decode cX3_least 10 = .ok (.iload_n 2, 1) := dk_28 (dk_at dksX3_least_0 10 rfl rfl)
theorem dX3_least_11 : decode cX3_least 11 = .ok (.aload_n 0, 1) := dk_42 (dk_at dksX3_least_0 11 rfl rfl)
theorem dX3_least_12 : decode cX3_least 12 = .ok (.invokeinterface 1 1, 5) := by decide +kernel
theorem dX3_least_17 : decode cX3_least 17 = .ok (.if_icmp .ge 21, 3) := dk_162 0 21 (dk_at dksX3_least_0 17 rfl rfl)
theorem dX3_least_20 : decode cX3_least 20 = .ok (.iload_n 1, 1) := dk_27 (dk_at dksX3_least_0 20 rfl rfl)
theorem dX3_least_21 : decode cX3_least 21 = .ok (.aload_n 0, 1) := dk_42 (dk_at dksX3_least_0 21 rfl rfl)
theorem dX3_least_22 : decode cX3_least 22 = .ok (.iload_n 2, 1) := dk_28 (dk_at dksX3_least_0 22 rfl rfl)
theorem dX3_least_23 : decode cX3_least 23 = .ok (.invokeinterface 7 2, 5) := by decide +kernel
theorem dX3_least_28 : decode cX3_least 28 = .ok (.invokestatic 11, 3) := dk_184 0 11 (dk_at dksX3_least_1 5 rfl rfl)
theorem dX3_least_31 : decode cX3_least 31 = .ok (.istore_n 1, 1) := dk_60 (dk_at dksX3_least_1 8 rfl rfl)
theorem dX3_least_32 : decode cX3_least 32 = .ok (.iinc 2 1, 3) := dk_132 2 1 (dk_at dksX3_least_1 9 rfl rfl)
theorem dX3_least_35 : decode cX3_least 35 = .ok (.goto (-25), 3) := dk_167 255 231 (dk_at dksX3_least_1 12 rfl rfl)
theorem dX3_least_38 : decode cX3_least 38 = .ok (.iload_n 1, 1) := dk_27 (dk_at dksX3_least_1 15 rfl rfl)
theorem dX3_least_39 : decode cX3_least 39 = .ok (.ireturn, 1) := dk_172 (dk_at dksX3_least_1 16 rfl rfl)
def dkwX3_greatest_1 : List UInt8 := [185, 0, 7, 2, 0, 184, 0, 17, 60, 132, 2, 1, 167, 255, 231, 27, 172]
abbrev dktX3_greatest_1 : List UInt8 := dkwX3_greatest_1 ++ []
def dkwX3_greatest_0 : List UInt8 := [42, 3, 185, 0, 7, 2, 0, 60, 4, 61, 28, 42, 185, 0, 1, 1, 0, 162, 0, 21, 27, 42, 28]
abbrev dktX3_greatest_0 : List UInt8 := dkwX3_greatest_0 ++ dktX3_greatest_1
theorem dksX3_greatest_0 : cX3_greatest.data.toList.drop 0 = dktX3_greatest_0 := by decide +kernel
theorem dksX3_greatest_1 : cX3_greatest.data.toList.drop 23 = dktX3_greatest_1 := dk_seg dksX3_greatest_0 23 rfl rfl
theorem dX3_greatest_0 : decode cX3_greatest 0 = .ok (.aload_n 0, 1) := dk_42 (dk_at dksX3_greatest_0 0 rfl rfl)
theorem dX3_greatest_1 : decode cX3_greatest 1 = .ok (.iconst 0, 1) := dk_3 (dk_at dksX3_greatest_0 1 rfl rfl)
theorem dX3_greatest_2 : decode cX3_greatest 2 = .ok (.invokeinterface 7 2, 5) := by decide +kernel
theorem dX3_greatest_7 : decode cX3_greatest 7 = .ok (.istore_n 1, 1) := dk_60 (dk_at dksX3_greatest_0 7 rfl rfl)
theorem dX3_greatest_8 : decode cX3_greatest 8 = .ok (.iconst 1, 1) := dk_4 (dk_at dksX3_greatest_0 8 rfl rfl)
theorem dX3_greatest_9 : decode cX3_greatest 9 = .ok (.istore_n 2, 1) := dk_61 (dk_at dksX3_greatest_0 9 rfl rfl)
theorem dX3_greatest_10 : decode cX3_greatest 10 = .ok (.iload_n 2, 1) := dk_28 (dk_at dksX3_greatest_0 10 rfl rfl)
theorem dX3_greatest_11 : decode cX3_greatest 11 = .ok (.aload_n 0, 1) := dk_42 (dk_at dksX3_greatest_0 11 rfl rfl)
theorem dX3_greatest_12 : decode cX3_greatest 12 = .ok (.invokeinterface 1 1, 5) := by decide +kernel
theorem dX3_greatest_17 : decode cX3_greatest 17 = .ok (.if_icmp .ge 21, 3) := dk_162 0 21 (dk_at dksX3_greatest_0 17 rfl rfl)
theorem dX3_greatest_20 : decode cX3_greatest 20 = .ok (.iload_n 1, 1) := dk_27 (dk_at dksX3_greatest_0 20 rfl rfl)
theorem dX3_greatest_21 : decode cX3_greatest 21 = .ok (.aload_n 0, 1) := dk_42 (dk_at dksX3_greatest_0 21 rfl rfl)
theorem dX3_greatest_22 : decode cX3_greatest 22 = .ok (.iload_n 2, 1) := dk_28 (dk_at dksX3_greatest_0 22 rfl rfl)
theorem dX3_greatest_23 : decode cX3_greatest 23 = .ok (.invokeinterface 7 2, 5) := by decide +kernel
theorem dX3_greatest_28 : decode cX3_greatest 28 = .ok (.invokestatic 17, 3) := dk_184 0 17 (dk_at dksX3_greatest_1 5 rfl rfl)
theorem dX3_greatest_31 : decode cX3_greatest 31 = .ok (.istore_n 1, 1) := dk_60 (dk_at dksX3_greatest_1 8 rfl rfl)
theorem dX3_greatest_32 : decode cX3_greatest 32 = .ok (.iinc 2 1, 3) := dk_132 2 1 (dk_at dksX3_greatest_1 9 rfl rfl)
theorem dX3_greatest_35 : decode cX3_greatest 35 = .ok (.goto (-25), 3) := dk_167 255 231 (dk_at dksX3_greatest_1 12 rfl rfl)
theorem dX3_greatest_38 : decode cX3_greatest 38 = .ok (.iload_n 1, 1) := dk_27 (dk_at dksX3_greatest_1 15 rfl rfl)
theorem dX3_greatest_39 : decode cX3_greatest 39 = .ok (.ireturn, 1) := dk_172 (dk_at dksX3_greatest_1 16 rfl rfl)
def dkwX3_sum_1 : List UInt8 := [132, 2, 1, 167, 255, 233, 27, 172]
abbrev dktX3_sum_1 : List UInt8 := dkwX3_sum_1 ++ []
def dkwX3_sum_0 : List UInt8 := [3, 60, 3, 61, 28, 42, 185, 0, 1, 1, 0, 162, 0, 19, 27, 42, 28, 185, 0, 7, 2, 0, 96, 60]
abbrev dktX3_sum_0 : List UInt8 := dkwX3_sum_0 ++ dktX3_sum_1
theorem dksX3_sum_0 : cX3_sum.data.toList.drop 0 = dktX3_sum_0 := by decide +kernel
theorem dksX3_sum_1 : cX3_sum.data.toList.drop 24 = dktX3_sum_1 := dk_seg dksX3_sum_0 24 rfl rfl
theorem dX3_sum_0 : decode cX3_sum 0 = .ok (.iconst 0, 1) := dk_3 (dk_at dksX3_sum_0 0 rfl rfl)
theorem dX3_sum_1 : decode cX3_sum 1 = .ok (.istore_n 1, 1) := dk_60 (dk_at dksX3_sum_0 1 rfl rfl)
theorem dX3_sum_2 : decode cX3_sum 2 = .ok (.iconst 0, 1) := dk_3 (dk_at dksX3_sum_0 2 rfl rfl)
theorem dX3_sum_3 : decode cX3_sum 3 = .ok (.istore_n 2, 1) := dk_61 (dk_at dksX3_sum_0 3 rfl rfl)
theorem dX3_sum_4 : decode cX3_sum 4 = .ok (.iload_n 2, 1) := dk_28 (dk_at dksX3_sum_0 4 rfl rfl)
theorem dX3_sum_5 : decode cX3_sum 5 = .ok (.aload_n 0, 1) := dk_42 (dk_at dksX3_sum_0 5 rfl rfl)
theorem dX3_sum_6 : decode cX3_sum 6 = .ok (.invokeinterface 1 1, 5) := by decide +kernel
theorem dX3_sum_11 : decode cX3_sum 11 = .ok (.if_icmp .ge 19, 3) := dk_162 0 19 (dk_at dksX3_sum_0 11 rfl rfl)
theorem dX3_sum_14 : decode cX3_sum 14 = .ok (.iload_n 1, 1) := dk_27 (dk_at dksX3_sum_0 14 rfl rfl)
theorem dX3_sum_15 : decode cX3_sum 15 = .ok (.aload_n 0, 1) := dk_42 (dk_at dksX3_sum_0 15 rfl rfl)
theorem dX3_sum_16 : decode cX3_sum 16 = .ok (.iload_n 2, 1) := dk_28 (dk_at dksX3_sum_0 16 rfl rfl)
theorem dX3_sum_17 : decode cX3_sum 17 = .ok (.invokeinterface 7 2, 5) := by decide +kernel
theorem dX3_sum_22 : decode cX3_sum 22 = .ok (.iadd, 1) := dk_96 (dk_at dksX3_sum_0 22 rfl rfl)
theorem dX3_sum_23 : decode cX3_sum 23 = .ok (.istore_n 1, 1) := dk_60 (dk_at dksX3_sum_0 23 rfl rfl)
theorem dX3_sum_24 : decode cX3_sum 24 = .ok (.iinc 2 1, 3) := dk_132 2 1 (dk_at dksX3_sum_1 0 rfl rfl)
theorem dX3_sum_27 : decode cX3_sum 27 = .ok (.goto (-23), 3) := dk_167 255 233 (dk_at dksX3_sum_1 3 rfl rfl)
theorem dX3_sum_30 : decode cX3_sum 30 = .ok (.iload_n 1, 1) := dk_27 (dk_at dksX3_sum_1 6 rfl rfl)
theorem dX3_sum_31 : decode cX3_sum 31 = .ok (.ireturn, 1) := dk_172 (dk_at dksX3_sum_1 7 rfl rfl)
def dkwX3_run_3 : List UInt8 := [29, 172]
abbrev dktX3_run_3 : List UInt8 := dkwX3_run_3 ++ []
def dkwX3_run_2 : List UInt8 := [162, 0, 24, 42, 21, 4, 185, 0, 7, 2, 0, 28, 161, 0, 12, 132, 3, 1, 132, 4, 1, 167, 255, 227]
abbrev dktX3_run_2 : List UInt8 := dkwX3_run_2 ++ dktX3_run_3
def dkwX3_run_1 : List UInt8 := [132, 3, 1, 132, 4, 255, 167, 255, 233, 27, 4, 96, 54, 4, 21, 4, 42, 185, 0, 1, 1, 0]
abbrev dktX3_run_1 : List UInt8 := dkwX3_run_1 ++ dktX3_run_2
def dkwX3_run_0 : List UInt8 := [4, 62, 27, 4, 100, 54, 4, 21, 4, 155, 0, 24, 42, 21, 4, 185, 0, 7, 2, 0, 28, 161, 0, 12]
abbrev dktX3_run_0 : List UInt8 := dkwX3_run_0 ++ dktX3_run_1
theorem dksX3_run_0 : cX3_run.data.toList.drop 0 = dktX3_run_0 := by decide +kernel
theorem dksX3_run_1 : cX3_run.data.toList.drop 24 = dktX3_run_1 := dk_seg dksX3_run_0 24 rfl rfl
theorem dksX3_run_2 : cX3_run.data.toList.drop 46 = dktX3_run_2 := dk_seg dksX3_run_1 22 rfl rfl
theorem dksX3_run_3 : cX3_run.data.toList.drop 70 = dktX3_run_3 := dk_seg dksX3_run_2 24 rfl rfl
theorem dX3_run_0 : decode cX3_run 0 = .ok (.iconst 1, 1) := dk_4 (dk_at dksX3_run_0 0 rfl rfl)
theorem dX3_run_1 : decode cX3_run 1 = .ok (.istore_n 3, 1) := dk_62 (dk_at dksX3_run_0 1 rfl rfl)
theorem dX3_run_2 : decode cX3_run 2 = .ok (.iload_n 1, 1) := dk_27 (dk_at dksX3_run_0 2 rfl rfl)
theorem dX3_run_3 : decode cX3_run 3 = .ok (.iconst 1, 1) := dk_4 (dk_at dksX3_run_0 3 rfl rfl)
theorem dX3_run_4 : decode cX3_run 4 = .ok (.isub, 1) := dk_100 (dk_at dksX3_run_0 4 rfl rfl)
theorem dX3_run_5 : decode cX3_run 5 = .ok (.istore 4, 2) := dk_54 4 (dk_at dksX3_run_0 5 rfl rfl)
theorem dX3_run_7 : decode cX3_run 7 = .ok (.iload 4, 2) := dk_21 4 (dk_at dksX3_run_0 7 rfl rfl)
theorem dX3_run_9 : decode cX3_run 9 = .ok (.ifCond .lt 24, 3) := dk_155 0 24 (dk_at dksX3_run_0 9 rfl rfl)
theorem dX3_run_12 : decode cX3_run 12 = .ok (.aload_n 0, 1) := dk_42 (dk_at dksX3_run_0 12 rfl rfl)
theorem dX3_run_13 : decode cX3_run 13 = .ok (.iload 4, 2) := dk_21 4 (dk_at dksX3_run_0 13 rfl rfl)
theorem dX3_run_15 : decode cX3_run 15 = .ok (.invokeinterface 7 2, 5) := by decide +kernel
theorem dX3_run_20 : decode cX3_run 20 = .ok (.iload_n 2, 1) := dk_28 (dk_at dksX3_run_0 20 rfl rfl)
theorem dX3_run_21 : decode cX3_run 21 = .ok (.if_icmp .lt 12, 3) := dk_161 0 12 (dk_at dksX3_run_0 21 rfl rfl)
theorem dX3_run_24 : decode cX3_run 24 = .ok (.iinc 3 1, 3) := dk_132 3 1 (dk_at dksX3_run_1 0 rfl rfl)
theorem dX3_run_27 : decode cX3_run 27 = .ok (.iinc 4 (-1), 3) := dk_132 4 255 (dk_at dksX3_run_1 3 rfl rfl)
theorem dX3_run_30 : decode cX3_run 30 = .ok (.goto (-23), 3) := dk_167 255 233 (dk_at dksX3_run_1 6 rfl rfl)
theorem dX3_run_33 : decode cX3_run 33 = .ok (.iload_n 1, 1) := dk_27 (dk_at dksX3_run_1 9 rfl rfl)
theorem dX3_run_34 : decode cX3_run 34 = .ok (.iconst 1, 1) := dk_4 (dk_at dksX3_run_1 10 rfl rfl)
theorem dX3_run_35 : decode cX3_run 35 = .ok (.iadd, 1) := dk_96 (dk_at dksX3_run_1 11 rfl rfl)
theorem dX3_run_36 : decode cX3_run 36 = .ok (.istore 4, 2) := dk_54 4 (dk_at dksX3_run_1 12 rfl rfl)
theorem dX3_run_38 : decode cX3_run 38 = .ok (.iload 4, 2) := dk_21 4 (dk_at dksX3_run_1 14 rfl rfl)
theorem dX3_run_40 : decode cX3_run 40 = .ok (.aload_n 0, 1) := dk_42 (dk_at dksX3_run_1 16 rfl rfl)
theorem dX3_run_41 : decode cX3_run 41 = .ok (.invokeinterface 1 1, 5) := by decide +kernel
theorem dX3_run_46 : decode cX3_run 46 = .ok (.if_icmp .ge 24, 3) := dk_162 0 24 (dk_at dksX3_run_2 0 rfl rfl)
theorem dX3_run_49 : decode cX3_run 49 = .ok (.aload_n 0, 1) := dk_42 (dk_at dksX3_run_2 3 rfl rfl)
theorem dX3_run_50 : decode cX3_run 50 = .ok (.iload 4, 2) := dk_21 4 (dk_at dksX3_run_2 4 rfl rfl)
theorem dX3_run_52 : decode cX3_run 52 = .ok (.invokeinterface 7 2, 5) := by decide +kernel
theorem dX3_run_57 : decode cX3_run 57 = .ok (.iload_n 2, 1) := dk_28 (dk_at dksX3_run_2 11 rfl rfl)
theorem dX3_run_58 : decode cX3_run 58 = .ok (.if_icmp .lt 12, 3) := dk_161 0 12 (dk_at dksX3_run_2 12 rfl rfl)
theorem dX3_run_61 : decode cX3_run 61 = .ok (.iinc 3 1, 3) := dk_132 3 1 (dk_at dksX3_run_2 15 rfl rfl)
theorem dX3_run_64 : decode cX3_run 64 = .ok (.iinc 4 1, 3) := dk_132 4 1 (dk_at dksX3_run_2 18 rfl rfl)
theorem dX3_run_67 : decode cX3_run 67 = .ok (.goto (-29), 3) := dk_167 255 227 (dk_at dksX3_run_2 21 rfl rfl)
theorem dX3_run_70 : decode cX3_run 70 = .ok (.iload_n 3, 1) := dk_29 (dk_at dksX3_run_3 0 rfl rfl)
theorem dX3_run_71 : decode cX3_run 71 = .ok (.ireturn, 1) := dk_172 (dk_at dksX3_run_3 1 rfl rfl)
def dkwX3_apart_3 : List UInt8 := [61, 132, 3, 1, 167, 255, 185, 28, 172]
abbrev dktX3_apart_3 : List UInt8 := dkwX3_apart_3 ++ []
def dkwX3_apart_2 : List UInt8 := [185, 0, 1, 1, 0, 162, 0, 13, 43, 29, 185, 0, 7, 2, 0, 167, 0, 4, 3, 100, 184, 0, 20, 96]
abbrev dktX3_apart_2 : List UInt8 := dkwX3_apart_2 ++ dktX3_apart_3
def dkwX3_apart_1 : List UInt8 := [29, 42, 185, 0, 1, 1, 0, 162, 0, 13, 42, 29, 185, 0, 7, 2, 0, 167, 0, 4, 3, 29, 43]
abbrev dktX3_apart_1 : List UInt8 := dkwX3_apart_1 ++ dktX3_apart_2
def dkwX3_apart_0 : List UInt8 := [3, 61, 3, 62, 29, 42, 185, 0, 1, 1, 0, 43, 185, 0, 1, 1, 0, 184, 0, 17, 162, 0, 58, 28]
abbrev dktX3_apart_0 : List UInt8 := dkwX3_apart_0 ++ dktX3_apart_1
theorem dksX3_apart_0 : cX3_apart.data.toList.drop 0 = dktX3_apart_0 := by decide +kernel
theorem dksX3_apart_1 : cX3_apart.data.toList.drop 24 = dktX3_apart_1 := dk_seg dksX3_apart_0 24 rfl rfl
theorem dksX3_apart_2 : cX3_apart.data.toList.drop 47 = dktX3_apart_2 := dk_seg dksX3_apart_1 23 rfl rfl
theorem dksX3_apart_3 : cX3_apart.data.toList.drop 71 = dktX3_apart_3 := dk_seg dksX3_apart_2 24 rfl rfl
theorem dX3_apart_0 : decode cX3_apart 0 = .ok (.iconst 0, 1) := dk_3 (dk_at dksX3_apart_0 0 rfl rfl)
theorem dX3_apart_1 : decode cX3_apart 1 = .ok (.istore_n 2, 1) := dk_61 (dk_at dksX3_apart_0 1 rfl rfl)
theorem dX3_apart_2 : decode cX3_apart 2 = .ok (.iconst 0, 1) := dk_3 (dk_at dksX3_apart_0 2 rfl rfl)
theorem dX3_apart_3 : decode cX3_apart 3 = .ok (.istore_n 3, 1) := dk_62 (dk_at dksX3_apart_0 3 rfl rfl)
theorem dX3_apart_4 : decode cX3_apart 4 = .ok (.iload_n 3, 1) := dk_29 (dk_at dksX3_apart_0 4 rfl rfl)
theorem dX3_apart_5 : decode cX3_apart 5 = .ok (.aload_n 0, 1) := dk_42 (dk_at dksX3_apart_0 5 rfl rfl)
theorem dX3_apart_6 : decode cX3_apart 6 = .ok (.invokeinterface 1 1, 5) := by decide +kernel
theorem dX3_apart_11 : decode cX3_apart 11 = .ok (.aload_n 1, 1) := dk_43 (dk_at dksX3_apart_0 11 rfl rfl)
theorem dX3_apart_12 : decode cX3_apart 12 = .ok (.invokeinterface 1 1, 5) := by decide +kernel
theorem dX3_apart_17 : decode cX3_apart 17 = .ok (.invokestatic 17, 3) := dk_184 0 17 (dk_at dksX3_apart_0 17 rfl rfl)
theorem dX3_apart_20 : decode cX3_apart 20 = .ok (.if_icmp .ge 58, 3) := dk_162 0 58 (dk_at dksX3_apart_0 20 rfl rfl)
theorem dX3_apart_23 : decode cX3_apart 23 = .ok (.iload_n 2, 1) := dk_28 (dk_at dksX3_apart_0 23 rfl rfl)
theorem dX3_apart_24 : decode cX3_apart 24 = .ok (.iload_n 3, 1) := dk_29 (dk_at dksX3_apart_1 0 rfl rfl)
theorem dX3_apart_25 : decode cX3_apart 25 = .ok (.aload_n 0, 1) := dk_42 (dk_at dksX3_apart_1 1 rfl rfl)
theorem dX3_apart_26 : decode cX3_apart 26 = .ok (.invokeinterface 1 1, 5) := by decide +kernel
theorem dX3_apart_31 : decode cX3_apart 31 = .ok (.if_icmp .ge 13, 3) := dk_162 0 13 (dk_at dksX3_apart_1 7 rfl rfl)
theorem dX3_apart_34 : decode cX3_apart 34 = .ok (.aload_n 0, 1) := dk_42 (dk_at dksX3_apart_1 10 rfl rfl)
theorem dX3_apart_35 : decode cX3_apart 35 = .ok (.iload_n 3, 1) := dk_29 (dk_at dksX3_apart_1 11 rfl rfl)
theorem dX3_apart_36 : decode cX3_apart 36 = .ok (.invokeinterface 7 2, 5) := by decide +kernel
theorem dX3_apart_41 : decode cX3_apart 41 = .ok (.goto 4, 3) := dk_167 0 4 (dk_at dksX3_apart_1 17 rfl rfl)
theorem dX3_apart_44 : decode cX3_apart 44 = .ok (.iconst 0, 1) := dk_3 (dk_at dksX3_apart_1 20 rfl rfl)
theorem dX3_apart_45 : decode cX3_apart 45 = .ok (.iload_n 3, 1) := dk_29 (dk_at dksX3_apart_1 21 rfl rfl)
theorem dX3_apart_46 : decode cX3_apart 46 = .ok (.aload_n 1, 1) := dk_43 (dk_at dksX3_apart_1 22 rfl rfl)
theorem dX3_apart_47 : decode cX3_apart 47 = .ok (.invokeinterface 1 1, 5) := by decide +kernel
theorem dX3_apart_52 : decode cX3_apart 52 = .ok (.if_icmp .ge 13, 3) := dk_162 0 13 (dk_at dksX3_apart_2 5 rfl rfl)
theorem dX3_apart_55 : decode cX3_apart 55 = .ok (.aload_n 1, 1) := dk_43 (dk_at dksX3_apart_2 8 rfl rfl)
theorem dX3_apart_56 : decode cX3_apart 56 = .ok (.iload_n 3, 1) := dk_29 (dk_at dksX3_apart_2 9 rfl rfl)
theorem dX3_apart_57 : decode cX3_apart 57 = .ok (.invokeinterface 7 2, 5) := by decide +kernel
theorem dX3_apart_62 : decode cX3_apart 62 = .ok (.goto 4, 3) := dk_167 0 4 (dk_at dksX3_apart_2 15 rfl rfl)
theorem dX3_apart_65 : decode cX3_apart 65 = .ok (.iconst 0, 1) := dk_3 (dk_at dksX3_apart_2 18 rfl rfl)
theorem dX3_apart_66 : decode cX3_apart 66 = .ok (.isub, 1) := dk_100 (dk_at dksX3_apart_2 19 rfl rfl)
theorem dX3_apart_67 : decode cX3_apart 67 = .ok (.invokestatic 20, 3) := dk_184 0 20 (dk_at dksX3_apart_2 20 rfl rfl)
theorem dX3_apart_70 : decode cX3_apart 70 = .ok (.iadd, 1) := dk_96 (dk_at dksX3_apart_2 23 rfl rfl)
theorem dX3_apart_71 : decode cX3_apart 71 = .ok (.istore_n 2, 1) := dk_61 (dk_at dksX3_apart_3 0 rfl rfl)
theorem dX3_apart_72 : decode cX3_apart 72 = .ok (.iinc 3 1, 3) := dk_132 3 1 (dk_at dksX3_apart_3 1 rfl rfl)
theorem dX3_apart_75 : decode cX3_apart 75 = .ok (.goto (-71), 3) := dk_167 255 185 (dk_at dksX3_apart_3 4 rfl rfl)
theorem dX3_apart_78 : decode cX3_apart 78 = .ok (.iload_n 2, 1) := dk_28 (dk_at dksX3_apart_3 7 rfl rfl)
theorem dX3_apart_79 : decode cX3_apart 79 = .ok (.ireturn, 1) := dk_172 (dk_at dksX3_apart_3 8 rfl rfl)
def dkwX4_init_0 : List UInt8 := [42, 183, 0, 1, 42, 43, 181, 0, 7, 177]
abbrev dktX4_init_0 : List UInt8 := dkwX4_init_0 ++ []
theorem dksX4_init_0 : cX4_init.data.toList.drop 0 = dktX4_init_0 := by decide +kernel
theorem dX4_init_0 : decode cX4_init 0 = .ok (.aload_n 0, 1) := dk_42 (dk_at dksX4_init_0 0 rfl rfl)
theorem dX4_init_1 : decode cX4_init 1 = .ok (.invokespecial 1, 3) := dk_183 0 1 (dk_at dksX4_init_0 1 rfl rfl)
theorem dX4_init_4 : decode cX4_init 4 = .ok (.aload_n 0, 1) := dk_42 (dk_at dksX4_init_0 4 rfl rfl)
theorem dX4_init_5 : decode cX4_init 5 = .ok (.aload_n 1, 1) := dk_43 (dk_at dksX4_init_0 5 rfl rfl)
theorem dX4_init_6 : decode cX4_init 6 = .ok (.putfield 7, 3) := dk_181 0 7 (dk_at dksX4_init_0 6 rfl rfl)
theorem dX4_init_9 : decode cX4_init 9 = .ok (.return_, 1) := dk_177 (dk_at dksX4_init_0 9 rfl rfl)
def dkwX5_init_3 : List UInt8 := [89, 183, 0, 33, 83, 132, 1, 1, 167, 255, 234, 177]
abbrev dktX5_init_3 : List UInt8 := dkwX5_init_3 ++ []
def dkwX5_init_2 : List UInt8 := [42, 16, 48, 188, 10, 181, 0, 30, 3, 60, 27, 16, 48, 162, 0, 22, 42, 180, 0, 11, 27, 187, 0, 9]
abbrev dktX5_init_2 : List UInt8 := dkwX5_init_2 ++ dktX5_init_3
def dkwX5_init_1 : List UInt8 := [16, 48, 189, 0, 9, 181, 0, 20, 42, 16, 48, 188, 10, 181, 0, 23, 42, 16, 8, 188, 10, 181, 0, 27]
abbrev dktX5_init_1 : List UInt8 := dkwX5_init_1 ++ dktX5_init_2
def dkwX5_init_0 : List UInt8 := [42, 183, 0, 3, 42, 16, 48, 189, 0, 9, 181, 0, 11, 42, 16, 48, 189, 0, 9, 181, 0, 17, 42]
abbrev dktX5_init_0 : List UInt8 := dkwX5_init_0 ++ dktX5_init_1
theorem dksX5_init_0 : cX5_init.data.toList.drop 0 = dktX5_init_0 := by decide +kernel
theorem dksX5_init_1 : cX5_init.data.toList.drop 23 = dktX5_init_1 := dk_seg dksX5_init_0 23 rfl rfl
theorem dksX5_init_2 : cX5_init.data.toList.drop 47 = dktX5_init_2 := dk_seg dksX5_init_1 24 rfl rfl
theorem dksX5_init_3 : cX5_init.data.toList.drop 71 = dktX5_init_3 := dk_seg dksX5_init_2 24 rfl rfl
theorem dX5_init_0 : decode cX5_init 0 = .ok (.aload_n 0, 1) := dk_42 (dk_at dksX5_init_0 0 rfl rfl)
theorem dX5_init_1 : decode cX5_init 1 = .ok (.invokespecial 3, 3) := dk_183 0 3 (dk_at dksX5_init_0 1 rfl rfl)
theorem dX5_init_4 : decode cX5_init 4 = .ok (.aload_n 0, 1) := dk_42 (dk_at dksX5_init_0 4 rfl rfl)
theorem dX5_init_5 : decode cX5_init 5 = .ok (.bipush 48, 2) := dk_16 48 (dk_at dksX5_init_0 5 rfl rfl)
theorem dX5_init_7 : decode cX5_init 7 = .ok (.anewarray 9, 3) := dk_189 0 9 (dk_at dksX5_init_0 7 rfl rfl)
theorem dX5_init_10 : decode cX5_init 10 = .ok (.putfield 11, 3) := dk_181 0 11 (dk_at dksX5_init_0 10 rfl rfl)
theorem dX5_init_13 : decode cX5_init 13 = .ok (.aload_n 0, 1) := dk_42 (dk_at dksX5_init_0 13 rfl rfl)
theorem dX5_init_14 : decode cX5_init 14 = .ok (.bipush 48, 2) := dk_16 48 (dk_at dksX5_init_0 14 rfl rfl)
theorem dX5_init_16 : decode cX5_init 16 = .ok (.anewarray 9, 3) := dk_189 0 9 (dk_at dksX5_init_0 16 rfl rfl)
theorem dX5_init_19 : decode cX5_init 19 = .ok (.putfield 17, 3) := dk_181 0 17 (dk_at dksX5_init_0 19 rfl rfl)
theorem dX5_init_22 : decode cX5_init 22 = .ok (.aload_n 0, 1) := dk_42 (dk_at dksX5_init_0 22 rfl rfl)
theorem dX5_init_23 : decode cX5_init 23 = .ok (.bipush 48, 2) := dk_16 48 (dk_at dksX5_init_1 0 rfl rfl)
theorem dX5_init_25 : decode cX5_init 25 = .ok (.anewarray 9, 3) := dk_189 0 9 (dk_at dksX5_init_1 2 rfl rfl)
theorem dX5_init_28 : decode cX5_init 28 = .ok (.putfield 20, 3) := dk_181 0 20 (dk_at dksX5_init_1 5 rfl rfl)
theorem dX5_init_31 : decode cX5_init 31 = .ok (.aload_n 0, 1) := dk_42 (dk_at dksX5_init_1 8 rfl rfl)
theorem dX5_init_32 : decode cX5_init 32 = .ok (.bipush 48, 2) := dk_16 48 (dk_at dksX5_init_1 9 rfl rfl)
theorem dX5_init_34 : decode cX5_init 34 = .ok (.newarray .int, 2) := dk_188_10 (dk_at dksX5_init_1 11 rfl rfl)
theorem dX5_init_36 : decode cX5_init 36 = .ok (.putfield 23, 3) := dk_181 0 23 (dk_at dksX5_init_1 13 rfl rfl)
theorem dX5_init_39 : decode cX5_init 39 = .ok (.aload_n 0, 1) := dk_42 (dk_at dksX5_init_1 16 rfl rfl)
theorem dX5_init_40 : decode cX5_init 40 = .ok (.bipush 8, 2) := dk_16 8 (dk_at dksX5_init_1 17 rfl rfl)
theorem dX5_init_42 : decode cX5_init 42 = .ok (.newarray .int, 2) := dk_188_10 (dk_at dksX5_init_1 19 rfl rfl)
theorem dX5_init_44 : decode cX5_init 44 = .ok (.putfield 27, 3) := dk_181 0 27 (dk_at dksX5_init_1 21 rfl rfl)
theorem dX5_init_47 : decode cX5_init 47 = .ok (.aload_n 0, 1) := dk_42 (dk_at dksX5_init_2 0 rfl rfl)
theorem dX5_init_48 : decode cX5_init 48 = .ok (.bipush 48, 2) := dk_16 48 (dk_at dksX5_init_2 1 rfl rfl)
theorem dX5_init_50 : decode cX5_init 50 = .ok (.newarray .int, 2) := dk_188_10 (dk_at dksX5_init_2 3 rfl rfl)
theorem dX5_init_52 : decode cX5_init 52 = .ok (.putfield 30, 3) := dk_181 0 30 (dk_at dksX5_init_2 5 rfl rfl)
theorem dX5_init_55 : decode cX5_init 55 = .ok (.iconst 0, 1) := dk_3 (dk_at dksX5_init_2 8 rfl rfl)
theorem dX5_init_56 : decode cX5_init 56 = .ok (.istore_n 1, 1) := dk_60 (dk_at dksX5_init_2 9 rfl rfl)
theorem dX5_init_57 : decode cX5_init 57 = .ok (.iload_n 1, 1) := dk_27 (dk_at dksX5_init_2 10 rfl rfl)
theorem dX5_init_58 : decode cX5_init 58 = .ok (.bipush 48, 2) := dk_16 48 (dk_at dksX5_init_2 11 rfl rfl)
theorem dX5_init_60 : decode cX5_init 60 = .ok (.if_icmp .ge 22, 3) := dk_162 0 22 (dk_at dksX5_init_2 13 rfl rfl)
theorem dX5_init_63 : decode cX5_init 63 = .ok (.aload_n 0, 1) := dk_42 (dk_at dksX5_init_2 16 rfl rfl)
theorem dX5_init_64 : decode cX5_init 64 = .ok (.getfield 11, 3) := dk_180 0 11 (dk_at dksX5_init_2 17 rfl rfl)
theorem dX5_init_67 : decode cX5_init 67 = .ok (.iload_n 1, 1) := dk_27 (dk_at dksX5_init_2 20 rfl rfl)
theorem dX5_init_68 : decode cX5_init 68 = .ok (.new 9, 3) := dk_187 0 9 (dk_at dksX5_init_2 21 rfl rfl)
theorem dX5_init_71 : decode cX5_init 71 = .ok (.dup, 1) := dk_89 (dk_at dksX5_init_3 0 rfl rfl)
theorem dX5_init_72 : decode cX5_init 72 = .ok (.invokespecial 33, 3) := dk_183 0 33 (dk_at dksX5_init_3 1 rfl rfl)
theorem dX5_init_75 : decode cX5_init 75 = .ok (.aastore, 1) := dk_83 (dk_at dksX5_init_3 4 rfl rfl)
theorem dX5_init_76 : decode cX5_init 76 = .ok (.iinc 1 1, 3) := dk_132 1 1 (dk_at dksX5_init_3 5 rfl rfl)
theorem dX5_init_79 : decode cX5_init 79 = .ok (.goto (-22), 3) := dk_167 255 234 (dk_at dksX5_init_3 8 rfl rfl)
theorem dX5_init_82 : decode cX5_init 82 = .ok (.return_, 1) := dk_177 (dk_at dksX5_init_3 11 rfl rfl)
def dkwX5_of_5 : List UInt8 := [167, 255, 234, 42, 182, 0, 55, 42, 28, 182, 0, 58, 42, 176]
abbrev dktX5_of_5 : List UInt8 := dkwX5_of_5 ++ []
def dkwX5_of_4 : List UInt8 := [29, 43, 180, 0, 46, 162, 0, 20, 42, 42, 180, 0, 23, 29, 46, 29, 182, 0, 51, 132, 3, 1]
abbrev dktX5_of_4 : List UInt8 := dkwX5_of_4 ++ dktX5_of_5
def dkwX5_of_3 : List UInt8 := [46, 79, 132, 4, 255, 167, 255, 209, 42, 180, 0, 23, 21, 4, 29, 79, 132, 3, 1, 167, 255, 177, 3, 62]
abbrev dktX5_of_3 : List UInt8 := dkwX5_of_3 ++ dktX5_of_4
def dkwX5_of_2 : List UInt8 := [46, 43, 180, 0, 49, 29, 46, 162, 0, 25, 42, 180, 0, 23, 21, 4, 42, 180, 0, 23, 21, 4, 4, 100]
abbrev dktX5_of_2 : List UInt8 := dkwX5_of_2 ++ dktX5_of_3
def dkwX5_of_1 : List UInt8 := [29, 1, 83, 29, 54, 4, 21, 4, 158, 0, 48, 43, 180, 0, 49, 42, 180, 0, 23, 21, 4, 4, 100, 46]
abbrev dktX5_of_1 : List UInt8 := dkwX5_of_1 ++ dktX5_of_2
def dkwX5_of_0 : List UInt8 := [42, 43, 181, 0, 42, 42, 3, 181, 0, 34, 3, 62, 29, 43, 180, 0, 46, 162, 0, 77, 42, 180, 0, 20]
abbrev dktX5_of_0 : List UInt8 := dkwX5_of_0 ++ dktX5_of_1
theorem dksX5_of_0 : cX5_of.data.toList.drop 0 = dktX5_of_0 := by decide +kernel
theorem dksX5_of_1 : cX5_of.data.toList.drop 24 = dktX5_of_1 := dk_seg dksX5_of_0 24 rfl rfl
theorem dksX5_of_2 : cX5_of.data.toList.drop 48 = dktX5_of_2 := dk_seg dksX5_of_1 24 rfl rfl
theorem dksX5_of_3 : cX5_of.data.toList.drop 72 = dktX5_of_3 := dk_seg dksX5_of_2 24 rfl rfl
theorem dksX5_of_4 : cX5_of.data.toList.drop 96 = dktX5_of_4 := dk_seg dksX5_of_3 24 rfl rfl
theorem dksX5_of_5 : cX5_of.data.toList.drop 118 = dktX5_of_5 := dk_seg dksX5_of_4 22 rfl rfl
theorem dX5_of_0 : decode cX5_of 0 = .ok (.aload_n 0, 1) := dk_42 (dk_at dksX5_of_0 0 rfl rfl)
theorem dX5_of_1 : decode cX5_of 1 = .ok (.aload_n 1, 1) := dk_43 (dk_at dksX5_of_0 1 rfl rfl)
theorem dX5_of_2 : decode cX5_of 2 = .ok (.putfield 42, 3) := dk_181 0 42 (dk_at dksX5_of_0 2 rfl rfl)
theorem dX5_of_5 : decode cX5_of 5 = .ok (.aload_n 0, 1) := dk_42 (dk_at dksX5_of_0 5 rfl rfl)
theorem dX5_of_6 : decode cX5_of 6 = .ok (.iconst 0, 1) := dk_3 (dk_at dksX5_of_0 6 rfl rfl)
theorem dX5_of_7 : decode cX5_of 7 = .ok (.putfield 34, 3) := dk_181 0 34 (dk_at dksX5_of_0 7 rfl rfl)
theorem dX5_of_10 : decode cX5_of 10 = .ok (.iconst 0, 1) := dk_3 (dk_at dksX5_of_0 10 rfl rfl)
theorem dX5_of_11 : decode cX5_of 11 = .ok (.istore_n 3, 1) := dk_62 (dk_at dksX5_of_0 11 rfl rfl)
theorem dX5_of_12 : decode cX5_of 12 = .ok (.iload_n 3, 1) := dk_29 (dk_at dksX5_of_0 12 rfl rfl)
theorem dX5_of_13 : decode cX5_of 13 = .ok (.aload_n 1, 1) := dk_43 (dk_at dksX5_of_0 13 rfl rfl)
theorem dX5_of_14 : decode cX5_of 14 = .ok (.getfield 46, 3) := dk_180 0 46 (dk_at dksX5_of_0 14 rfl rfl)
theorem dX5_of_17 : decode cX5_of 17 = .ok (.if_icmp .ge 77, 3) := dk_162 0 77 (dk_at dksX5_of_0 17 rfl rfl)
theorem dX5_of_20 : decode cX5_of 20 = .ok (.aload_n 0, 1) := dk_42 (dk_at dksX5_of_0 20 rfl rfl)
theorem dX5_of_21 : decode cX5_of 21 = .ok (.getfield 20, 3) := dk_180 0 20 (dk_at dksX5_of_0 21 rfl rfl)
theorem dX5_of_24 : decode cX5_of 24 = .ok (.iload_n 3, 1) := dk_29 (dk_at dksX5_of_1 0 rfl rfl)
theorem dX5_of_25 : decode cX5_of 25 = .ok (.aconst_null, 1) := dk_1 (dk_at dksX5_of_1 1 rfl rfl)
theorem dX5_of_26 : decode cX5_of 26 = .ok (.aastore, 1) := dk_83 (dk_at dksX5_of_1 2 rfl rfl)
theorem dX5_of_27 : decode cX5_of 27 = .ok (.iload_n 3, 1) := dk_29 (dk_at dksX5_of_1 3 rfl rfl)
theorem dX5_of_28 : decode cX5_of 28 = .ok (.istore 4, 2) := dk_54 4 (dk_at dksX5_of_1 4 rfl rfl)
theorem dX5_of_30 : decode cX5_of 30 = .ok (.iload 4, 2) := dk_21 4 (dk_at dksX5_of_1 6 rfl rfl)
theorem dX5_of_32 : decode cX5_of 32 = .ok (.ifCond .le 48, 3) := dk_158 0 48 (dk_at dksX5_of_1 8 rfl rfl)
theorem dX5_of_35 : decode cX5_of 35 = .ok (.aload_n 1, 1) := dk_43 (dk_at dksX5_of_1 11 rfl rfl)
theorem dX5_of_36 : decode cX5_of 36 = .ok (.getfield 49, 3) := dk_180 0 49 (dk_at dksX5_of_1 12 rfl rfl)
theorem dX5_of_39 : decode cX5_of 39 = .ok (.aload_n 0, 1) := dk_42 (dk_at dksX5_of_1 15 rfl rfl)
theorem dX5_of_40 : decode cX5_of 40 = .ok (.getfield 23, 3) := dk_180 0 23 (dk_at dksX5_of_1 16 rfl rfl)
theorem dX5_of_43 : decode cX5_of 43 = .ok (.iload 4, 2) := dk_21 4 (dk_at dksX5_of_1 19 rfl rfl)
theorem dX5_of_45 : decode cX5_of 45 = .ok (.iconst 1, 1) := dk_4 (dk_at dksX5_of_1 21 rfl rfl)
theorem dX5_of_46 : decode cX5_of 46 = .ok (.isub, 1) := dk_100 (dk_at dksX5_of_1 22 rfl rfl)
theorem dX5_of_47 : decode cX5_of 47 = .ok (.iaload, 1) := dk_46 (dk_at dksX5_of_1 23 rfl rfl)
theorem dX5_of_48 : decode cX5_of 48 = .ok (.iaload, 1) := dk_46 (dk_at dksX5_of_2 0 rfl rfl)
theorem dX5_of_49 : decode cX5_of 49 = .ok (.aload_n 1, 1) := dk_43 (dk_at dksX5_of_2 1 rfl rfl)
theorem dX5_of_50 : decode cX5_of 50 = .ok (.getfield 49, 3) := dk_180 0 49 (dk_at dksX5_of_2 2 rfl rfl)
theorem dX5_of_53 : decode cX5_of 53 = .ok (.iload_n 3, 1) := dk_29 (dk_at dksX5_of_2 5 rfl rfl)
theorem dX5_of_54 : decode cX5_of 54 = .ok (.iaload, 1) := dk_46 (dk_at dksX5_of_2 6 rfl rfl)
theorem dX5_of_55 : decode cX5_of 55 = .ok (.if_icmp .ge 25, 3) := dk_162 0 25 (dk_at dksX5_of_2 7 rfl rfl)
theorem dX5_of_58 : decode cX5_of 58 = .ok (.aload_n 0, 1) := dk_42 (dk_at dksX5_of_2 10 rfl rfl)
theorem dX5_of_59 : decode cX5_of 59 = .ok (.getfield 23, 3) := dk_180 0 23 (dk_at dksX5_of_2 11 rfl rfl)
theorem dX5_of_62 : decode cX5_of 62 = .ok (.iload 4, 2) := dk_21 4 (dk_at dksX5_of_2 14 rfl rfl)
theorem dX5_of_64 : decode cX5_of 64 = .ok (.aload_n 0, 1) := dk_42 (dk_at dksX5_of_2 16 rfl rfl)
theorem dX5_of_65 : decode cX5_of 65 = .ok (.getfield 23, 3) := dk_180 0 23 (dk_at dksX5_of_2 17 rfl rfl)
theorem dX5_of_68 : decode cX5_of 68 = .ok (.iload 4, 2) := dk_21 4 (dk_at dksX5_of_2 20 rfl rfl)
theorem dX5_of_70 : decode cX5_of 70 = .ok (.iconst 1, 1) := dk_4 (dk_at dksX5_of_2 22 rfl rfl)
theorem dX5_of_71 : decode cX5_of 71 = .ok (.isub, 1) := dk_100 (dk_at dksX5_of_2 23 rfl rfl)
theorem dX5_of_72 : decode cX5_of 72 = .ok (.iaload, 1) := dk_46 (dk_at dksX5_of_3 0 rfl rfl)
theorem dX5_of_73 : decode cX5_of 73 = .ok (.iastore, 1) := dk_79 (dk_at dksX5_of_3 1 rfl rfl)
theorem dX5_of_74 : decode cX5_of 74 = .ok (.iinc 4 (-1), 3) := dk_132 4 255 (dk_at dksX5_of_3 2 rfl rfl)
theorem dX5_of_77 : decode cX5_of 77 = .ok (.goto (-47), 3) := dk_167 255 209 (dk_at dksX5_of_3 5 rfl rfl)
theorem dX5_of_80 : decode cX5_of 80 = .ok (.aload_n 0, 1) := dk_42 (dk_at dksX5_of_3 8 rfl rfl)
theorem dX5_of_81 : decode cX5_of 81 = .ok (.getfield 23, 3) := dk_180 0 23 (dk_at dksX5_of_3 9 rfl rfl)
theorem dX5_of_84 : decode cX5_of 84 = .ok (.iload 4, 2) := dk_21 4 (dk_at dksX5_of_3 12 rfl rfl)
theorem dX5_of_86 : decode cX5_of 86 = .ok (.iload_n 3, 1) := dk_29 (dk_at dksX5_of_3 14 rfl rfl)
theorem dX5_of_87 : decode cX5_of 87 = .ok (.iastore, 1) := dk_79 (dk_at dksX5_of_3 15 rfl rfl)
theorem dX5_of_88 : decode cX5_of 88 = .ok (.iinc 3 1, 3) := dk_132 3 1 (dk_at dksX5_of_3 16 rfl rfl)
theorem dX5_of_91 : decode cX5_of 91 = .ok (.goto (-79), 3) := dk_167 255 177 (dk_at dksX5_of_3 19 rfl rfl)
theorem dX5_of_94 : decode cX5_of 94 = .ok (.iconst 0, 1) := dk_3 (dk_at dksX5_of_3 22 rfl rfl)
theorem dX5_of_95 : decode cX5_of 95 = .ok (.istore_n 3, 1) := dk_62 (dk_at dksX5_of_3 23 rfl rfl)
theorem dX5_of_96 : decode cX5_of 96 = .ok (.iload_n 3, 1) := dk_29 (dk_at dksX5_of_4 0 rfl rfl)
theorem dX5_of_97 : decode cX5_of 97 = .ok (.aload_n 1, 1) := dk_43 (dk_at dksX5_of_4 1 rfl rfl)
theorem dX5_of_98 : decode cX5_of 98 = .ok (.getfield 46, 3) := dk_180 0 46 (dk_at dksX5_of_4 2 rfl rfl)
theorem dX5_of_101 : decode cX5_of 101 = .ok (.if_icmp .ge 20, 3) := dk_162 0 20 (dk_at dksX5_of_4 5 rfl rfl)
theorem dX5_of_104 : decode cX5_of 104 = .ok (.aload_n 0, 1) := dk_42 (dk_at dksX5_of_4 8 rfl rfl)
theorem dX5_of_105 : decode cX5_of 105 = .ok (.aload_n 0, 1) := dk_42 (dk_at dksX5_of_4 9 rfl rfl)
theorem dX5_of_106 : decode cX5_of 106 = .ok (.getfield 23, 3) := dk_180 0 23 (dk_at dksX5_of_4 10 rfl rfl)
theorem dX5_of_109 : decode cX5_of 109 = .ok (.iload_n 3, 1) := dk_29 (dk_at dksX5_of_4 13 rfl rfl)
theorem dX5_of_110 : decode cX5_of 110 = .ok (.iaload, 1) := dk_46 (dk_at dksX5_of_4 14 rfl rfl)
theorem dX5_of_111 : decode cX5_of 111 = .ok (.iload_n 3, 1) := dk_29 (dk_at dksX5_of_4 15 rfl rfl)
theorem dX5_of_112 : decode cX5_of 112 = .ok (.invokevirtual 51, 3) := dk_182 0 51 (dk_at dksX5_of_4 16 rfl rfl)
theorem dX5_of_115 : decode cX5_of 115 = .ok (.iinc 3 1, 3) := dk_132 3 1 (dk_at dksX5_of_4 19 rfl rfl)
theorem dX5_of_118 : decode cX5_of 118 = .ok (.goto (-22), 3) := dk_167 255 234 (dk_at dksX5_of_5 0 rfl rfl)
theorem dX5_of_121 : decode cX5_of 121 = .ok (.aload_n 0, 1) := dk_42 (dk_at dksX5_of_5 3 rfl rfl)
theorem dX5_of_122 : decode cX5_of 122 = .ok (.invokevirtual 55, 3) := dk_182 0 55 (dk_at dksX5_of_5 4 rfl rfl)
theorem dX5_of_125 : decode cX5_of 125 = .ok (.aload_n 0, 1) := dk_42 (dk_at dksX5_of_5 7 rfl rfl)
theorem dX5_of_126 : decode cX5_of 126 = .ok (.iload_n 2, 1) := dk_28 (dk_at dksX5_of_5 8 rfl rfl)
theorem dX5_of_127 : decode cX5_of 127 = .ok (.invokevirtual 58, 3) := dk_182 0 58 (dk_at dksX5_of_5 9 rfl rfl)
theorem dX5_of_130 : decode cX5_of 130 = .ok (.aload_n 0, 1) := dk_42 (dk_at dksX5_of_5 12 rfl rfl)
theorem dX5_of_131 : decode cX5_of 131 = .ok (.areturn, 1) := dk_176 (dk_at dksX5_of_5 13 rfl rfl)
def dkwX5_comes_4 : List UInt8 := [25, 4, 167, 0, 4, 45, 83, 167, 0, 11, 42, 27, 45, 25, 4, 182, 0, 70, 177]
abbrev dktX5_comes_4 : List UInt8 := dkwX5_comes_4 ++ []
def dkwX5_comes_3 : List UInt8 := [198, 0, 14, 25, 4, 198, 0, 9, 45, 25, 4, 166, 0, 22, 42, 180, 0, 20, 27, 45, 199, 0, 8]
abbrev dktX5_comes_3 : List UInt8 := dkwX5_comes_3 ++ dktX5_comes_4
def dkwX5_comes_2 : List UInt8 := [180, 0, 49, 27, 46, 28, 182, 0, 66, 83, 42, 89, 180, 0, 34, 4, 96, 181, 0, 34, 167, 0, 45, 45]
abbrev dktX5_comes_2 : List UInt8 := dkwX5_comes_2 ++ dktX5_comes_3
def dkwX5_comes_1 : List UInt8 := [199, 0, 45, 42, 180, 0, 20, 27, 42, 180, 0, 11, 42, 180, 0, 34, 50, 27, 42, 180, 0, 42]
abbrev dktX5_comes_1 : List UInt8 := dkwX5_comes_1 ++ dktX5_comes_2
def dkwX5_comes_0 : List UInt8 := [42, 27, 4, 100, 182, 0, 62, 78, 42, 27, 4, 96, 182, 0, 62, 58, 4, 45, 199, 0, 50, 25, 4]
abbrev dktX5_comes_0 : List UInt8 := dkwX5_comes_0 ++ dktX5_comes_1
theorem dksX5_comes_0 : cX5_comes.data.toList.drop 0 = dktX5_comes_0 := by decide +kernel
theorem dksX5_comes_1 : cX5_comes.data.toList.drop 23 = dktX5_comes_1 := dk_seg dksX5_comes_0 23 rfl rfl
theorem dksX5_comes_2 : cX5_comes.data.toList.drop 45 = dktX5_comes_2 := dk_seg dksX5_comes_1 22 rfl rfl
theorem dksX5_comes_3 : cX5_comes.data.toList.drop 69 = dktX5_comes_3 := dk_seg dksX5_comes_2 24 rfl rfl
theorem dksX5_comes_4 : cX5_comes.data.toList.drop 92 = dktX5_comes_4 := dk_seg dksX5_comes_3 23 rfl rfl
theorem dX5_comes_0 : decode cX5_comes 0 = .ok (.aload_n 0, 1) := dk_42 (dk_at dksX5_comes_0 0 rfl rfl)
theorem dX5_comes_1 : decode cX5_comes 1 = .ok (.iload_n 1, 1) := dk_27 (dk_at dksX5_comes_0 1 rfl rfl)
theorem dX5_comes_2 : decode cX5_comes 2 = .ok (.iconst 1, 1) := dk_4 (dk_at dksX5_comes_0 2 rfl rfl)
theorem dX5_comes_3 : decode cX5_comes 3 = .ok (.isub, 1) := dk_100 (dk_at dksX5_comes_0 3 rfl rfl)
theorem dX5_comes_4 : decode cX5_comes 4 = .ok (.invokevirtual 62, 3) := dk_182 0 62 (dk_at dksX5_comes_0 4 rfl rfl)
theorem dX5_comes_7 : decode cX5_comes 7 = .ok (.astore_n 3, 1) := dk_78 (dk_at dksX5_comes_0 7 rfl rfl)
theorem dX5_comes_8 : decode cX5_comes 8 = .ok (.aload_n 0, 1) := dk_42 (dk_at dksX5_comes_0 8 rfl rfl)
theorem dX5_comes_9 : decode cX5_comes 9 = .ok (.iload_n 1, 1) := dk_27 (dk_at dksX5_comes_0 9 rfl rfl)
theorem dX5_comes_10 : decode cX5_comes 10 = .ok (.iconst 1, 1) := dk_4 (dk_at dksX5_comes_0 10 rfl rfl)
theorem dX5_comes_11 : decode cX5_comes 11 = .ok (.iadd, 1) := dk_96 (dk_at dksX5_comes_0 11 rfl rfl)
theorem dX5_comes_12 : decode cX5_comes 12 = .ok (.invokevirtual 62, 3) := dk_182 0 62 (dk_at dksX5_comes_0 12 rfl rfl)
theorem dX5_comes_15 : decode cX5_comes 15 = .ok (.astore 4, 2) := dk_58 4 (dk_at dksX5_comes_0 15 rfl rfl)
theorem dX5_comes_17 : decode cX5_comes 17 = .ok (.aload_n 3, 1) := dk_45 (dk_at dksX5_comes_0 17 rfl rfl)
theorem dX5_comes_18 : decode cX5_comes 18 = .ok (.ifnonnull 50, 3) := dk_199 0 50 (dk_at dksX5_comes_0 18 rfl rfl)
theorem dX5_comes_21 : decode cX5_comes 21 = .ok (.aload 4, 2) := dk_25 4 (dk_at dksX5_comes_0 21 rfl rfl)
theorem dX5_comes_23 : decode cX5_comes 23 = .ok (.ifnonnull 45, 3) := dk_199 0 45 (dk_at dksX5_comes_1 0 rfl rfl)
theorem dX5_comes_26 : decode cX5_comes 26 = .ok (.aload_n 0, 1) := dk_42 (dk_at dksX5_comes_1 3 rfl rfl)
theorem dX5_comes_27 : decode cX5_comes 27 = .ok (.getfield 20, 3) := dk_180 0 20 (dk_at dksX5_comes_1 4 rfl rfl)
theorem dX5_comes_30 : decode cX5_comes 30 = .ok (.iload_n 1, 1) := dk_27 (dk_at dksX5_comes_1 7 rfl rfl)
theorem dX5_comes_31 : decode cX5_comes 31 = .ok (.aload_n 0, 1) := dk_42 (dk_at dksX5_comes_1 8 rfl rfl)
theorem dX5_comes_32 : decode cX5_comes 32 = .ok (.getfield 11, 3) := dk_180 0 11 (dk_at dksX5_comes_1 9 rfl rfl)
theorem dX5_comes_35 : decode cX5_comes 35 = .ok (.aload_n 0, 1) := dk_42 (dk_at dksX5_comes_1 12 rfl rfl)
theorem dX5_comes_36 : decode cX5_comes 36 = .ok (.getfield 34, 3) := dk_180 0 34 (dk_at dksX5_comes_1 13 rfl rfl)
theorem dX5_comes_39 : decode cX5_comes 39 = .ok (.aaload, 1) := dk_50 (dk_at dksX5_comes_1 16 rfl rfl)
theorem dX5_comes_40 : decode cX5_comes 40 = .ok (.iload_n 1, 1) := dk_27 (dk_at dksX5_comes_1 17 rfl rfl)
theorem dX5_comes_41 : decode cX5_comes 41 = .ok (.aload_n 0, 1) := dk_42 (dk_at dksX5_comes_1 18 rfl rfl)
theorem dX5_comes_42 : decode cX5_comes 42 = .ok (.getfield 42, 3) := dk_180 0 42 (dk_at dksX5_comes_1 19 rfl rfl)
theorem dX5_comes_45 : decode cX5_comes 45 = .ok (.getfield 49, 3) := dk_180 0 49 (dk_at dksX5_comes_2 0 rfl rfl)
theorem dX5_comes_48 : decode cX5_comes 48 = .ok (.iload_n 1, 1) := dk_27 (dk_at dksX5_comes_2 3 rfl rfl)
theorem dX5_comes_49 : decode cX5_comes 49 = .ok (.iaload, 1) := dk_46 (dk_at dksX5_comes_2 4 rfl rfl)
theorem dX5_comes_50 : decode cX5_comes 50 = .ok (.iload_n 2, 1) := dk_28 (dk_at dksX5_comes_2 5 rfl rfl)
theorem dX5_comes_51 : decode cX5_comes 51 = .ok (.invokevirtual 66, 3) := dk_182 0 66 (dk_at dksX5_comes_2 6 rfl rfl)
theorem dX5_comes_54 : decode cX5_comes 54 = .ok (.aastore, 1) := dk_83 (dk_at dksX5_comes_2 9 rfl rfl)
theorem dX5_comes_55 : decode cX5_comes 55 = .ok (.aload_n 0, 1) := dk_42 (dk_at dksX5_comes_2 10 rfl rfl)
theorem dX5_comes_56 : decode cX5_comes 56 = .ok (.dup, 1) := dk_89 (dk_at dksX5_comes_2 11 rfl rfl)
theorem dX5_comes_57 : decode cX5_comes 57 = .ok (.getfield 34, 3) := dk_180 0 34 (dk_at dksX5_comes_2 12 rfl rfl)
theorem dX5_comes_60 : decode cX5_comes 60 = .ok (.iconst 1, 1) := dk_4 (dk_at dksX5_comes_2 15 rfl rfl)
theorem dX5_comes_61 : decode cX5_comes 61 = .ok (.iadd, 1) := dk_96 (dk_at dksX5_comes_2 16 rfl rfl)
theorem dX5_comes_62 : decode cX5_comes 62 = .ok (.putfield 34, 3) := dk_181 0 34 (dk_at dksX5_comes_2 17 rfl rfl)
theorem dX5_comes_65 : decode cX5_comes 65 = .ok (.goto 45, 3) := dk_167 0 45 (dk_at dksX5_comes_2 20 rfl rfl)
theorem dX5_comes_68 : decode cX5_comes 68 = .ok (.aload_n 3, 1) := dk_45 (dk_at dksX5_comes_2 23 rfl rfl)
theorem dX5_comes_69 : decode cX5_comes 69 = .ok (.ifnull 14, 3) := dk_198 0 14 (dk_at dksX5_comes_3 0 rfl rfl)
theorem dX5_comes_72 : decode cX5_comes 72 = .ok (.aload 4, 2) := dk_25 4 (dk_at dksX5_comes_3 3 rfl rfl)
theorem dX5_comes_74 : decode cX5_comes 74 = .ok (.ifnull 9, 3) := dk_198 0 9 (dk_at dksX5_comes_3 5 rfl rfl)
theorem dX5_comes_77 : decode cX5_comes 77 = .ok (.aload_n 3, 1) := dk_45 (dk_at dksX5_comes_3 8 rfl rfl)
theorem dX5_comes_78 : decode cX5_comes 78 = .ok (.aload 4, 2) := dk_25 4 (dk_at dksX5_comes_3 9 rfl rfl)
theorem dX5_comes_80 : decode cX5_comes 80 = .ok (.if_acmp .ne 22, 3) := dk_166 0 22 (dk_at dksX5_comes_3 11 rfl rfl)
theorem dX5_comes_83 : decode cX5_comes 83 = .ok (.aload_n 0, 1) := dk_42 (dk_at dksX5_comes_3 14 rfl rfl)
theorem dX5_comes_84 : decode cX5_comes 84 = .ok (.getfield 20, 3) := dk_180 0 20 (dk_at dksX5_comes_3 15 rfl rfl)
theorem dX5_comes_87 : decode cX5_comes 87 = .ok (.iload_n 1, 1) := dk_27 (dk_at dksX5_comes_3 18 rfl rfl)
theorem dX5_comes_88 : decode cX5_comes 88 = .ok (.aload_n 3, 1) := dk_45 (dk_at dksX5_comes_3 19 rfl rfl)
theorem dX5_comes_89 : decode cX5_comes 89 = .ok (.ifnonnull 8, 3) := dk_199 0 8 (dk_at dksX5_comes_3 20 rfl rfl)
theorem dX5_comes_92 : decode cX5_comes 92 = .ok (.aload 4, 2) := dk_25 4 (dk_at dksX5_comes_4 0 rfl rfl)
theorem dX5_comes_94 : decode cX5_comes 94 = .ok (.goto 4, 3) := dk_167 0 4 (dk_at dksX5_comes_4 2 rfl rfl)
theorem dX5_comes_97 : decode cX5_comes 97 = .ok (.aload_n 3, 1) := dk_45 (dk_at dksX5_comes_4 5 rfl rfl)
theorem dX5_comes_98 : decode cX5_comes 98 = .ok (.aastore, 1) := dk_83 (dk_at dksX5_comes_4 6 rfl rfl)
theorem dX5_comes_99 : decode cX5_comes 99 = .ok (.goto 11, 3) := dk_167 0 11 (dk_at dksX5_comes_4 7 rfl rfl)
theorem dX5_comes_102 : decode cX5_comes 102 = .ok (.aload_n 0, 1) := dk_42 (dk_at dksX5_comes_4 10 rfl rfl)
theorem dX5_comes_103 : decode cX5_comes 103 = .ok (.iload_n 1, 1) := dk_27 (dk_at dksX5_comes_4 11 rfl rfl)
theorem dX5_comes_104 : decode cX5_comes 104 = .ok (.aload_n 3, 1) := dk_45 (dk_at dksX5_comes_4 12 rfl rfl)
theorem dX5_comes_105 : decode cX5_comes 105 = .ok (.aload 4, 2) := dk_25 4 (dk_at dksX5_comes_4 13 rfl rfl)
theorem dX5_comes_107 : decode cX5_comes 107 = .ok (.invokevirtual 70, 3) := dk_182 0 70 (dk_at dksX5_comes_4 15 rfl rfl)
theorem dX5_comes_110 : decode cX5_comes 110 = .ok (.return_, 1) := dk_177 (dk_at dksX5_comes_4 18 rfl rfl)
def dkwX5_beside_1 : List UInt8 := [1, 176]
abbrev dktX5_beside_1 : List UInt8 := dkwX5_beside_1 ++ []
def dkwX5_beside_0 : List UInt8 := [27, 155, 0, 23, 27, 42, 180, 0, 42, 180, 0, 46, 162, 0, 12, 42, 180, 0, 20, 27, 50, 167, 0, 4]
abbrev dktX5_beside_0 : List UInt8 := dkwX5_beside_0 ++ dktX5_beside_1
theorem dksX5_beside_0 : cX5_beside.data.toList.drop 0 = dktX5_beside_0 := by decide +kernel
theorem dksX5_beside_1 : cX5_beside.data.toList.drop 24 = dktX5_beside_1 := dk_seg dksX5_beside_0 24 rfl rfl
theorem dX5_beside_0 : decode cX5_beside 0 = .ok (.iload_n 1, 1) := dk_27 (dk_at dksX5_beside_0 0 rfl rfl)
theorem dX5_beside_1 : decode cX5_beside 1 = .ok (.ifCond .lt 23, 3) := dk_155 0 23 (dk_at dksX5_beside_0 1 rfl rfl)
theorem dX5_beside_4 : decode cX5_beside 4 = .ok (.iload_n 1, 1) := dk_27 (dk_at dksX5_beside_0 4 rfl rfl)
theorem dX5_beside_5 : decode cX5_beside 5 = .ok (.aload_n 0, 1) := dk_42 (dk_at dksX5_beside_0 5 rfl rfl)
theorem dX5_beside_6 : decode cX5_beside 6 = .ok (.getfield 42, 3) := dk_180 0 42 (dk_at dksX5_beside_0 6 rfl rfl)
theorem dX5_beside_9 : decode cX5_beside 9 = .ok (.getfield 46, 3) := dk_180 0 46 (dk_at dksX5_beside_0 9 rfl rfl)
theorem dX5_beside_12 : decode cX5_beside 12 = .ok (.if_icmp .ge 12, 3) := dk_162 0 12 (dk_at dksX5_beside_0 12 rfl rfl)
theorem dX5_beside_15 : decode cX5_beside 15 = .ok (.aload_n 0, 1) := dk_42 (dk_at dksX5_beside_0 15 rfl rfl)
theorem dX5_beside_16 : decode cX5_beside 16 = .ok (.getfield 20, 3) := dk_180 0 20 (dk_at dksX5_beside_0 16 rfl rfl)
theorem dX5_beside_19 : decode cX5_beside 19 = .ok (.iload_n 1, 1) := dk_27 (dk_at dksX5_beside_0 19 rfl rfl)
theorem dX5_beside_20 : decode cX5_beside 20 = .ok (.aaload, 1) := dk_50 (dk_at dksX5_beside_0 20 rfl rfl)
theorem dX5_beside_21 : decode cX5_beside 21 = .ok (.goto 4, 3) := dk_167 0 4 (dk_at dksX5_beside_0 21 rfl rfl)
theorem dX5_beside_24 : decode cX5_beside 24 = .ok (.aconst_null, 1) := dk_1 (dk_at dksX5_beside_1 0 rfl rfl)
theorem dX5_beside_25 : decode cX5_beside 25 = .ok (.areturn, 1) := dk_176 (dk_at dksX5_beside_1 1 rfl rfl)
def dkwX5_joins_4 : List UInt8 := [25, 4, 83, 132, 6, 1, 167, 255, 220, 177]
abbrev dktX5_joins_4 : List UInt8 := dkwX5_joins_4 ++ []
def dkwX5_joins_3 : List UInt8 := [180, 0, 46, 162, 0, 30, 42, 180, 0, 20, 21, 6, 50, 25, 5, 166, 0, 12, 42, 180, 0, 20, 21, 6]
abbrev dktX5_joins_3 : List UInt8 := dkwX5_joins_3 ++ dktX5_joins_4
def dkwX5_joins_2 : List UInt8 := [46, 25, 4, 182, 0, 77, 42, 180, 0, 20, 27, 25, 4, 83, 3, 54, 6, 21, 6, 42, 180, 0, 42]
abbrev dktX5_joins_2 : List UInt8 := dkwX5_joins_2 ++ dktX5_joins_3
def dkwX5_joins_1 : List UInt8 := [180, 0, 74, 162, 0, 7, 45, 167, 0, 4, 44, 58, 5, 25, 5, 27, 42, 180, 0, 42, 180, 0, 49, 27]
abbrev dktX5_joins_1 : List UInt8 := dkwX5_joins_1 ++ dktX5_joins_2
def dkwX5_joins_0 : List UInt8 := [44, 180, 0, 74, 45, 180, 0, 74, 162, 0, 7, 44, 167, 0, 4, 45, 58, 4, 44, 180, 0, 74, 45]
abbrev dktX5_joins_0 : List UInt8 := dkwX5_joins_0 ++ dktX5_joins_1
theorem dksX5_joins_0 : cX5_joins.data.toList.drop 0 = dktX5_joins_0 := by decide +kernel
theorem dksX5_joins_1 : cX5_joins.data.toList.drop 23 = dktX5_joins_1 := dk_seg dksX5_joins_0 23 rfl rfl
theorem dksX5_joins_2 : cX5_joins.data.toList.drop 47 = dktX5_joins_2 := dk_seg dksX5_joins_1 24 rfl rfl
theorem dksX5_joins_3 : cX5_joins.data.toList.drop 70 = dktX5_joins_3 := dk_seg dksX5_joins_2 23 rfl rfl
theorem dksX5_joins_4 : cX5_joins.data.toList.drop 94 = dktX5_joins_4 := dk_seg dksX5_joins_3 24 rfl rfl
theorem dX5_joins_0 : decode cX5_joins 0 = .ok (.aload_n 2, 1) := dk_44 (dk_at dksX5_joins_0 0 rfl rfl)
theorem dX5_joins_1 : decode cX5_joins 1 = .ok (.getfield 74, 3) := dk_180 0 74 (dk_at dksX5_joins_0 1 rfl rfl)
theorem dX5_joins_4 : decode cX5_joins 4 = .ok (.aload_n 3, 1) := dk_45 (dk_at dksX5_joins_0 4 rfl rfl)
theorem dX5_joins_5 : decode cX5_joins 5 = .ok (.getfield 74, 3) := dk_180 0 74 (dk_at dksX5_joins_0 5 rfl rfl)
theorem dX5_joins_8 : decode cX5_joins 8 = .ok (.if_icmp .ge 7, 3) := dk_162 0 7 (dk_at dksX5_joins_0 8 rfl rfl)
theorem dX5_joins_11 : decode cX5_joins 11 = .ok (.aload_n 2, 1) := dk_44 (dk_at dksX5_joins_0 11 rfl rfl)
theorem dX5_joins_12 : decode cX5_joins 12 = .ok (.goto 4, 3) := dk_167 0 4 (dk_at dksX5_joins_0 12 rfl rfl)
theorem dX5_joins_15 : decode cX5_joins 15 = .ok (.aload_n 3, 1) := dk_45 (dk_at dksX5_joins_0 15 rfl rfl)
theorem dX5_joins_16 : decode cX5_joins 16 = .ok (.astore 4, 2) := dk_58 4 (dk_at dksX5_joins_0 16 rfl rfl)
theorem dX5_joins_18 : decode cX5_joins 18 = .ok (.aload_n 2, 1) := dk_44 (dk_at dksX5_joins_0 18 rfl rfl)
theorem dX5_joins_19 : decode cX5_joins 19 = .ok (.getfield 74, 3) := dk_180 0 74 (dk_at dksX5_joins_0 19 rfl rfl)
theorem dX5_joins_22 : decode cX5_joins 22 = .ok (.aload_n 3, 1) := dk_45 (dk_at dksX5_joins_0 22 rfl rfl)
theorem dX5_joins_23 : decode cX5_joins 23 = .ok (.getfield 74, 3) := dk_180 0 74 (dk_at dksX5_joins_1 0 rfl rfl)
theorem dX5_joins_26 : decode cX5_joins 26 = .ok (.if_icmp .ge 7, 3) := dk_162 0 7 (dk_at dksX5_joins_1 3 rfl rfl)
theorem dX5_joins_29 : decode cX5_joins 29 = .ok (.aload_n 3, 1) := dk_45 (dk_at dksX5_joins_1 6 rfl rfl)
theorem dX5_joins_30 : decode cX5_joins 30 = .ok (.goto 4, 3) := dk_167 0 4 (dk_at dksX5_joins_1 7 rfl rfl)
theorem dX5_joins_33 : decode cX5_joins 33 = .ok (.aload_n 2, 1) := dk_44 (dk_at dksX5_joins_1 10 rfl rfl)
theorem dX5_joins_34 : decode cX5_joins 34 = .ok (.astore 5, 2) := dk_58 5 (dk_at dksX5_joins_1 11 rfl rfl)
theorem dX5_joins_36 : decode cX5_joins 36 = .ok (.aload 5, 2) := dk_25 5 (dk_at dksX5_joins_1 13 rfl rfl)
theorem dX5_joins_38 : decode cX5_joins 38 = .ok (.iload_n 1, 1) := dk_27 (dk_at dksX5_joins_1 15 rfl rfl)
theorem dX5_joins_39 : decode cX5_joins 39 = .ok (.aload_n 0, 1) := dk_42 (dk_at dksX5_joins_1 16 rfl rfl)
theorem dX5_joins_40 : decode cX5_joins 40 = .ok (.getfield 42, 3) := dk_180 0 42 (dk_at dksX5_joins_1 17 rfl rfl)
theorem dX5_joins_43 : decode cX5_joins 43 = .ok (.getfield 49, 3) := dk_180 0 49 (dk_at dksX5_joins_1 20 rfl rfl)
theorem dX5_joins_46 : decode cX5_joins 46 = .ok (.iload_n 1, 1) := dk_27 (dk_at dksX5_joins_1 23 rfl rfl)
theorem dX5_joins_47 : decode cX5_joins 47 = .ok (.iaload, 1) := dk_46 (dk_at dksX5_joins_2 0 rfl rfl)
theorem dX5_joins_48 : decode cX5_joins 48 = .ok (.aload 4, 2) := dk_25 4 (dk_at dksX5_joins_2 1 rfl rfl)
theorem dX5_joins_50 : decode cX5_joins 50 = .ok (.invokevirtual 77, 3) := dk_182 0 77 (dk_at dksX5_joins_2 3 rfl rfl)
theorem dX5_joins_53 : decode cX5_joins 53 = .ok (.aload_n 0, 1) := dk_42 (dk_at dksX5_joins_2 6 rfl rfl)
theorem dX5_joins_54 : decode cX5_joins 54 = .ok (.getfield 20, 3) := dk_180 0 20 (dk_at dksX5_joins_2 7 rfl rfl)
theorem dX5_joins_57 : decode cX5_joins 57 = .ok (.iload_n 1, 1) := dk_27 (dk_at dksX5_joins_2 10 rfl rfl)
theorem dX5_joins_58 : decode cX5_joins 58 = .ok (.aload 4, 2) := dk_25 4 (dk_at dksX5_joins_2 11 rfl rfl)
theorem dX5_joins_60 : decode cX5_joins 60 = .ok (.aastore, 1) := dk_83 (dk_at dksX5_joins_2 13 rfl rfl)
theorem dX5_joins_61 : decode cX5_joins 61 = .ok (.iconst 0, 1) := dk_3 (dk_at dksX5_joins_2 14 rfl rfl)
theorem dX5_joins_62 : decode cX5_joins 62 = .ok (.istore 6, 2) := dk_54 6 (dk_at dksX5_joins_2 15 rfl rfl)
theorem dX5_joins_64 : decode cX5_joins 64 = .ok (.iload 6, 2) := dk_21 6 (dk_at dksX5_joins_2 17 rfl rfl)
theorem dX5_joins_66 : decode cX5_joins 66 = .ok (.aload_n 0, 1) := dk_42 (dk_at dksX5_joins_2 19 rfl rfl)
theorem dX5_joins_67 : decode cX5_joins 67 = .ok (.getfield 42, 3) := dk_180 0 42 (dk_at dksX5_joins_2 20 rfl rfl)
theorem dX5_joins_70 : decode cX5_joins 70 = .ok (.getfield 46, 3) := dk_180 0 46 (dk_at dksX5_joins_3 0 rfl rfl)
theorem dX5_joins_73 : decode cX5_joins 73 = .ok (.if_icmp .ge 30, 3) := dk_162 0 30 (dk_at dksX5_joins_3 3 rfl rfl)
theorem dX5_joins_76 : decode cX5_joins 76 = .ok (.aload_n 0, 1) := dk_42 (dk_at dksX5_joins_3 6 rfl rfl)
theorem dX5_joins_77 : decode cX5_joins 77 = .ok (.getfield 20, 3) := dk_180 0 20 (dk_at dksX5_joins_3 7 rfl rfl)
theorem dX5_joins_80 : decode cX5_joins 80 = .ok (.iload 6, 2) := dk_21 6 (dk_at dksX5_joins_3 10 rfl rfl)
theorem dX5_joins_82 : decode cX5_joins 82 = .ok (.aaload, 1) := dk_50 (dk_at dksX5_joins_3 12 rfl rfl)
theorem dX5_joins_83 : decode cX5_joins 83 = .ok (.aload 5, 2) := dk_25 5 (dk_at dksX5_joins_3 13 rfl rfl)
theorem dX5_joins_85 : decode cX5_joins 85 = .ok (.if_acmp .ne 12, 3) := dk_166 0 12 (dk_at dksX5_joins_3 15 rfl rfl)
theorem dX5_joins_88 : decode cX5_joins 88 = .ok (.aload_n 0, 1) := dk_42 (dk_at dksX5_joins_3 18 rfl rfl)
theorem dX5_joins_89 : decode cX5_joins 89 = .ok (.getfield 20, 3) := dk_180 0 20 (dk_at dksX5_joins_3 19 rfl rfl)
theorem dX5_joins_92 : decode cX5_joins 92 = .ok (.iload 6, 2) := dk_21 6 (dk_at dksX5_joins_3 22 rfl rfl)
theorem dX5_joins_94 : decode cX5_joins 94 = .ok (.aload 4, 2) := dk_25 4 (dk_at dksX5_joins_4 0 rfl rfl)
theorem dX5_joins_96 : decode cX5_joins 96 = .ok (.aastore, 1) := dk_83 (dk_at dksX5_joins_4 2 rfl rfl)
theorem dX5_joins_97 : decode cX5_joins 97 = .ok (.iinc 6 1, 3) := dk_132 6 1 (dk_at dksX5_joins_4 3 rfl rfl)
theorem dX5_joins_100 : decode cX5_joins 100 = .ok (.goto (-36), 3) := dk_167 255 220 (dk_at dksX5_joins_4 6 rfl rfl)
theorem dX5_joins_103 : decode cX5_joins 103 = .ok (.return_, 1) := dk_177 (dk_at dksX5_joins_4 9 rfl rfl)
def dkwX5_ends_3 : List UInt8 := [132, 3, 255, 167, 255, 220, 42, 180, 0, 17, 29, 44, 83, 132, 1, 1, 167, 255, 172, 177]
abbrev dktX5_ends_3 : List UInt8 := dkwX5_ends_3 ++ []
def dkwX5_ends_2 : List UInt8 := [100, 50, 182, 0, 91, 153, 0, 23, 42, 180, 0, 17, 29, 42, 180, 0, 17, 29, 4, 100, 50, 83]
abbrev dktX5_ends_2 : List UInt8 := dkwX5_ends_2 ++ dktX5_ends_3
def dkwX5_ends_1 : List UInt8 := [44, 42, 180, 0, 42, 182, 0, 85, 181, 0, 88, 27, 62, 29, 158, 0, 38, 44, 42, 180, 0, 17, 29, 4]
abbrev dktX5_ends_1 : List UInt8 := dkwX5_ends_1 ++ dktX5_ends_2
def dkwX5_ends_0 : List UInt8 := [3, 60, 27, 42, 180, 0, 34, 162, 0, 82, 42, 180, 0, 11, 27, 50, 77, 44, 180, 0, 81, 199, 0, 14]
abbrev dktX5_ends_0 : List UInt8 := dkwX5_ends_0 ++ dktX5_ends_1
theorem dksX5_ends_0 : cX5_ends.data.toList.drop 0 = dktX5_ends_0 := by decide +kernel
theorem dksX5_ends_1 : cX5_ends.data.toList.drop 24 = dktX5_ends_1 := dk_seg dksX5_ends_0 24 rfl rfl
theorem dksX5_ends_2 : cX5_ends.data.toList.drop 48 = dktX5_ends_2 := dk_seg dksX5_ends_1 24 rfl rfl
theorem dksX5_ends_3 : cX5_ends.data.toList.drop 70 = dktX5_ends_3 := dk_seg dksX5_ends_2 22 rfl rfl
theorem dX5_ends_0 : decode cX5_ends 0 = .ok (.iconst 0, 1) := dk_3 (dk_at dksX5_ends_0 0 rfl rfl)
theorem dX5_ends_1 : decode cX5_ends 1 = .ok (.istore_n 1, 1) := dk_60 (dk_at dksX5_ends_0 1 rfl rfl)
theorem dX5_ends_2 : decode cX5_ends 2 = .ok (.iload_n 1, 1) := dk_27 (dk_at dksX5_ends_0 2 rfl rfl)
theorem dX5_ends_3 : decode cX5_ends 3 = .ok (.aload_n 0, 1) := dk_42 (dk_at dksX5_ends_0 3 rfl rfl)
theorem dX5_ends_4 : decode cX5_ends 4 = .ok (.getfield 34, 3) := dk_180 0 34 (dk_at dksX5_ends_0 4 rfl rfl)
theorem dX5_ends_7 : decode cX5_ends 7 = .ok (.if_icmp .ge 82, 3) := dk_162 0 82 (dk_at dksX5_ends_0 7 rfl rfl)
theorem dX5_ends_10 : decode cX5_ends 10 = .ok (.aload_n 0, 1) := dk_42 (dk_at dksX5_ends_0 10 rfl rfl)
theorem dX5_ends_11 : decode cX5_ends 11 = .ok (.getfield 11, 3) := dk_180 0 11 (dk_at dksX5_ends_0 11 rfl rfl)
theorem dX5_ends_14 : decode cX5_ends 14 = .ok (.iload_n 1, 1) := dk_27 (dk_at dksX5_ends_0 14 rfl rfl)
theorem dX5_ends_15 : decode cX5_ends 15 = .ok (.aaload, 1) := dk_50 (dk_at dksX5_ends_0 15 rfl rfl)
theorem dX5_ends_16 : decode cX5_ends 16 = .ok (.astore_n 2, 1) := dk_77 (dk_at dksX5_ends_0 16 rfl rfl)
theorem dX5_ends_17 : decode cX5_ends 17 = .ok (.aload_n 2, 1) := dk_44 (dk_at dksX5_ends_0 17 rfl rfl)
theorem dX5_ends_18 : decode cX5_ends 18 = .ok (.getfield 81, 3) := dk_180 0 81 (dk_at dksX5_ends_0 18 rfl rfl)
theorem dX5_ends_21 : decode cX5_ends 21 = .ok (.ifnonnull 14, 3) := dk_199 0 14 (dk_at dksX5_ends_0 21 rfl rfl)
theorem dX5_ends_24 : decode cX5_ends 24 = .ok (.aload_n 2, 1) := dk_44 (dk_at dksX5_ends_1 0 rfl rfl)
theorem dX5_ends_25 : decode cX5_ends 25 = .ok (.aload_n 0, 1) := dk_42 (dk_at dksX5_ends_1 1 rfl rfl)
theorem dX5_ends_26 : decode cX5_ends 26 = .ok (.getfield 42, 3) := dk_180 0 42 (dk_at dksX5_ends_1 2 rfl rfl)
theorem dX5_ends_29 : decode cX5_ends 29 = .ok (.invokevirtual 85, 3) := dk_182 0 85 (dk_at dksX5_ends_1 5 rfl rfl)
theorem dX5_ends_32 : decode cX5_ends 32 = .ok (.putfield 88, 3) := dk_181 0 88 (dk_at dksX5_ends_1 8 rfl rfl)
theorem dX5_ends_35 : decode cX5_ends 35 = .ok (.iload_n 1, 1) := dk_27 (dk_at dksX5_ends_1 11 rfl rfl)
theorem dX5_ends_36 : decode cX5_ends 36 = .ok (.istore_n 3, 1) := dk_62 (dk_at dksX5_ends_1 12 rfl rfl)
theorem dX5_ends_37 : decode cX5_ends 37 = .ok (.iload_n 3, 1) := dk_29 (dk_at dksX5_ends_1 13 rfl rfl)
theorem dX5_ends_38 : decode cX5_ends 38 = .ok (.ifCond .le 38, 3) := dk_158 0 38 (dk_at dksX5_ends_1 14 rfl rfl)
theorem dX5_ends_41 : decode cX5_ends 41 = .ok (.aload_n 2, 1) := dk_44 (dk_at dksX5_ends_1 17 rfl rfl)
theorem dX5_ends_42 : decode cX5_ends 42 = .ok (.aload_n 0, 1) := dk_42 (dk_at dksX5_ends_1 18 rfl rfl)
theorem dX5_ends_43 : decode cX5_ends 43 = .ok (.getfield 17, 3) := dk_180 0 17 (dk_at dksX5_ends_1 19 rfl rfl)
theorem dX5_ends_46 : decode cX5_ends 46 = .ok (.iload_n 3, 1) := dk_29 (dk_at dksX5_ends_1 22 rfl rfl)
theorem dX5_ends_47 : decode cX5_ends 47 = .ok (.iconst 1, 1) := dk_4 (dk_at dksX5_ends_1 23 rfl rfl)
theorem dX5_ends_48 : decode cX5_ends 48 = .ok (.isub, 1) := dk_100 (dk_at dksX5_ends_2 0 rfl rfl)
theorem dX5_ends_49 : decode cX5_ends 49 = .ok (.aaload, 1) := dk_50 (dk_at dksX5_ends_2 1 rfl rfl)
theorem dX5_ends_50 : decode cX5_ends 50 = .ok (.invokevirtual 91, 3) := dk_182 0 91 (dk_at dksX5_ends_2 2 rfl rfl)
theorem dX5_ends_53 : decode cX5_ends 53 = .ok (.ifCond .eq 23, 3) := dk_153 0 23 (dk_at dksX5_ends_2 5 rfl rfl)
theorem dX5_ends_56 : decode cX5_ends 56 = .ok (.aload_n 0, 1) := dk_42 (dk_at dksX5_ends_2 8 rfl rfl)
theorem dX5_ends_57 : decode cX5_ends 57 = .ok (.getfield 17, 3) := dk_180 0 17 (dk_at dksX5_ends_2 9 rfl rfl)
theorem dX5_ends_60 : decode cX5_ends 60 = .ok (.iload_n 3, 1) := dk_29 (dk_at dksX5_ends_2 12 rfl rfl)
theorem dX5_ends_61 : decode cX5_ends 61 = .ok (.aload_n 0, 1) := dk_42 (dk_at dksX5_ends_2 13 rfl rfl)
theorem dX5_ends_62 : decode cX5_ends 62 = .ok (.getfield 17, 3) := dk_180 0 17 (dk_at dksX5_ends_2 14 rfl rfl)
theorem dX5_ends_65 : decode cX5_ends 65 = .ok (.iload_n 3, 1) := dk_29 (dk_at dksX5_ends_2 17 rfl rfl)
theorem dX5_ends_66 : decode cX5_ends 66 = .ok (.iconst 1, 1) := dk_4 (dk_at dksX5_ends_2 18 rfl rfl)
theorem dX5_ends_67 : decode cX5_ends 67 = .ok (.isub, 1) := dk_100 (dk_at dksX5_ends_2 19 rfl rfl)
theorem dX5_ends_68 : decode cX5_ends 68 = .ok (.aaload, 1) := dk_50 (dk_at dksX5_ends_2 20 rfl rfl)
theorem dX5_ends_69 : decode cX5_ends 69 = .ok (.aastore, 1) := dk_83 (dk_at dksX5_ends_2 21 rfl rfl)
theorem dX5_ends_70 : decode cX5_ends 70 = .ok (.iinc 3 (-1), 3) := dk_132 3 255 (dk_at dksX5_ends_3 0 rfl rfl)
theorem dX5_ends_73 : decode cX5_ends 73 = .ok (.goto (-36), 3) := dk_167 255 220 (dk_at dksX5_ends_3 3 rfl rfl)
theorem dX5_ends_76 : decode cX5_ends 76 = .ok (.aload_n 0, 1) := dk_42 (dk_at dksX5_ends_3 6 rfl rfl)
theorem dX5_ends_77 : decode cX5_ends 77 = .ok (.getfield 17, 3) := dk_180 0 17 (dk_at dksX5_ends_3 7 rfl rfl)
theorem dX5_ends_80 : decode cX5_ends 80 = .ok (.iload_n 3, 1) := dk_29 (dk_at dksX5_ends_3 10 rfl rfl)
theorem dX5_ends_81 : decode cX5_ends 81 = .ok (.aload_n 2, 1) := dk_44 (dk_at dksX5_ends_3 11 rfl rfl)
theorem dX5_ends_82 : decode cX5_ends 82 = .ok (.aastore, 1) := dk_83 (dk_at dksX5_ends_3 12 rfl rfl)
theorem dX5_ends_83 : decode cX5_ends 83 = .ok (.iinc 1 1, 3) := dk_132 1 1 (dk_at dksX5_ends_3 13 rfl rfl)
theorem dX5_ends_86 : decode cX5_ends 86 = .ok (.goto (-84), 3) := dk_167 255 172 (dk_at dksX5_ends_3 16 rfl rfl)
theorem dX5_ends_89 : decode cX5_ends 89 = .ok (.return_, 1) := dk_177 (dk_at dksX5_ends_3 19 rfl rfl)
def dkwX5_at_0 : List UInt8 := [42, 180, 0, 17, 27, 50, 182, 0, 38, 172]
abbrev dktX5_at_0 : List UInt8 := dkwX5_at_0 ++ []
theorem dksX5_at_0 : cX5_at.data.toList.drop 0 = dktX5_at_0 := by decide +kernel
theorem dX5_at_0 : decode cX5_at 0 = .ok (.aload_n 0, 1) := dk_42 (dk_at dksX5_at_0 0 rfl rfl)
theorem dX5_at_1 : decode cX5_at 1 = .ok (.getfield 17, 3) := dk_180 0 17 (dk_at dksX5_at_0 1 rfl rfl)
theorem dX5_at_4 : decode cX5_at 4 = .ok (.iload_n 1, 1) := dk_27 (dk_at dksX5_at_0 4 rfl rfl)
theorem dX5_at_5 : decode cX5_at 5 = .ok (.aaload, 1) := dk_50 (dk_at dksX5_at_0 5 rfl rfl)
theorem dX5_at_6 : decode cX5_at 6 = .ok (.invokevirtual 38, 3) := dk_182 0 38 (dk_at dksX5_at_0 6 rfl rfl)
theorem dX5_at_9 : decode cX5_at 9 = .ok (.ireturn, 1) := dk_172 (dk_at dksX5_at_0 9 rfl rfl)
theorem dX5_many_0 : decode cX5_many 0 = .ok (.aload_n 0, 1) := by decide +kernel
theorem dX5_many_1 : decode cX5_many 1 = .ok (.getfield 34, 3) := by decide +kernel
theorem dX5_many_4 : decode cX5_many 4 = .ok (.ireturn, 1) := by decide +kernel
def dkwX5_keeps_3 : List UInt8 := [181, 0, 95, 132, 2, 1, 167, 255, 188, 177]
abbrev dktX5_keeps_3 : List UInt8 := dkwX5_keeps_3 ++ []
def dkwX5_keeps_2 : List UInt8 := [42, 89, 180, 0, 95, 42, 180, 0, 17, 28, 50, 180, 0, 98, 153, 0, 7, 4, 167, 0, 4, 3, 96]
abbrev dktX5_keeps_2 : List UInt8 := dkwX5_keeps_2 ++ dktX5_keeps_3
def dkwX5_keeps_1 : List UInt8 := [153, 0, 16, 42, 180, 0, 17, 28, 50, 182, 0, 38, 27, 164, 0, 7, 4, 167, 0, 4, 3, 181, 0, 98]
abbrev dktX5_keeps_1 : List UInt8 := dkwX5_keeps_1 ++ dktX5_keeps_2
def dkwX5_keeps_0 : List UInt8 := [42, 3, 181, 0, 95, 3, 61, 28, 42, 180, 0, 34, 162, 0, 66, 42, 180, 0, 17, 28, 50, 28]
abbrev dktX5_keeps_0 : List UInt8 := dkwX5_keeps_0 ++ dktX5_keeps_1
theorem dksX5_keeps_0 : cX5_keeps.data.toList.drop 0 = dktX5_keeps_0 := by decide +kernel
theorem dksX5_keeps_1 : cX5_keeps.data.toList.drop 22 = dktX5_keeps_1 := dk_seg dksX5_keeps_0 22 rfl rfl
theorem dksX5_keeps_2 : cX5_keeps.data.toList.drop 46 = dktX5_keeps_2 := dk_seg dksX5_keeps_1 24 rfl rfl
theorem dksX5_keeps_3 : cX5_keeps.data.toList.drop 69 = dktX5_keeps_3 := dk_seg dksX5_keeps_2 23 rfl rfl
theorem dX5_keeps_0 : decode cX5_keeps 0 = .ok (.aload_n 0, 1) := dk_42 (dk_at dksX5_keeps_0 0 rfl rfl)
theorem dX5_keeps_1 : decode cX5_keeps 1 = .ok (.iconst 0, 1) := dk_3 (dk_at dksX5_keeps_0 1 rfl rfl)
theorem dX5_keeps_2 : decode cX5_keeps 2 = .ok (.putfield 95, 3) := dk_181 0 95 (dk_at dksX5_keeps_0 2 rfl rfl)
theorem dX5_keeps_5 : decode cX5_keeps 5 = .ok (.iconst 0, 1) := dk_3 (dk_at dksX5_keeps_0 5 rfl rfl)
theorem dX5_keeps_6 : decode cX5_keeps 6 = .ok (.istore_n 2, 1) := dk_61 (dk_at dksX5_keeps_0 6 rfl rfl)
theorem dX5_keeps_7 : decode cX5_keeps 7 = .ok (.iload_n 2, 1) := dk_28 (dk_at dksX5_keeps_0 7 rfl rfl)
theorem dX5_keeps_8 : decode cX5_keeps 8 = .ok (.aload_n 0, 1) := dk_42 (dk_at dksX5_keeps_0 8 rfl rfl)
theorem dX5_keeps_9 : decode cX5_keeps 9 = .ok (.getfield 34, 3) := dk_180 0 34 (dk_at dksX5_keeps_0 9 rfl rfl)
theorem dX5_keeps_12 : decode cX5_keeps 12 = .ok (.if_icmp .ge 66, 3) := dk_162 0 66 (dk_at dksX5_keeps_0 12 rfl rfl)
theorem dX5_keeps_15 : decode cX5_keeps 15 = .ok (.aload_n 0, 1) := dk_42 (dk_at dksX5_keeps_0 15 rfl rfl)
theorem dX5_keeps_16 : decode cX5_keeps 16 = .ok (.getfield 17, 3) := dk_180 0 17 (dk_at dksX5_keeps_0 16 rfl rfl)
theorem dX5_keeps_19 : decode cX5_keeps 19 = .ok (.iload_n 2, 1) := dk_28 (dk_at dksX5_keeps_0 19 rfl rfl)
theorem dX5_keeps_20 : decode cX5_keeps 20 = .ok (.aaload, 1) := dk_50 (dk_at dksX5_keeps_0 20 rfl rfl)
theorem dX5_keeps_21 : decode cX5_keeps 21 = .ok (.iload_n 2, 1) := dk_28 (dk_at dksX5_keeps_0 21 rfl rfl)
theorem dX5_keeps_22 : decode cX5_keeps 22 = .ok (.ifCond .eq 16, 3) := dk_153 0 16 (dk_at dksX5_keeps_1 0 rfl rfl)
theorem dX5_keeps_25 : decode cX5_keeps 25 = .ok (.aload_n 0, 1) := dk_42 (dk_at dksX5_keeps_1 3 rfl rfl)
theorem dX5_keeps_26 : decode cX5_keeps 26 = .ok (.getfield 17, 3) := dk_180 0 17 (dk_at dksX5_keeps_1 4 rfl rfl)
theorem dX5_keeps_29 : decode cX5_keeps 29 = .ok (.iload_n 2, 1) := dk_28 (dk_at dksX5_keeps_1 7 rfl rfl)
theorem dX5_keeps_30 : decode cX5_keeps 30 = .ok (.aaload, 1) := dk_50 (dk_at dksX5_keeps_1 8 rfl rfl)
theorem dX5_keeps_31 : decode cX5_keeps 31 = .ok (.invokevirtual 38, 3) := dk_182 0 38 (dk_at dksX5_keeps_1 9 rfl rfl)
theorem dX5_keeps_34 : decode cX5_keeps 34 = .ok (.iload_n 1, 1) := dk_27 (dk_at dksX5_keeps_1 12 rfl rfl)
theorem dX5_keeps_35 : decode cX5_keeps 35 = .ok (.if_icmp .le 7, 3) := dk_164 0 7 (dk_at dksX5_keeps_1 13 rfl rfl)
theorem dX5_keeps_38 : decode cX5_keeps 38 = .ok (.iconst 1, 1) := dk_4 (dk_at dksX5_keeps_1 16 rfl rfl)
theorem dX5_keeps_39 : decode cX5_keeps 39 = .ok (.goto 4, 3) := dk_167 0 4 (dk_at dksX5_keeps_1 17 rfl rfl)
theorem dX5_keeps_42 : decode cX5_keeps 42 = .ok (.iconst 0, 1) := dk_3 (dk_at dksX5_keeps_1 20 rfl rfl)
theorem dX5_keeps_43 : decode cX5_keeps 43 = .ok (.putfield 98, 3) := dk_181 0 98 (dk_at dksX5_keeps_1 21 rfl rfl)
theorem dX5_keeps_46 : decode cX5_keeps 46 = .ok (.aload_n 0, 1) := dk_42 (dk_at dksX5_keeps_2 0 rfl rfl)
theorem dX5_keeps_47 : decode cX5_keeps 47 = .ok (.dup, 1) := dk_89 (dk_at dksX5_keeps_2 1 rfl rfl)
theorem dX5_keeps_48 : decode cX5_keeps 48 = .ok (.getfield 95, 3) := dk_180 0 95 (dk_at dksX5_keeps_2 2 rfl rfl)
theorem dX5_keeps_51 : decode cX5_keeps 51 = .ok (.aload_n 0, 1) := dk_42 (dk_at dksX5_keeps_2 5 rfl rfl)
theorem dX5_keeps_52 : decode cX5_keeps 52 = .ok (.getfield 17, 3) := dk_180 0 17 (dk_at dksX5_keeps_2 6 rfl rfl)
theorem dX5_keeps_55 : decode cX5_keeps 55 = .ok (.iload_n 2, 1) := dk_28 (dk_at dksX5_keeps_2 9 rfl rfl)
theorem dX5_keeps_56 : decode cX5_keeps 56 = .ok (.aaload, 1) := dk_50 (dk_at dksX5_keeps_2 10 rfl rfl)
theorem dX5_keeps_57 : decode cX5_keeps 57 = .ok (.getfield 98, 3) := dk_180 0 98 (dk_at dksX5_keeps_2 11 rfl rfl)
theorem dX5_keeps_60 : decode cX5_keeps 60 = .ok (.ifCond .eq 7, 3) := dk_153 0 7 (dk_at dksX5_keeps_2 14 rfl rfl)
theorem dX5_keeps_63 : decode cX5_keeps 63 = .ok (.iconst 1, 1) := dk_4 (dk_at dksX5_keeps_2 17 rfl rfl)
theorem dX5_keeps_64 : decode cX5_keeps 64 = .ok (.goto 4, 3) := dk_167 0 4 (dk_at dksX5_keeps_2 18 rfl rfl)
theorem dX5_keeps_67 : decode cX5_keeps 67 = .ok (.iconst 0, 1) := dk_3 (dk_at dksX5_keeps_2 21 rfl rfl)
theorem dX5_keeps_68 : decode cX5_keeps 68 = .ok (.iadd, 1) := dk_96 (dk_at dksX5_keeps_2 22 rfl rfl)
theorem dX5_keeps_69 : decode cX5_keeps 69 = .ok (.putfield 95, 3) := dk_181 0 95 (dk_at dksX5_keeps_3 0 rfl rfl)
theorem dX5_keeps_72 : decode cX5_keeps 72 = .ok (.iinc 2 1, 3) := dk_132 2 1 (dk_at dksX5_keeps_3 3 rfl rfl)
theorem dX5_keeps_75 : decode cX5_keeps 75 = .ok (.goto (-68), 3) := dk_167 255 188 (dk_at dksX5_keeps_3 6 rfl rfl)
theorem dX5_keeps_78 : decode cX5_keeps 78 = .ok (.return_, 1) := dk_177 (dk_at dksX5_keeps_3 9 rfl rfl)
def dkwX5_first_1 : List UInt8 := [44, 180, 0, 102, 42, 180, 0, 17, 27, 50, 180, 0, 102, 182, 0, 113, 172]
abbrev dktX5_first_1 : List UInt8 := dkwX5_first_1 ++ []
def dkwX5_first_0 : List UInt8 := [42, 42, 180, 0, 17, 27, 50, 2, 182, 0, 109, 77, 44, 199, 0, 7, 3, 167, 0, 23, 42, 180, 0, 42]
abbrev dktX5_first_0 : List UInt8 := dkwX5_first_0 ++ dktX5_first_1
theorem dksX5_first_0 : cX5_first.data.toList.drop 0 = dktX5_first_0 := by decide +kernel
theorem dksX5_first_1 : cX5_first.data.toList.drop 24 = dktX5_first_1 := dk_seg dksX5_first_0 24 rfl rfl
theorem dX5_first_0 : decode cX5_first 0 = .ok (.aload_n 0, 1) := dk_42 (dk_at dksX5_first_0 0 rfl rfl)
theorem dX5_first_1 : decode cX5_first 1 = .ok (.aload_n 0, 1) := dk_42 (dk_at dksX5_first_0 1 rfl rfl)
theorem dX5_first_2 : decode cX5_first 2 = .ok (.getfield 17, 3) := dk_180 0 17 (dk_at dksX5_first_0 2 rfl rfl)
theorem dX5_first_5 : decode cX5_first 5 = .ok (.iload_n 1, 1) := dk_27 (dk_at dksX5_first_0 5 rfl rfl)
theorem dX5_first_6 : decode cX5_first 6 = .ok (.aaload, 1) := dk_50 (dk_at dksX5_first_0 6 rfl rfl)
theorem dX5_first_7 : decode cX5_first 7 = .ok (.iconst (-1), 1) := dk_2 (dk_at dksX5_first_0 7 rfl rfl)
theorem dX5_first_8 : decode cX5_first 8 = .ok (.invokevirtual 109, 3) := dk_182 0 109 (dk_at dksX5_first_0 8 rfl rfl)
theorem dX5_first_11 : decode cX5_first 11 = .ok (.astore_n 2, 1) := dk_77 (dk_at dksX5_first_0 11 rfl rfl)
theorem dX5_first_12 : decode cX5_first 12 = .ok (.aload_n 2, 1) := dk_44 (dk_at dksX5_first_0 12 rfl rfl)
theorem dX5_first_13 : decode cX5_first 13 = .ok (.ifnonnull 7, 3) := dk_199 0 7 (dk_at dksX5_first_0 13 rfl rfl)
theorem dX5_first_16 : decode cX5_first 16 = .ok (.iconst 0, 1) := dk_3 (dk_at dksX5_first_0 16 rfl rfl)
theorem dX5_first_17 : decode cX5_first 17 = .ok (.goto 23, 3) := dk_167 0 23 (dk_at dksX5_first_0 17 rfl rfl)
theorem dX5_first_20 : decode cX5_first 20 = .ok (.aload_n 0, 1) := dk_42 (dk_at dksX5_first_0 20 rfl rfl)
theorem dX5_first_21 : decode cX5_first 21 = .ok (.getfield 42, 3) := dk_180 0 42 (dk_at dksX5_first_0 21 rfl rfl)
theorem dX5_first_24 : decode cX5_first 24 = .ok (.aload_n 2, 1) := dk_44 (dk_at dksX5_first_1 0 rfl rfl)
theorem dX5_first_25 : decode cX5_first 25 = .ok (.getfield 102, 3) := dk_180 0 102 (dk_at dksX5_first_1 1 rfl rfl)
theorem dX5_first_28 : decode cX5_first 28 = .ok (.aload_n 0, 1) := dk_42 (dk_at dksX5_first_1 4 rfl rfl)
theorem dX5_first_29 : decode cX5_first 29 = .ok (.getfield 17, 3) := dk_180 0 17 (dk_at dksX5_first_1 5 rfl rfl)
theorem dX5_first_32 : decode cX5_first 32 = .ok (.iload_n 1, 1) := dk_27 (dk_at dksX5_first_1 8 rfl rfl)
theorem dX5_first_33 : decode cX5_first 33 = .ok (.aaload, 1) := dk_50 (dk_at dksX5_first_1 9 rfl rfl)
theorem dX5_first_34 : decode cX5_first 34 = .ok (.getfield 102, 3) := dk_180 0 102 (dk_at dksX5_first_1 10 rfl rfl)
theorem dX5_first_37 : decode cX5_first 37 = .ok (.invokevirtual 113, 3) := dk_182 0 113 (dk_at dksX5_first_1 13 rfl rfl)
theorem dX5_first_40 : decode cX5_first 40 = .ok (.ireturn, 1) := dk_172 (dk_at dksX5_first_1 16 rfl rfl)
def dkwX5_neighbor_2 : List UInt8 := [42, 180, 0, 17, 21, 4, 50, 176, 29, 28, 96, 62, 167, 255, 203, 1, 176]
abbrev dktX5_neighbor_2 : List UInt8 := dkwX5_neighbor_2 ++ []
def dkwX5_neighbor_1 : List UInt8 := [182, 0, 105, 54, 4, 21, 4, 2, 159, 0, 24, 42, 180, 0, 17, 21, 4, 50, 180, 0, 98, 153, 0, 11]
abbrev dktX5_neighbor_1 : List UInt8 := dkwX5_neighbor_1 ++ dktX5_neighbor_2
def dkwX5_neighbor_0 : List UInt8 := [43, 180, 0, 102, 28, 96, 62, 29, 155, 0, 55, 29, 42, 180, 0, 42, 180, 0, 46, 162, 0, 44, 42, 29]
abbrev dktX5_neighbor_0 : List UInt8 := dkwX5_neighbor_0 ++ dktX5_neighbor_1
theorem dksX5_neighbor_0 : cX5_neighbor.data.toList.drop 0 = dktX5_neighbor_0 := by decide +kernel
theorem dksX5_neighbor_1 : cX5_neighbor.data.toList.drop 24 = dktX5_neighbor_1 := dk_seg dksX5_neighbor_0 24 rfl rfl
theorem dksX5_neighbor_2 : cX5_neighbor.data.toList.drop 48 = dktX5_neighbor_2 := dk_seg dksX5_neighbor_1 24 rfl rfl
theorem dX5_neighbor_0 : decode cX5_neighbor 0 = .ok (.aload_n 1, 1) := dk_43 (dk_at dksX5_neighbor_0 0 rfl rfl)
theorem dX5_neighbor_1 : decode cX5_neighbor 1 = .ok (.getfield 102, 3) := dk_180 0 102 (dk_at dksX5_neighbor_0 1 rfl rfl)
theorem dX5_neighbor_4 : decode cX5_neighbor 4 = .ok (.iload_n 2, 1) := dk_28 (dk_at dksX5_neighbor_0 4 rfl rfl)
theorem dX5_neighbor_5 : decode cX5_neighbor 5 = .ok (.iadd, 1) := dk_96 (dk_at dksX5_neighbor_0 5 rfl rfl)
theorem dX5_neighbor_6 : decode cX5_neighbor 6 = .ok (.istore_n 3, 1) := dk_62 (dk_at dksX5_neighbor_0 6 rfl rfl)
theorem dX5_neighbor_7 : decode cX5_neighbor 7 = .ok (.iload_n 3, 1) := dk_29 (dk_at dksX5_neighbor_0 7 rfl rfl)
theorem dX5_neighbor_8 : decode cX5_neighbor 8 = .ok (.ifCond .lt 55, 3) := dk_155 0 55 (dk_at dksX5_neighbor_0 8 rfl rfl)
theorem dX5_neighbor_11 : decode cX5_neighbor 11 = .ok (.iload_n 3, 1) := dk_29 (dk_at dksX5_neighbor_0 11 rfl rfl)
theorem dX5_neighbor_12 : decode cX5_neighbor 12 = .ok (.aload_n 0, 1) := dk_42 (dk_at dksX5_neighbor_0 12 rfl rfl)
theorem dX5_neighbor_13 : decode cX5_neighbor 13 = .ok (.getfield 42, 3) := dk_180 0 42 (dk_at dksX5_neighbor_0 13 rfl rfl)
theorem dX5_neighbor_16 : decode cX5_neighbor 16 = .ok (.getfield 46, 3) := dk_180 0 46 (dk_at dksX5_neighbor_0 16 rfl rfl)
theorem dX5_neighbor_19 : decode cX5_neighbor 19 = .ok (.if_icmp .ge 44, 3) := dk_162 0 44 (dk_at dksX5_neighbor_0 19 rfl rfl)
theorem dX5_neighbor_22 : decode cX5_neighbor 22 = .ok (.aload_n 0, 1) := dk_42 (dk_at dksX5_neighbor_0 22 rfl rfl)
theorem dX5_neighbor_23 : decode cX5_neighbor 23 = .ok (.iload_n 3, 1) := dk_29 (dk_at dksX5_neighbor_0 23 rfl rfl)
theorem dX5_neighbor_24 : decode cX5_neighbor 24 = .ok (.invokevirtual 105, 3) := dk_182 0 105 (dk_at dksX5_neighbor_1 0 rfl rfl)
theorem dX5_neighbor_27 : decode cX5_neighbor 27 = .ok (.istore 4, 2) := dk_54 4 (dk_at dksX5_neighbor_1 3 rfl rfl)
theorem dX5_neighbor_29 : decode cX5_neighbor 29 = .ok (.iload 4, 2) := dk_21 4 (dk_at dksX5_neighbor_1 5 rfl rfl)
theorem dX5_neighbor_31 : decode cX5_neighbor 31 = .ok (.iconst (-1), 1) := dk_2 (dk_at dksX5_neighbor_1 7 rfl rfl)
theorem dX5_neighbor_32 : decode cX5_neighbor 32 = .ok (.if_icmp .eq 24, 3) := dk_159 0 24 (dk_at dksX5_neighbor_1 8 rfl rfl)
theorem dX5_neighbor_35 : decode cX5_neighbor 35 = .ok (.aload_n 0, 1) := dk_42 (dk_at dksX5_neighbor_1 11 rfl rfl)
theorem dX5_neighbor_36 : decode cX5_neighbor 36 = .ok (.getfield 17, 3) := dk_180 0 17 (dk_at dksX5_neighbor_1 12 rfl rfl)
theorem dX5_neighbor_39 : decode cX5_neighbor 39 = .ok (.iload 4, 2) := dk_21 4 (dk_at dksX5_neighbor_1 15 rfl rfl)
theorem dX5_neighbor_41 : decode cX5_neighbor 41 = .ok (.aaload, 1) := dk_50 (dk_at dksX5_neighbor_1 17 rfl rfl)
theorem dX5_neighbor_42 : decode cX5_neighbor 42 = .ok (.getfield 98, 3) := dk_180 0 98 (dk_at dksX5_neighbor_1 18 rfl rfl)
theorem dX5_neighbor_45 : decode cX5_neighbor 45 = .ok (.ifCond .eq 11, 3) := dk_153 0 11 (dk_at dksX5_neighbor_1 21 rfl rfl)
theorem dX5_neighbor_48 : decode cX5_neighbor 48 = .ok (.aload_n 0, 1) := dk_42 (dk_at dksX5_neighbor_2 0 rfl rfl)
theorem dX5_neighbor_49 : decode cX5_neighbor 49 = .ok (.getfield 17, 3) := dk_180 0 17 (dk_at dksX5_neighbor_2 1 rfl rfl)
theorem dX5_neighbor_52 : decode cX5_neighbor 52 = .ok (.iload 4, 2) := dk_21 4 (dk_at dksX5_neighbor_2 4 rfl rfl)
theorem dX5_neighbor_54 : decode cX5_neighbor 54 = .ok (.aaload, 1) := dk_50 (dk_at dksX5_neighbor_2 6 rfl rfl)
theorem dX5_neighbor_55 : decode cX5_neighbor 55 = .ok (.areturn, 1) := dk_176 (dk_at dksX5_neighbor_2 7 rfl rfl)
theorem dX5_neighbor_56 : decode cX5_neighbor 56 = .ok (.iload_n 3, 1) := dk_29 (dk_at dksX5_neighbor_2 8 rfl rfl)
theorem dX5_neighbor_57 : decode cX5_neighbor 57 = .ok (.iload_n 2, 1) := dk_28 (dk_at dksX5_neighbor_2 9 rfl rfl)
theorem dX5_neighbor_58 : decode cX5_neighbor 58 = .ok (.iadd, 1) := dk_96 (dk_at dksX5_neighbor_2 10 rfl rfl)
theorem dX5_neighbor_59 : decode cX5_neighbor 59 = .ok (.istore_n 3, 1) := dk_62 (dk_at dksX5_neighbor_2 11 rfl rfl)
theorem dX5_neighbor_60 : decode cX5_neighbor 60 = .ok (.goto (-53), 3) := dk_167 255 203 (dk_at dksX5_neighbor_2 12 rfl rfl)
theorem dX5_neighbor_63 : decode cX5_neighbor 63 = .ok (.aconst_null, 1) := dk_1 (dk_at dksX5_neighbor_2 15 rfl rfl)
theorem dX5_neighbor_64 : decode cX5_neighbor 64 = .ok (.areturn, 1) := dk_176 (dk_at dksX5_neighbor_2 16 rfl rfl)
def dkwX5_numberAt_1 : List UInt8 := [172, 132, 2, 1, 167, 255, 230, 2, 172]
abbrev dktX5_numberAt_1 : List UInt8 := dkwX5_numberAt_1 ++ []
def dkwX5_numberAt_0 : List UInt8 := [3, 61, 28, 42, 180, 0, 34, 162, 0, 24, 42, 180, 0, 17, 28, 50, 180, 0, 102, 27, 160, 0, 5, 28]
abbrev dktX5_numberAt_0 : List UInt8 := dkwX5_numberAt_0 ++ dktX5_numberAt_1
theorem dksX5_numberAt_0 : cX5_numberAt.data.toList.drop 0 = dktX5_numberAt_0 := by decide +kernel
theorem dksX5_numberAt_1 : cX5_numberAt.data.toList.drop 24 = dktX5_numberAt_1 := dk_seg dksX5_numberAt_0 24 rfl rfl
theorem dX5_numberAt_0 : decode cX5_numberAt 0 = .ok (.iconst 0, 1) := dk_3 (dk_at dksX5_numberAt_0 0 rfl rfl)
theorem dX5_numberAt_1 : decode cX5_numberAt 1 = .ok (.istore_n 2, 1) := dk_61 (dk_at dksX5_numberAt_0 1 rfl rfl)
theorem dX5_numberAt_2 : decode cX5_numberAt 2 = .ok (.iload_n 2, 1) := dk_28 (dk_at dksX5_numberAt_0 2 rfl rfl)
theorem dX5_numberAt_3 : decode cX5_numberAt 3 = .ok (.aload_n 0, 1) := dk_42 (dk_at dksX5_numberAt_0 3 rfl rfl)
theorem dX5_numberAt_4 : decode cX5_numberAt 4 = .ok (.getfield 34, 3) := dk_180 0 34 (dk_at dksX5_numberAt_0 4 rfl rfl)
theorem dX5_numberAt_7 : decode cX5_numberAt 7 = .ok (.if_icmp .ge 24, 3) := dk_162 0 24 (dk_at dksX5_numberAt_0 7 rfl rfl)
theorem dX5_numberAt_10 : decode cX5_numberAt 10 = .ok (.aload_n 0, 1) := dk_42 (dk_at dksX5_numberAt_0 10 rfl rfl)
theorem dX5_numberAt_11 : decode cX5_numberAt 11 = .ok (.getfield 17, 3) := dk_180 0 17 (dk_at dksX5_numberAt_0 11 rfl rfl)
theorem dX5_numberAt_14 : decode cX5_numberAt 14 = .ok (.iload_n 2, 1) := dk_28 (dk_at dksX5_numberAt_0 14 rfl rfl)
theorem dX5_numberAt_15 : decode cX5_numberAt 15 = .ok (.aaload, 1) := dk_50 (dk_at dksX5_numberAt_0 15 rfl rfl)
theorem dX5_numberAt_16 : decode cX5_numberAt 16 = .ok (.getfield 102, 3) := dk_180 0 102 (dk_at dksX5_numberAt_0 16 rfl rfl)
theorem dX5_numberAt_19 : decode cX5_numberAt 19 = .ok (.iload_n 1, 1) := dk_27 (dk_at dksX5_numberAt_0 19 rfl rfl)
theorem dX5_numberAt_20 : decode cX5_numberAt 20 = .ok (.if_icmp .ne 5, 3) := dk_160 0 5 (dk_at dksX5_numberAt_0 20 rfl rfl)
theorem dX5_numberAt_23 : decode cX5_numberAt 23 = .ok (.iload_n 2, 1) := dk_28 (dk_at dksX5_numberAt_0 23 rfl rfl)
theorem dX5_numberAt_24 : decode cX5_numberAt 24 = .ok (.ireturn, 1) := dk_172 (dk_at dksX5_numberAt_1 0 rfl rfl)
theorem dX5_numberAt_25 : decode cX5_numberAt 25 = .ok (.iinc 2 1, 3) := dk_132 2 1 (dk_at dksX5_numberAt_1 1 rfl rfl)
theorem dX5_numberAt_28 : decode cX5_numberAt 28 = .ok (.goto (-26), 3) := dk_167 255 230 (dk_at dksX5_numberAt_1 4 rfl rfl)
theorem dX5_numberAt_31 : decode cX5_numberAt 31 = .ok (.iconst (-1), 1) := dk_2 (dk_at dksX5_numberAt_1 7 rfl rfl)
theorem dX5_numberAt_32 : decode cX5_numberAt 32 = .ok (.ireturn, 1) := dk_172 (dk_at dksX5_numberAt_1 8 rfl rfl)
def dkwX5_last_2 : List UInt8 := [4, 100, 172]
abbrev dktX5_last_2 : List UInt8 := dkwX5_last_2 ++ []
def dkwX5_last_1 : List UInt8 := [100, 167, 0, 25, 42, 180, 0, 42, 42, 180, 0, 17, 27, 50, 180, 0, 102, 44, 180, 0, 102, 182, 0, 113]
abbrev dktX5_last_1 : List UInt8 := dkwX5_last_1 ++ dktX5_last_2
def dkwX5_last_0 : List UInt8 := [42, 42, 180, 0, 17, 27, 50, 4, 182, 0, 109, 77, 44, 199, 0, 15, 42, 180, 0, 42, 180, 0, 46, 4]
abbrev dktX5_last_0 : List UInt8 := dkwX5_last_0 ++ dktX5_last_1
theorem dksX5_last_0 : cX5_last.data.toList.drop 0 = dktX5_last_0 := by decide +kernel
theorem dksX5_last_1 : cX5_last.data.toList.drop 24 = dktX5_last_1 := dk_seg dksX5_last_0 24 rfl rfl
theorem dksX5_last_2 : cX5_last.data.toList.drop 48 = dktX5_last_2 := dk_seg dksX5_last_1 24 rfl rfl
theorem dX5_last_0 : decode cX5_last 0 = .ok (.aload_n 0, 1) := dk_42 (dk_at dksX5_last_0 0 rfl rfl)
theorem dX5_last_1 : decode cX5_last 1 = .ok (.aload_n 0, 1) := dk_42 (dk_at dksX5_last_0 1 rfl rfl)
theorem dX5_last_2 : decode cX5_last 2 = .ok (.getfield 17, 3) := dk_180 0 17 (dk_at dksX5_last_0 2 rfl rfl)
theorem dX5_last_5 : decode cX5_last 5 = .ok (.iload_n 1, 1) := dk_27 (dk_at dksX5_last_0 5 rfl rfl)
theorem dX5_last_6 : decode cX5_last 6 = .ok (.aaload, 1) := dk_50 (dk_at dksX5_last_0 6 rfl rfl)
theorem dX5_last_7 : decode cX5_last 7 = .ok (.iconst 1, 1) := dk_4 (dk_at dksX5_last_0 7 rfl rfl)
theorem dX5_last_8 : decode cX5_last 8 = .ok (.invokevirtual 109, 3) := dk_182 0 109 (dk_at dksX5_last_0 8 rfl rfl)
theorem dX5_last_11 : decode cX5_last 11 = .ok (.astore_n 2, 1) := dk_77 (dk_at dksX5_last_0 11 rfl rfl)
theorem dX5_last_12 : decode cX5_last 12 = .ok (.aload_n 2, 1) := dk_44 (dk_at dksX5_last_0 12 rfl rfl)
theorem dX5_last_13 : decode cX5_last 13 = .ok (.ifnonnull 15, 3) := dk_199 0 15 (dk_at dksX5_last_0 13 rfl rfl)
theorem dX5_last_16 : decode cX5_last 16 = .ok (.aload_n 0, 1) := dk_42 (dk_at dksX5_last_0 16 rfl rfl)
theorem dX5_last_17 : decode cX5_last 17 = .ok (.getfield 42, 3) := dk_180 0 42 (dk_at dksX5_last_0 17 rfl rfl)
theorem dX5_last_20 : decode cX5_last 20 = .ok (.getfield 46, 3) := dk_180 0 46 (dk_at dksX5_last_0 20 rfl rfl)
theorem dX5_last_23 : decode cX5_last 23 = .ok (.iconst 1, 1) := dk_4 (dk_at dksX5_last_0 23 rfl rfl)
theorem dX5_last_24 : decode cX5_last 24 = .ok (.isub, 1) := dk_100 (dk_at dksX5_last_1 0 rfl rfl)
theorem dX5_last_25 : decode cX5_last 25 = .ok (.goto 25, 3) := dk_167 0 25 (dk_at dksX5_last_1 1 rfl rfl)
theorem dX5_last_28 : decode cX5_last 28 = .ok (.aload_n 0, 1) := dk_42 (dk_at dksX5_last_1 4 rfl rfl)
theorem dX5_last_29 : decode cX5_last 29 = .ok (.getfield 42, 3) := dk_180 0 42 (dk_at dksX5_last_1 5 rfl rfl)
theorem dX5_last_32 : decode cX5_last 32 = .ok (.aload_n 0, 1) := dk_42 (dk_at dksX5_last_1 8 rfl rfl)
theorem dX5_last_33 : decode cX5_last 33 = .ok (.getfield 17, 3) := dk_180 0 17 (dk_at dksX5_last_1 9 rfl rfl)
theorem dX5_last_36 : decode cX5_last 36 = .ok (.iload_n 1, 1) := dk_27 (dk_at dksX5_last_1 12 rfl rfl)
theorem dX5_last_37 : decode cX5_last 37 = .ok (.aaload, 1) := dk_50 (dk_at dksX5_last_1 13 rfl rfl)
theorem dX5_last_38 : decode cX5_last 38 = .ok (.getfield 102, 3) := dk_180 0 102 (dk_at dksX5_last_1 14 rfl rfl)
theorem dX5_last_41 : decode cX5_last 41 = .ok (.aload_n 2, 1) := dk_44 (dk_at dksX5_last_1 17 rfl rfl)
theorem dX5_last_42 : decode cX5_last 42 = .ok (.getfield 102, 3) := dk_180 0 102 (dk_at dksX5_last_1 18 rfl rfl)
theorem dX5_last_45 : decode cX5_last 45 = .ok (.invokevirtual 113, 3) := dk_182 0 113 (dk_at dksX5_last_1 21 rfl rfl)
theorem dX5_last_48 : decode cX5_last 48 = .ok (.iconst 1, 1) := dk_4 (dk_at dksX5_last_2 0 rfl rfl)
theorem dX5_last_49 : decode cX5_last 49 = .ok (.isub, 1) := dk_100 (dk_at dksX5_last_2 1 rfl rfl)
theorem dX5_last_50 : decode cX5_last 50 = .ok (.ireturn, 1) := dk_172 (dk_at dksX5_last_2 2 rfl rfl)
def dkwX5_area_2 : List UInt8 := [167, 255, 218, 28, 172]
abbrev dktX5_area_2 : List UInt8 := dkwX5_area_2 ++ []
def dkwX5_area_1 : List UInt8 := [180, 0, 49, 29, 46, 42, 180, 0, 17, 27, 50, 180, 0, 88, 100, 184, 0, 123, 96, 61, 132, 3, 1]
abbrev dktX5_area_1 : List UInt8 := dkwX5_area_1 ++ dktX5_area_2
def dkwX5_area_0 : List UInt8 := [3, 61, 42, 27, 182, 0, 117, 62, 29, 42, 27, 182, 0, 120, 163, 0, 35, 28, 3, 42, 180, 0, 42]
abbrev dktX5_area_0 : List UInt8 := dkwX5_area_0 ++ dktX5_area_1
theorem dksX5_area_0 : cX5_area.data.toList.drop 0 = dktX5_area_0 := by decide +kernel
theorem dksX5_area_1 : cX5_area.data.toList.drop 23 = dktX5_area_1 := dk_seg dksX5_area_0 23 rfl rfl
theorem dksX5_area_2 : cX5_area.data.toList.drop 46 = dktX5_area_2 := dk_seg dksX5_area_1 23 rfl rfl
theorem dX5_area_0 : decode cX5_area 0 = .ok (.iconst 0, 1) := dk_3 (dk_at dksX5_area_0 0 rfl rfl)
theorem dX5_area_1 : decode cX5_area 1 = .ok (.istore_n 2, 1) := dk_61 (dk_at dksX5_area_0 1 rfl rfl)
theorem dX5_area_2 : decode cX5_area 2 = .ok (.aload_n 0, 1) := dk_42 (dk_at dksX5_area_0 2 rfl rfl)
theorem dX5_area_3 : decode cX5_area 3 = .ok (.iload_n 1, 1) := dk_27 (dk_at dksX5_area_0 3 rfl rfl)
theorem dX5_area_4 : decode cX5_area 4 = .ok (.invokevirtual 117, 3) := dk_182 0 117 (dk_at dksX5_area_0 4 rfl rfl)
theorem dX5_area_7 : decode cX5_area 7 = .ok (.istore_n 3, 1) := dk_62 (dk_at dksX5_area_0 7 rfl rfl)
theorem dX5_area_8 : decode cX5_area 8 = .ok (.iload_n 3, 1) := dk_29 (dk_at dksX5_area_0 8 rfl rfl)
theorem dX5_area_9 : decode cX5_area 9 = .ok (.aload_n 0, 1) := dk_42 (dk_at dksX5_area_0 9 rfl rfl)
theorem dX5_area_10 : decode cX5_area 10 = .ok (.iload_n 1, 1) := dk_27 (dk_at dksX5_area_0 10 rfl rfl)
theorem dX5_area_11 : decode cX5_area 11 = .ok (.invokevirtual 120, 3) := dk_182 0 120 (dk_at dksX5_area_0 11 rfl rfl)
theorem dX5_area_14 : decode cX5_area 14 = .ok (.if_icmp .gt 35, 3) := dk_163 0 35 (dk_at dksX5_area_0 14 rfl rfl)
theorem dX5_area_17 : decode cX5_area 17 = .ok (.iload_n 2, 1) := dk_28 (dk_at dksX5_area_0 17 rfl rfl)
theorem dX5_area_18 : decode cX5_area 18 = .ok (.iconst 0, 1) := dk_3 (dk_at dksX5_area_0 18 rfl rfl)
theorem dX5_area_19 : decode cX5_area 19 = .ok (.aload_n 0, 1) := dk_42 (dk_at dksX5_area_0 19 rfl rfl)
theorem dX5_area_20 : decode cX5_area 20 = .ok (.getfield 42, 3) := dk_180 0 42 (dk_at dksX5_area_0 20 rfl rfl)
theorem dX5_area_23 : decode cX5_area 23 = .ok (.getfield 49, 3) := dk_180 0 49 (dk_at dksX5_area_1 0 rfl rfl)
theorem dX5_area_26 : decode cX5_area 26 = .ok (.iload_n 3, 1) := dk_29 (dk_at dksX5_area_1 3 rfl rfl)
theorem dX5_area_27 : decode cX5_area 27 = .ok (.iaload, 1) := dk_46 (dk_at dksX5_area_1 4 rfl rfl)
theorem dX5_area_28 : decode cX5_area 28 = .ok (.aload_n 0, 1) := dk_42 (dk_at dksX5_area_1 5 rfl rfl)
theorem dX5_area_29 : decode cX5_area 29 = .ok (.getfield 17, 3) := dk_180 0 17 (dk_at dksX5_area_1 6 rfl rfl)
theorem dX5_area_32 : decode cX5_area 32 = .ok (.iload_n 1, 1) := dk_27 (dk_at dksX5_area_1 9 rfl rfl)
theorem dX5_area_33 : decode cX5_area 33 = .ok (.aaload, 1) := dk_50 (dk_at dksX5_area_1 10 rfl rfl)
theorem dX5_area_34 : decode cX5_area 34 = .ok (.getfield 88, 3) := dk_180 0 88 (dk_at dksX5_area_1 11 rfl rfl)
theorem dX5_area_37 : decode cX5_area 37 = .ok (.isub, 1) := dk_100 (dk_at dksX5_area_1 14 rfl rfl)
theorem dX5_area_38 : decode cX5_area 38 = .ok (.invokestatic 123, 3) := dk_184 0 123 (dk_at dksX5_area_1 15 rfl rfl)
theorem dX5_area_41 : decode cX5_area 41 = .ok (.iadd, 1) := dk_96 (dk_at dksX5_area_1 18 rfl rfl)
theorem dX5_area_42 : decode cX5_area 42 = .ok (.istore_n 2, 1) := dk_61 (dk_at dksX5_area_1 19 rfl rfl)
theorem dX5_area_43 : decode cX5_area 43 = .ok (.iinc 3 1, 3) := dk_132 3 1 (dk_at dksX5_area_1 20 rfl rfl)
theorem dX5_area_46 : decode cX5_area 46 = .ok (.goto (-38), 3) := dk_167 255 218 (dk_at dksX5_area_2 0 rfl rfl)
theorem dX5_area_49 : decode cX5_area 49 = .ok (.iload_n 2, 1) := dk_28 (dk_at dksX5_area_2 3 rfl rfl)
theorem dX5_area_50 : decode cX5_area 50 = .ok (.ireturn, 1) := dk_172 (dk_at dksX5_area_2 4 rfl rfl)
def dkwX5_width_1 : List UInt8 := [180, 0, 17, 27, 50, 182, 0, 38, 5, 108, 100, 182, 0, 131, 172]
abbrev dktX5_width_1 : List UInt8 := dkwX5_width_1 ++ []
def dkwX5_width_0 : List UInt8 := [42, 180, 0, 42, 42, 180, 0, 17, 27, 50, 180, 0, 102, 42, 180, 0, 17, 27, 50, 180, 0, 128, 42]
abbrev dktX5_width_0 : List UInt8 := dkwX5_width_0 ++ dktX5_width_1
theorem dksX5_width_0 : cX5_width.data.toList.drop 0 = dktX5_width_0 := by decide +kernel
theorem dksX5_width_1 : cX5_width.data.toList.drop 23 = dktX5_width_1 := dk_seg dksX5_width_0 23 rfl rfl
theorem dX5_width_0 : decode cX5_width 0 = .ok (.aload_n 0, 1) := dk_42 (dk_at dksX5_width_0 0 rfl rfl)
theorem dX5_width_1 : decode cX5_width 1 = .ok (.getfield 42, 3) := dk_180 0 42 (dk_at dksX5_width_0 1 rfl rfl)
theorem dX5_width_4 : decode cX5_width 4 = .ok (.aload_n 0, 1) := dk_42 (dk_at dksX5_width_0 4 rfl rfl)
theorem dX5_width_5 : decode cX5_width 5 = .ok (.getfield 17, 3) := dk_180 0 17 (dk_at dksX5_width_0 5 rfl rfl)
theorem dX5_width_8 : decode cX5_width 8 = .ok (.iload_n 1, 1) := dk_27 (dk_at dksX5_width_0 8 rfl rfl)
theorem dX5_width_9 : decode cX5_width 9 = .ok (.aaload, 1) := dk_50 (dk_at dksX5_width_0 9 rfl rfl)
theorem dX5_width_10 : decode cX5_width 10 = .ok (.getfield 102, 3) := dk_180 0 102 (dk_at dksX5_width_0 10 rfl rfl)
theorem dX5_width_13 : decode cX5_width 13 = .ok (.aload_n 0, 1) := dk_42 (dk_at dksX5_width_0 13 rfl rfl)
theorem dX5_width_14 : decode cX5_width 14 = .ok (.getfield 17, 3) := dk_180 0 17 (dk_at dksX5_width_0 14 rfl rfl)
theorem dX5_width_17 : decode cX5_width 17 = .ok (.iload_n 1, 1) := dk_27 (dk_at dksX5_width_0 17 rfl rfl)
theorem dX5_width_18 : decode cX5_width 18 = .ok (.aaload, 1) := dk_50 (dk_at dksX5_width_0 18 rfl rfl)
theorem dX5_width_19 : decode cX5_width 19 = .ok (.getfield 128, 3) := dk_180 0 128 (dk_at dksX5_width_0 19 rfl rfl)
theorem dX5_width_22 : decode cX5_width 22 = .ok (.aload_n 0, 1) := dk_42 (dk_at dksX5_width_0 22 rfl rfl)
theorem dX5_width_23 : decode cX5_width 23 = .ok (.getfield 17, 3) := dk_180 0 17 (dk_at dksX5_width_1 0 rfl rfl)
theorem dX5_width_26 : decode cX5_width 26 = .ok (.iload_n 1, 1) := dk_27 (dk_at dksX5_width_1 3 rfl rfl)
theorem dX5_width_27 : decode cX5_width 27 = .ok (.aaload, 1) := dk_50 (dk_at dksX5_width_1 4 rfl rfl)
theorem dX5_width_28 : decode cX5_width 28 = .ok (.invokevirtual 38, 3) := dk_182 0 38 (dk_at dksX5_width_1 5 rfl rfl)
theorem dX5_width_31 : decode cX5_width 31 = .ok (.iconst 2, 1) := dk_5 (dk_at dksX5_width_1 8 rfl rfl)
theorem dX5_width_32 : decode cX5_width 32 = .ok (.idiv, 1) := dk_108 (dk_at dksX5_width_1 9 rfl rfl)
theorem dX5_width_33 : decode cX5_width 33 = .ok (.isub, 1) := dk_100 (dk_at dksX5_width_1 10 rfl rfl)
theorem dX5_width_34 : decode cX5_width 34 = .ok (.invokevirtual 131, 3) := dk_182 0 131 (dk_at dksX5_width_1 11 rfl rfl)
theorem dX5_width_37 : decode cX5_width 37 = .ok (.ireturn, 1) := dk_172 (dk_at dksX5_width_1 14 rfl rfl)
def dkwX5_matches_5 : List UInt8 := [167, 255, 172, 29, 172]
abbrev dktX5_matches_5 : List UInt8 := dkwX5_matches_5 ++ []
def dkwX5_matches_4 : List UInt8 := [167, 0, 20, 42, 180, 0, 27, 42, 180, 0, 30, 21, 4, 46, 21, 4, 79, 132, 3, 1, 132, 4, 1]
abbrev dktX5_matches_4 : List UInt8 := dkwX5_matches_4 ++ dktX5_matches_5
def dkwX5_matches_3 : List UInt8 := [180, 0, 102, 28, 96, 182, 0, 139, 167, 0, 4, 2, 79, 42, 180, 0, 30, 21, 4, 46, 2, 160, 0, 6]
abbrev dktX5_matches_3 : List UInt8 := dkwX5_matches_3 ++ dktX5_matches_4
def dkwX5_matches_2 : List UInt8 := [42, 180, 0, 17, 21, 4, 50, 180, 0, 98, 153, 0, 23, 42, 43, 42, 180, 0, 17, 21, 4, 50]
abbrev dktX5_matches_2 : List UInt8 := dkwX5_matches_2 ++ dktX5_matches_3
def dkwX5_matches_1 : List UInt8 := [132, 4, 1, 167, 255, 236, 3, 54, 4, 21, 4, 42, 180, 0, 34, 162, 0, 81, 42, 180, 0, 30, 21, 4]
abbrev dktX5_matches_1 : List UInt8 := dkwX5_matches_1 ++ dktX5_matches_2
def dkwX5_matches_0 : List UInt8 := [3, 62, 3, 54, 4, 21, 4, 43, 180, 0, 134, 162, 0, 17, 42, 180, 0, 27, 21, 4, 2, 79]
abbrev dktX5_matches_0 : List UInt8 := dkwX5_matches_0 ++ dktX5_matches_1
theorem dksX5_matches_0 : cX5_matches.data.toList.drop 0 = dktX5_matches_0 := by decide +kernel
theorem dksX5_matches_1 : cX5_matches.data.toList.drop 22 = dktX5_matches_1 := dk_seg dksX5_matches_0 22 rfl rfl
theorem dksX5_matches_2 : cX5_matches.data.toList.drop 46 = dktX5_matches_2 := dk_seg dksX5_matches_1 24 rfl rfl
theorem dksX5_matches_3 : cX5_matches.data.toList.drop 68 = dktX5_matches_3 := dk_seg dksX5_matches_2 22 rfl rfl
theorem dksX5_matches_4 : cX5_matches.data.toList.drop 92 = dktX5_matches_4 := dk_seg dksX5_matches_3 24 rfl rfl
theorem dksX5_matches_5 : cX5_matches.data.toList.drop 115 = dktX5_matches_5 := dk_seg dksX5_matches_4 23 rfl rfl
theorem dX5_matches_0 : decode cX5_matches 0 = .ok (.iconst 0, 1) := dk_3 (dk_at dksX5_matches_0 0 rfl rfl)
theorem dX5_matches_1 : decode cX5_matches 1 = .ok (.istore_n 3, 1) := dk_62 (dk_at dksX5_matches_0 1 rfl rfl)
theorem dX5_matches_2 : decode cX5_matches 2 = .ok (.iconst 0, 1) := dk_3 (dk_at dksX5_matches_0 2 rfl rfl)
theorem dX5_matches_3 : decode cX5_matches 3 = .ok (.istore 4, 2) := dk_54 4 (dk_at dksX5_matches_0 3 rfl rfl)
theorem dX5_matches_5 : decode cX5_matches 5 = .ok (.iload 4, 2) := dk_21 4 (dk_at dksX5_matches_0 5 rfl rfl)
theorem dX5_matches_7 : decode cX5_matches 7 = .ok (.aload_n 1, 1) := dk_43 (dk_at dksX5_matches_0 7 rfl rfl)
theorem dX5_matches_8 : decode cX5_matches 8 = .ok (.getfield 134, 3) := dk_180 0 134 (dk_at dksX5_matches_0 8 rfl rfl)
theorem dX5_matches_11 : decode cX5_matches 11 = .ok (.if_icmp .ge 17, 3) := dk_162 0 17 (dk_at dksX5_matches_0 11 rfl rfl)
theorem dX5_matches_14 : decode cX5_matches 14 = .ok (.aload_n 0, 1) := dk_42 (dk_at dksX5_matches_0 14 rfl rfl)
theorem dX5_matches_15 : decode cX5_matches 15 = .ok (.getfield 27, 3) := dk_180 0 27 (dk_at dksX5_matches_0 15 rfl rfl)
theorem dX5_matches_18 : decode cX5_matches 18 = .ok (.iload 4, 2) := dk_21 4 (dk_at dksX5_matches_0 18 rfl rfl)
theorem dX5_matches_20 : decode cX5_matches 20 = .ok (.iconst (-1), 1) := dk_2 (dk_at dksX5_matches_0 20 rfl rfl)
theorem dX5_matches_21 : decode cX5_matches 21 = .ok (.iastore, 1) := dk_79 (dk_at dksX5_matches_0 21 rfl rfl)
theorem dX5_matches_22 : decode cX5_matches 22 = .ok (.iinc 4 1, 3) := dk_132 4 1 (dk_at dksX5_matches_1 0 rfl rfl)
theorem dX5_matches_25 : decode cX5_matches 25 = .ok (.goto (-20), 3) := dk_167 255 236 (dk_at dksX5_matches_1 3 rfl rfl)
theorem dX5_matches_28 : decode cX5_matches 28 = .ok (.iconst 0, 1) := dk_3 (dk_at dksX5_matches_1 6 rfl rfl)
theorem dX5_matches_29 : decode cX5_matches 29 = .ok (.istore 4, 2) := dk_54 4 (dk_at dksX5_matches_1 7 rfl rfl)
theorem dX5_matches_31 : decode cX5_matches 31 = .ok (.iload 4, 2) := dk_21 4 (dk_at dksX5_matches_1 9 rfl rfl)
theorem dX5_matches_33 : decode cX5_matches 33 = .ok (.aload_n 0, 1) := dk_42 (dk_at dksX5_matches_1 11 rfl rfl)
theorem dX5_matches_34 : decode cX5_matches 34 = .ok (.getfield 34, 3) := dk_180 0 34 (dk_at dksX5_matches_1 12 rfl rfl)
theorem dX5_matches_37 : decode cX5_matches 37 = .ok (.if_icmp .ge 81, 3) := dk_162 0 81 (dk_at dksX5_matches_1 15 rfl rfl)
theorem dX5_matches_40 : decode cX5_matches 40 = .ok (.aload_n 0, 1) := dk_42 (dk_at dksX5_matches_1 18 rfl rfl)
theorem dX5_matches_41 : decode cX5_matches 41 = .ok (.getfield 30, 3) := dk_180 0 30 (dk_at dksX5_matches_1 19 rfl rfl)
theorem dX5_matches_44 : decode cX5_matches 44 = .ok (.iload 4, 2) := dk_21 4 (dk_at dksX5_matches_1 22 rfl rfl)
theorem dX5_matches_46 : decode cX5_matches 46 = .ok (.aload_n 0, 1) := dk_42 (dk_at dksX5_matches_2 0 rfl rfl)
theorem dX5_matches_47 : decode cX5_matches 47 = .ok (.getfield 17, 3) := dk_180 0 17 (dk_at dksX5_matches_2 1 rfl rfl)
theorem dX5_matches_50 : decode cX5_matches 50 = .ok (.iload 4, 2) := dk_21 4 (dk_at dksX5_matches_2 4 rfl rfl)
theorem dX5_matches_52 : decode cX5_matches 52 = .ok (.aaload, 1) := dk_50 (dk_at dksX5_matches_2 6 rfl rfl)
theorem dX5_matches_53 : decode cX5_matches 53 = .ok (.getfield 98, 3) := dk_180 0 98 (dk_at dksX5_matches_2 7 rfl rfl)
theorem dX5_matches_56 : decode cX5_matches 56 = .ok (.ifCond .eq 23, 3) := dk_153 0 23 (dk_at dksX5_matches_2 10 rfl rfl)
theorem dX5_matches_59 : decode cX5_matches 59 = .ok (.aload_n 0, 1) := dk_42 (dk_at dksX5_matches_2 13 rfl rfl)
theorem dX5_matches_60 : decode cX5_matches 60 = .ok (.aload_n 1, 1) := dk_43 (dk_at dksX5_matches_2 14 rfl rfl)
theorem dX5_matches_61 : decode cX5_matches 61 = .ok (.aload_n 0, 1) := dk_42 (dk_at dksX5_matches_2 15 rfl rfl)
theorem dX5_matches_62 : decode cX5_matches 62 = .ok (.getfield 17, 3) := dk_180 0 17 (dk_at dksX5_matches_2 16 rfl rfl)
theorem dX5_matches_65 : decode cX5_matches 65 = .ok (.iload 4, 2) := dk_21 4 (dk_at dksX5_matches_2 19 rfl rfl)
theorem dX5_matches_67 : decode cX5_matches 67 = .ok (.aaload, 1) := dk_50 (dk_at dksX5_matches_2 21 rfl rfl)
theorem dX5_matches_68 : decode cX5_matches 68 = .ok (.getfield 102, 3) := dk_180 0 102 (dk_at dksX5_matches_3 0 rfl rfl)
theorem dX5_matches_71 : decode cX5_matches 71 = .ok (.iload_n 2, 1) := dk_28 (dk_at dksX5_matches_3 3 rfl rfl)
theorem dX5_matches_72 : decode cX5_matches 72 = .ok (.iadd, 1) := dk_96 (dk_at dksX5_matches_3 4 rfl rfl)
theorem dX5_matches_73 : decode cX5_matches 73 = .ok (.invokevirtual 139, 3) := dk_182 0 139 (dk_at dksX5_matches_3 5 rfl rfl)
theorem dX5_matches_76 : decode cX5_matches 76 = .ok (.goto 4, 3) := dk_167 0 4 (dk_at dksX5_matches_3 8 rfl rfl)
theorem dX5_matches_79 : decode cX5_matches 79 = .ok (.iconst (-1), 1) := dk_2 (dk_at dksX5_matches_3 11 rfl rfl)
theorem dX5_matches_80 : decode cX5_matches 80 = .ok (.iastore, 1) := dk_79 (dk_at dksX5_matches_3 12 rfl rfl)
theorem dX5_matches_81 : decode cX5_matches 81 = .ok (.aload_n 0, 1) := dk_42 (dk_at dksX5_matches_3 13 rfl rfl)
theorem dX5_matches_82 : decode cX5_matches 82 = .ok (.getfield 30, 3) := dk_180 0 30 (dk_at dksX5_matches_3 14 rfl rfl)
theorem dX5_matches_85 : decode cX5_matches 85 = .ok (.iload 4, 2) := dk_21 4 (dk_at dksX5_matches_3 17 rfl rfl)
theorem dX5_matches_87 : decode cX5_matches 87 = .ok (.iaload, 1) := dk_46 (dk_at dksX5_matches_3 19 rfl rfl)
theorem dX5_matches_88 : decode cX5_matches 88 = .ok (.iconst (-1), 1) := dk_2 (dk_at dksX5_matches_3 20 rfl rfl)
theorem dX5_matches_89 : decode cX5_matches 89 = .ok (.if_icmp .ne 6, 3) := dk_160 0 6 (dk_at dksX5_matches_3 21 rfl rfl)
theorem dX5_matches_92 : decode cX5_matches 92 = .ok (.goto 20, 3) := dk_167 0 20 (dk_at dksX5_matches_4 0 rfl rfl)
theorem dX5_matches_95 : decode cX5_matches 95 = .ok (.aload_n 0, 1) := dk_42 (dk_at dksX5_matches_4 3 rfl rfl)
theorem dX5_matches_96 : decode cX5_matches 96 = .ok (.getfield 27, 3) := dk_180 0 27 (dk_at dksX5_matches_4 4 rfl rfl)
theorem dX5_matches_99 : decode cX5_matches 99 = .ok (.aload_n 0, 1) := dk_42 (dk_at dksX5_matches_4 7 rfl rfl)
theorem dX5_matches_100 : decode cX5_matches 100 = .ok (.getfield 30, 3) := dk_180 0 30 (dk_at dksX5_matches_4 8 rfl rfl)
theorem dX5_matches_103 : decode cX5_matches 103 = .ok (.iload 4, 2) := dk_21 4 (dk_at dksX5_matches_4 11 rfl rfl)
theorem dX5_matches_105 : decode cX5_matches 105 = .ok (.iaload, 1) := dk_46 (dk_at dksX5_matches_4 13 rfl rfl)
theorem dX5_matches_106 : decode cX5_matches 106 = .ok (.iload 4, 2) := dk_21 4 (dk_at dksX5_matches_4 14 rfl rfl)
theorem dX5_matches_108 : decode cX5_matches 108 = .ok (.iastore, 1) := dk_79 (dk_at dksX5_matches_4 16 rfl rfl)
theorem dX5_matches_109 : decode cX5_matches 109 = .ok (.iinc 3 1, 3) := dk_132 3 1 (dk_at dksX5_matches_4 17 rfl rfl)
theorem dX5_matches_112 : decode cX5_matches 112 = .ok (.iinc 4 1, 3) := dk_132 4 1 (dk_at dksX5_matches_4 20 rfl rfl)
theorem dX5_matches_115 : decode cX5_matches 115 = .ok (.goto (-84), 3) := dk_167 255 172 (dk_at dksX5_matches_5 0 rfl rfl)
theorem dX5_matches_118 : decode cX5_matches 118 = .ok (.iload_n 3, 1) := dk_29 (dk_at dksX5_matches_5 3 rfl rfl)
theorem dX5_matches_119 : decode cX5_matches 119 = .ok (.ireturn, 1) := dk_172 (dk_at dksX5_matches_5 4 rfl rfl)
def dkwX5_nearest_3 : List UInt8 := [162, 0, 6, 21, 4, 62, 132, 4, 1, 167, 255, 183, 29, 172]
abbrev dktX5_nearest_3 : List UInt8 := dkwX5_nearest_3 ++ []
def dkwX5_nearest_2 : List UInt8 := [164, 0, 6, 167, 0, 27, 29, 2, 159, 0, 19, 21, 5, 43, 180, 0, 143, 29, 46, 28, 100, 184, 0, 146]
abbrev dktX5_nearest_2 : List UInt8 := dkwX5_nearest_2 ++ dktX5_nearest_3
def dkwX5_nearest_1 : List UInt8 := [184, 0, 146, 54, 5, 42, 180, 0, 27, 21, 4, 46, 2, 160, 0, 39, 21, 5, 43, 180, 0, 149]
abbrev dktX5_nearest_1 : List UInt8 := dkwX5_nearest_1 ++ dktX5_nearest_2
def dkwX5_nearest_0 : List UInt8 := [2, 62, 3, 54, 4, 21, 4, 43, 180, 0, 134, 162, 0, 70, 43, 180, 0, 143, 21, 4, 46, 28, 100]
abbrev dktX5_nearest_0 : List UInt8 := dkwX5_nearest_0 ++ dktX5_nearest_1
theorem dksX5_nearest_0 : cX5_nearest.data.toList.drop 0 = dktX5_nearest_0 := by decide +kernel
theorem dksX5_nearest_1 : cX5_nearest.data.toList.drop 23 = dktX5_nearest_1 := dk_seg dksX5_nearest_0 23 rfl rfl
theorem dksX5_nearest_2 : cX5_nearest.data.toList.drop 45 = dktX5_nearest_2 := dk_seg dksX5_nearest_1 22 rfl rfl
theorem dksX5_nearest_3 : cX5_nearest.data.toList.drop 69 = dktX5_nearest_3 := dk_seg dksX5_nearest_2 24 rfl rfl
theorem dX5_nearest_0 : decode cX5_nearest 0 = .ok (.iconst (-1), 1) := dk_2 (dk_at dksX5_nearest_0 0 rfl rfl)
theorem dX5_nearest_1 : decode cX5_nearest 1 = .ok (.istore_n 3, 1) := dk_62 (dk_at dksX5_nearest_0 1 rfl rfl)
theorem dX5_nearest_2 : decode cX5_nearest 2 = .ok (.iconst 0, 1) := dk_3 (dk_at dksX5_nearest_0 2 rfl rfl)
theorem dX5_nearest_3 : decode cX5_nearest 3 = .ok (.istore 4, 2) := dk_54 4 (dk_at dksX5_nearest_0 3 rfl rfl)
theorem dX5_nearest_5 : decode cX5_nearest 5 = .ok (.iload 4, 2) := dk_21 4 (dk_at dksX5_nearest_0 5 rfl rfl)
theorem dX5_nearest_7 : decode cX5_nearest 7 = .ok (.aload_n 1, 1) := dk_43 (dk_at dksX5_nearest_0 7 rfl rfl)
theorem dX5_nearest_8 : decode cX5_nearest 8 = .ok (.getfield 134, 3) := dk_180 0 134 (dk_at dksX5_nearest_0 8 rfl rfl)
theorem dX5_nearest_11 : decode cX5_nearest 11 = .ok (.if_icmp .ge 70, 3) := dk_162 0 70 (dk_at dksX5_nearest_0 11 rfl rfl)
theorem dX5_nearest_14 : decode cX5_nearest 14 = .ok (.aload_n 1, 1) := dk_43 (dk_at dksX5_nearest_0 14 rfl rfl)
theorem dX5_nearest_15 : decode cX5_nearest 15 = .ok (.getfield 143, 3) := dk_180 0 143 (dk_at dksX5_nearest_0 15 rfl rfl)
theorem dX5_nearest_18 : decode cX5_nearest 18 = .ok (.iload 4, 2) := dk_21 4 (dk_at dksX5_nearest_0 18 rfl rfl)
theorem dX5_nearest_20 : decode cX5_nearest 20 = .ok (.iaload, 1) := dk_46 (dk_at dksX5_nearest_0 20 rfl rfl)
theorem dX5_nearest_21 : decode cX5_nearest 21 = .ok (.iload_n 2, 1) := dk_28 (dk_at dksX5_nearest_0 21 rfl rfl)
theorem dX5_nearest_22 : decode cX5_nearest 22 = .ok (.isub, 1) := dk_100 (dk_at dksX5_nearest_0 22 rfl rfl)
theorem dX5_nearest_23 : decode cX5_nearest 23 = .ok (.invokestatic 146, 3) := dk_184 0 146 (dk_at dksX5_nearest_1 0 rfl rfl)
theorem dX5_nearest_26 : decode cX5_nearest 26 = .ok (.istore 5, 2) := dk_54 5 (dk_at dksX5_nearest_1 3 rfl rfl)
theorem dX5_nearest_28 : decode cX5_nearest 28 = .ok (.aload_n 0, 1) := dk_42 (dk_at dksX5_nearest_1 5 rfl rfl)
theorem dX5_nearest_29 : decode cX5_nearest 29 = .ok (.getfield 27, 3) := dk_180 0 27 (dk_at dksX5_nearest_1 6 rfl rfl)
theorem dX5_nearest_32 : decode cX5_nearest 32 = .ok (.iload 4, 2) := dk_21 4 (dk_at dksX5_nearest_1 9 rfl rfl)
theorem dX5_nearest_34 : decode cX5_nearest 34 = .ok (.iaload, 1) := dk_46 (dk_at dksX5_nearest_1 11 rfl rfl)
theorem dX5_nearest_35 : decode cX5_nearest 35 = .ok (.iconst (-1), 1) := dk_2 (dk_at dksX5_nearest_1 12 rfl rfl)
theorem dX5_nearest_36 : decode cX5_nearest 36 = .ok (.if_icmp .ne 39, 3) := dk_160 0 39 (dk_at dksX5_nearest_1 13 rfl rfl)
theorem dX5_nearest_39 : decode cX5_nearest 39 = .ok (.iload 5, 2) := dk_21 5 (dk_at dksX5_nearest_1 16 rfl rfl)
theorem dX5_nearest_41 : decode cX5_nearest 41 = .ok (.aload_n 1, 1) := dk_43 (dk_at dksX5_nearest_1 18 rfl rfl)
theorem dX5_nearest_42 : decode cX5_nearest 42 = .ok (.getfield 149, 3) := dk_180 0 149 (dk_at dksX5_nearest_1 19 rfl rfl)
theorem dX5_nearest_45 : decode cX5_nearest 45 = .ok (.if_icmp .le 6, 3) := dk_164 0 6 (dk_at dksX5_nearest_2 0 rfl rfl)
theorem dX5_nearest_48 : decode cX5_nearest 48 = .ok (.goto 27, 3) := dk_167 0 27 (dk_at dksX5_nearest_2 3 rfl rfl)
theorem dX5_nearest_51 : decode cX5_nearest 51 = .ok (.iload_n 3, 1) := dk_29 (dk_at dksX5_nearest_2 6 rfl rfl)
theorem dX5_nearest_52 : decode cX5_nearest 52 = .ok (.iconst (-1), 1) := dk_2 (dk_at dksX5_nearest_2 7 rfl rfl)
theorem dX5_nearest_53 : decode cX5_nearest 53 = .ok (.if_icmp .eq 19, 3) := dk_159 0 19 (dk_at dksX5_nearest_2 8 rfl rfl)
theorem dX5_nearest_56 : decode cX5_nearest 56 = .ok (.iload 5, 2) := dk_21 5 (dk_at dksX5_nearest_2 11 rfl rfl)
theorem dX5_nearest_58 : decode cX5_nearest 58 = .ok (.aload_n 1, 1) := dk_43 (dk_at dksX5_nearest_2 13 rfl rfl)
theorem dX5_nearest_59 : decode cX5_nearest 59 = .ok (.getfield 143, 3) := dk_180 0 143 (dk_at dksX5_nearest_2 14 rfl rfl)
theorem dX5_nearest_62 : decode cX5_nearest 62 = .ok (.iload_n 3, 1) := dk_29 (dk_at dksX5_nearest_2 17 rfl rfl)
theorem dX5_nearest_63 : decode cX5_nearest 63 = .ok (.iaload, 1) := dk_46 (dk_at dksX5_nearest_2 18 rfl rfl)
theorem dX5_nearest_64 : decode cX5_nearest 64 = .ok (.iload_n 2, 1) := dk_28 (dk_at dksX5_nearest_2 19 rfl rfl)
theorem dX5_nearest_65 : decode cX5_nearest 65 = .ok (.isub, 1) := dk_100 (dk_at dksX5_nearest_2 20 rfl rfl)
theorem dX5_nearest_66 : decode cX5_nearest 66 = .ok (.invokestatic 146, 3) := dk_184 0 146 (dk_at dksX5_nearest_2 21 rfl rfl)
theorem dX5_nearest_69 : decode cX5_nearest 69 = .ok (.if_icmp .ge 6, 3) := dk_162 0 6 (dk_at dksX5_nearest_3 0 rfl rfl)
theorem dX5_nearest_72 : decode cX5_nearest 72 = .ok (.iload 4, 2) := dk_21 4 (dk_at dksX5_nearest_3 3 rfl rfl)
theorem dX5_nearest_74 : decode cX5_nearest 74 = .ok (.istore_n 3, 1) := dk_62 (dk_at dksX5_nearest_3 5 rfl rfl)
theorem dX5_nearest_75 : decode cX5_nearest 75 = .ok (.iinc 4 1, 3) := dk_132 4 1 (dk_at dksX5_nearest_3 6 rfl rfl)
theorem dX5_nearest_78 : decode cX5_nearest 78 = .ok (.goto (-73), 3) := dk_167 255 183 (dk_at dksX5_nearest_3 9 rfl rfl)
theorem dX5_nearest_81 : decode cX5_nearest 81 = .ok (.iload_n 3, 1) := dk_29 (dk_at dksX5_nearest_3 12 rfl rfl)
theorem dX5_nearest_82 : decode cX5_nearest 82 = .ok (.ireturn, 1) := dk_172 (dk_at dksX5_nearest_3 13 rfl rfl)
def dkwX5_generation_1 : List UInt8 := [167, 255, 244, 28, 172]
abbrev dktX5_generation_1 : List UInt8 := dkwX5_generation_1 ++ []
def dkwX5_generation_0 : List UInt8 := [3, 61, 42, 180, 0, 17, 27, 50, 180, 0, 81, 78, 45, 198, 0, 14, 132, 2, 1, 45, 180, 0, 81, 78]
abbrev dktX5_generation_0 : List UInt8 := dkwX5_generation_0 ++ dktX5_generation_1
theorem dksX5_generation_0 : cX5_generation.data.toList.drop 0 = dktX5_generation_0 := by decide +kernel
theorem dksX5_generation_1 : cX5_generation.data.toList.drop 24 = dktX5_generation_1 := dk_seg dksX5_generation_0 24 rfl rfl
theorem dX5_generation_0 : decode cX5_generation 0 = .ok (.iconst 0, 1) := dk_3 (dk_at dksX5_generation_0 0 rfl rfl)
theorem dX5_generation_1 : decode cX5_generation 1 = .ok (.istore_n 2, 1) := dk_61 (dk_at dksX5_generation_0 1 rfl rfl)
theorem dX5_generation_2 : decode cX5_generation 2 = .ok (.aload_n 0, 1) := dk_42 (dk_at dksX5_generation_0 2 rfl rfl)
theorem dX5_generation_3 : decode cX5_generation 3 = .ok (.getfield 17, 3) := dk_180 0 17 (dk_at dksX5_generation_0 3 rfl rfl)
theorem dX5_generation_6 : decode cX5_generation 6 = .ok (.iload_n 1, 1) := dk_27 (dk_at dksX5_generation_0 6 rfl rfl)
theorem dX5_generation_7 : decode cX5_generation 7 = .ok (.aaload, 1) := dk_50 (dk_at dksX5_generation_0 7 rfl rfl)
theorem dX5_generation_8 : decode cX5_generation 8 = .ok (.getfield 81, 3) := dk_180 0 81 (dk_at dksX5_generation_0 8 rfl rfl)
theorem dX5_generation_11 : decode cX5_generation 11 = .ok (.astore_n 3, 1) := dk_78 (dk_at dksX5_generation_0 11 rfl rfl)
theorem dX5_generation_12 : decode cX5_generation 12 = .ok (.aload_n 3, 1) := dk_45 (dk_at dksX5_generation_0 12 rfl rfl)
theorem dX5_generation_13 : decode cX5_generation 13 = .ok (.ifnull 14, 3) := dk_198 0 14 (dk_at dksX5_generation_0 13 rfl rfl)
theorem dX5_generation_16 : decode cX5_generation 16 = .ok (.iinc 2 1, 3) := dk_132 2 1 (dk_at dksX5_generation_0 16 rfl rfl)
theorem dX5_generation_19 : decode cX5_generation 19 = .ok (.aload_n 3, 1) := dk_45 (dk_at dksX5_generation_0 19 rfl rfl)
theorem dX5_generation_20 : decode cX5_generation 20 = .ok (.getfield 81, 3) := dk_180 0 81 (dk_at dksX5_generation_0 20 rfl rfl)
theorem dX5_generation_23 : decode cX5_generation 23 = .ok (.astore_n 3, 1) := dk_78 (dk_at dksX5_generation_0 23 rfl rfl)
theorem dX5_generation_24 : decode cX5_generation 24 = .ok (.goto (-12), 3) := dk_167 255 244 (dk_at dksX5_generation_1 0 rfl rfl)
theorem dX5_generation_27 : decode cX5_generation 27 = .ok (.iload_n 2, 1) := dk_28 (dk_at dksX5_generation_1 3 rfl rfl)
theorem dX5_generation_28 : decode cX5_generation 28 = .ok (.ireturn, 1) := dk_172 (dk_at dksX5_generation_1 4 rfl rfl)
def dkwX5_numberOf_1 : List UInt8 := [132, 2, 1, 167, 255, 233, 2, 172]
abbrev dktX5_numberOf_1 : List UInt8 := dkwX5_numberOf_1 ++ []
def dkwX5_numberOf_0 : List UInt8 := [3, 61, 28, 42, 180, 0, 34, 162, 0, 21, 42, 180, 0, 17, 28, 50, 43, 166, 0, 5, 28, 172]
abbrev dktX5_numberOf_0 : List UInt8 := dkwX5_numberOf_0 ++ dktX5_numberOf_1
theorem dksX5_numberOf_0 : cX5_numberOf.data.toList.drop 0 = dktX5_numberOf_0 := by decide +kernel
theorem dksX5_numberOf_1 : cX5_numberOf.data.toList.drop 22 = dktX5_numberOf_1 := dk_seg dksX5_numberOf_0 22 rfl rfl
theorem dX5_numberOf_0 : decode cX5_numberOf 0 = .ok (.iconst 0, 1) := dk_3 (dk_at dksX5_numberOf_0 0 rfl rfl)
theorem dX5_numberOf_1 : decode cX5_numberOf 1 = .ok (.istore_n 2, 1) := dk_61 (dk_at dksX5_numberOf_0 1 rfl rfl)
theorem dX5_numberOf_2 : decode cX5_numberOf 2 = .ok (.iload_n 2, 1) := dk_28 (dk_at dksX5_numberOf_0 2 rfl rfl)
theorem dX5_numberOf_3 : decode cX5_numberOf 3 = .ok (.aload_n 0, 1) := dk_42 (dk_at dksX5_numberOf_0 3 rfl rfl)
theorem dX5_numberOf_4 : decode cX5_numberOf 4 = .ok (.getfield 34, 3) := dk_180 0 34 (dk_at dksX5_numberOf_0 4 rfl rfl)
theorem dX5_numberOf_7 : decode cX5_numberOf 7 = .ok (.if_icmp .ge 21, 3) := dk_162 0 21 (dk_at dksX5_numberOf_0 7 rfl rfl)
theorem dX5_numberOf_10 : decode cX5_numberOf 10 = .ok (.aload_n 0, 1) := dk_42 (dk_at dksX5_numberOf_0 10 rfl rfl)
theorem dX5_numberOf_11 : decode cX5_numberOf 11 = .ok (.getfield 17, 3) := dk_180 0 17 (dk_at dksX5_numberOf_0 11 rfl rfl)
theorem dX5_numberOf_14 : decode cX5_numberOf 14 = .ok (.iload_n 2, 1) := dk_28 (dk_at dksX5_numberOf_0 14 rfl rfl)
theorem dX5_numberOf_15 : decode cX5_numberOf 15 = .ok (.aaload, 1) := dk_50 (dk_at dksX5_numberOf_0 15 rfl rfl)
theorem dX5_numberOf_16 : decode cX5_numberOf 16 = .ok (.aload_n 1, 1) := dk_43 (dk_at dksX5_numberOf_0 16 rfl rfl)
theorem dX5_numberOf_17 : decode cX5_numberOf 17 = .ok (.if_acmp .ne 5, 3) := dk_166 0 5 (dk_at dksX5_numberOf_0 17 rfl rfl)
theorem dX5_numberOf_20 : decode cX5_numberOf 20 = .ok (.iload_n 2, 1) := dk_28 (dk_at dksX5_numberOf_0 20 rfl rfl)
theorem dX5_numberOf_21 : decode cX5_numberOf 21 = .ok (.ireturn, 1) := dk_172 (dk_at dksX5_numberOf_0 21 rfl rfl)
theorem dX5_numberOf_22 : decode cX5_numberOf 22 = .ok (.iinc 2 1, 3) := dk_132 2 1 (dk_at dksX5_numberOf_1 0 rfl rfl)
theorem dX5_numberOf_25 : decode cX5_numberOf 25 = .ok (.goto (-23), 3) := dk_167 255 233 (dk_at dksX5_numberOf_1 3 rfl rfl)
theorem dX5_numberOf_28 : decode cX5_numberOf 28 = .ok (.iconst (-1), 1) := dk_2 (dk_at dksX5_numberOf_1 6 rfl rfl)
theorem dX5_numberOf_29 : decode cX5_numberOf 29 = .ok (.ireturn, 1) := dk_172 (dk_at dksX5_numberOf_1 7 rfl rfl)
theorem dX6_init_0 : decode cX6_init 0 = .ok (.aload_n 0, 1) := by decide +kernel
theorem dX6_init_1 : decode cX6_init 1 = .ok (.invokespecial 3, 3) := by decide +kernel
theorem dX6_init_4 : decode cX6_init 4 = .ok (.return_, 1) := by decide +kernel
def dkwX6_begins_1 : List UInt8 := [181, 0, 24, 42, 176]
abbrev dktX6_begins_1 : List UInt8 := dkwX6_begins_1 ++ []
def dkwX6_begins_0 : List UInt8 := [42, 27, 181, 0, 9, 42, 28, 181, 0, 15, 42, 29, 181, 0, 18, 42, 2, 181, 0, 21, 42, 1]
abbrev dktX6_begins_0 : List UInt8 := dkwX6_begins_0 ++ dktX6_begins_1
theorem dksX6_begins_0 : cX6_begins.data.toList.drop 0 = dktX6_begins_0 := by decide +kernel
theorem dksX6_begins_1 : cX6_begins.data.toList.drop 22 = dktX6_begins_1 := dk_seg dksX6_begins_0 22 rfl rfl
theorem dX6_begins_0 : decode cX6_begins 0 = .ok (.aload_n 0, 1) := dk_42 (dk_at dksX6_begins_0 0 rfl rfl)
theorem dX6_begins_1 : decode cX6_begins 1 = .ok (.iload_n 1, 1) := dk_27 (dk_at dksX6_begins_0 1 rfl rfl)
theorem dX6_begins_2 : decode cX6_begins 2 = .ok (.putfield 9, 3) := dk_181 0 9 (dk_at dksX6_begins_0 2 rfl rfl)
theorem dX6_begins_5 : decode cX6_begins 5 = .ok (.aload_n 0, 1) := dk_42 (dk_at dksX6_begins_0 5 rfl rfl)
theorem dX6_begins_6 : decode cX6_begins 6 = .ok (.iload_n 2, 1) := dk_28 (dk_at dksX6_begins_0 6 rfl rfl)
theorem dX6_begins_7 : decode cX6_begins 7 = .ok (.putfield 15, 3) := dk_181 0 15 (dk_at dksX6_begins_0 7 rfl rfl)
theorem dX6_begins_10 : decode cX6_begins 10 = .ok (.aload_n 0, 1) := dk_42 (dk_at dksX6_begins_0 10 rfl rfl)
theorem dX6_begins_11 : decode cX6_begins 11 = .ok (.iload_n 3, 1) := dk_29 (dk_at dksX6_begins_0 11 rfl rfl)
theorem dX6_begins_12 : decode cX6_begins 12 = .ok (.putfield 18, 3) := dk_181 0 18 (dk_at dksX6_begins_0 12 rfl rfl)
theorem dX6_begins_15 : decode cX6_begins 15 = .ok (.aload_n 0, 1) := dk_42 (dk_at dksX6_begins_0 15 rfl rfl)
theorem dX6_begins_16 : decode cX6_begins 16 = .ok (.iconst (-1), 1) := dk_2 (dk_at dksX6_begins_0 16 rfl rfl)
theorem dX6_begins_17 : decode cX6_begins 17 = .ok (.putfield 21, 3) := dk_181 0 21 (dk_at dksX6_begins_0 17 rfl rfl)
theorem dX6_begins_20 : decode cX6_begins 20 = .ok (.aload_n 0, 1) := dk_42 (dk_at dksX6_begins_0 20 rfl rfl)
theorem dX6_begins_21 : decode cX6_begins 21 = .ok (.aconst_null, 1) := dk_1 (dk_at dksX6_begins_0 21 rfl rfl)
theorem dX6_begins_22 : decode cX6_begins 22 = .ok (.putfield 24, 3) := dk_181 0 24 (dk_at dksX6_begins_1 0 rfl rfl)
theorem dX6_begins_25 : decode cX6_begins 25 = .ok (.aload_n 0, 1) := dk_42 (dk_at dksX6_begins_1 3 rfl rfl)
theorem dX6_begins_26 : decode cX6_begins 26 = .ok (.areturn, 1) := dk_176 (dk_at dksX6_begins_1 4 rfl rfl)
def dkwX6_dies_0 : List UInt8 := [42, 27, 181, 0, 21, 42, 28, 181, 0, 28, 42, 45, 181, 0, 24, 177]
abbrev dktX6_dies_0 : List UInt8 := dkwX6_dies_0 ++ []
theorem dksX6_dies_0 : cX6_dies.data.toList.drop 0 = dktX6_dies_0 := by decide +kernel
theorem dX6_dies_0 : decode cX6_dies 0 = .ok (.aload_n 0, 1) := dk_42 (dk_at dksX6_dies_0 0 rfl rfl)
theorem dX6_dies_1 : decode cX6_dies 1 = .ok (.iload_n 1, 1) := dk_27 (dk_at dksX6_dies_0 1 rfl rfl)
theorem dX6_dies_2 : decode cX6_dies 2 = .ok (.putfield 21, 3) := dk_181 0 21 (dk_at dksX6_dies_0 2 rfl rfl)
theorem dX6_dies_5 : decode cX6_dies 5 = .ok (.aload_n 0, 1) := dk_42 (dk_at dksX6_dies_0 5 rfl rfl)
theorem dX6_dies_6 : decode cX6_dies 6 = .ok (.iload_n 2, 1) := dk_28 (dk_at dksX6_dies_0 6 rfl rfl)
theorem dX6_dies_7 : decode cX6_dies 7 = .ok (.putfield 28, 3) := dk_181 0 28 (dk_at dksX6_dies_0 7 rfl rfl)
theorem dX6_dies_10 : decode cX6_dies 10 = .ok (.aload_n 0, 1) := dk_42 (dk_at dksX6_dies_0 10 rfl rfl)
theorem dX6_dies_11 : decode cX6_dies 11 = .ok (.aload_n 3, 1) := dk_45 (dk_at dksX6_dies_0 11 rfl rfl)
theorem dX6_dies_12 : decode cX6_dies 12 = .ok (.putfield 24, 3) := dk_181 0 24 (dk_at dksX6_dies_0 12 rfl rfl)
theorem dX6_dies_15 : decode cX6_dies 15 = .ok (.return_, 1) := dk_177 (dk_at dksX6_dies_0 15 rfl rfl)
def dkwX6_persistence_0 : List UInt8 := [42, 180, 0, 15, 42, 180, 0, 28, 100, 172]
abbrev dktX6_persistence_0 : List UInt8 := dkwX6_persistence_0 ++ []
theorem dksX6_persistence_0 : cX6_persistence.data.toList.drop 0 = dktX6_persistence_0 := by decide +kernel
theorem dX6_persistence_0 : decode cX6_persistence 0 = .ok (.aload_n 0, 1) := dk_42 (dk_at dksX6_persistence_0 0 rfl rfl)
theorem dX6_persistence_1 : decode cX6_persistence 1 = .ok (.getfield 15, 3) := dk_180 0 15 (dk_at dksX6_persistence_0 1 rfl rfl)
theorem dX6_persistence_4 : decode cX6_persistence 4 = .ok (.aload_n 0, 1) := dk_42 (dk_at dksX6_persistence_0 4 rfl rfl)
theorem dX6_persistence_5 : decode cX6_persistence 5 = .ok (.getfield 28, 3) := dk_180 0 28 (dk_at dksX6_persistence_0 5 rfl rfl)
theorem dX6_persistence_8 : decode cX6_persistence 8 = .ok (.isub, 1) := dk_100 (dk_at dksX6_persistence_0 8 rfl rfl)
theorem dX6_persistence_9 : decode cX6_persistence 9 = .ok (.ireturn, 1) := dk_172 (dk_at dksX6_persistence_0 9 rfl rfl)
def dkwX6_isAhead_3 : List UInt8 := [162, 0, 7, 4, 167, 0, 4, 3, 172]
abbrev dktX6_isAhead_3 : List UInt8 := dkwX6_isAhead_3 ++ []
def dkwX6_isAhead_2 : List UInt8 := [182, 0, 31, 164, 0, 7, 4, 167, 0, 23, 3, 167, 0, 19, 42, 180, 0, 9, 43, 180, 0, 9]
abbrev dktX6_isAhead_2 : List UInt8 := dkwX6_isAhead_2 ++ dktX6_isAhead_3
def dkwX6_isAhead_1 : List UInt8 := [4, 167, 0, 4, 3, 172, 42, 182, 0, 31, 43, 182, 0, 31, 159, 0, 22, 42, 182, 0, 31, 43]
abbrev dktX6_isAhead_1 : List UInt8 := dkwX6_isAhead_1 ++ dktX6_isAhead_2
def dkwX6_isAhead_0 : List UInt8 := [42, 180, 0, 21, 2, 159, 0, 11, 43, 180, 0, 21, 2, 160, 0, 17, 42, 180, 0, 21, 2, 160, 0, 7]
abbrev dktX6_isAhead_0 : List UInt8 := dkwX6_isAhead_0 ++ dktX6_isAhead_1
theorem dksX6_isAhead_0 : cX6_isAhead.data.toList.drop 0 = dktX6_isAhead_0 := by decide +kernel
theorem dksX6_isAhead_1 : cX6_isAhead.data.toList.drop 24 = dktX6_isAhead_1 := dk_seg dksX6_isAhead_0 24 rfl rfl
theorem dksX6_isAhead_2 : cX6_isAhead.data.toList.drop 46 = dktX6_isAhead_2 := dk_seg dksX6_isAhead_1 22 rfl rfl
theorem dksX6_isAhead_3 : cX6_isAhead.data.toList.drop 68 = dktX6_isAhead_3 := dk_seg dksX6_isAhead_2 22 rfl rfl
theorem dX6_isAhead_0 : decode cX6_isAhead 0 = .ok (.aload_n 0, 1) := dk_42 (dk_at dksX6_isAhead_0 0 rfl rfl)
theorem dX6_isAhead_1 : decode cX6_isAhead 1 = .ok (.getfield 21, 3) := dk_180 0 21 (dk_at dksX6_isAhead_0 1 rfl rfl)
theorem dX6_isAhead_4 : decode cX6_isAhead 4 = .ok (.iconst (-1), 1) := dk_2 (dk_at dksX6_isAhead_0 4 rfl rfl)
theorem dX6_isAhead_5 : decode cX6_isAhead 5 = .ok (.if_icmp .eq 11, 3) := dk_159 0 11 (dk_at dksX6_isAhead_0 5 rfl rfl)
theorem dX6_isAhead_8 : decode cX6_isAhead 8 = .ok (.aload_n 1, 1) := dk_43 (dk_at dksX6_isAhead_0 8 rfl rfl)
theorem dX6_isAhead_9 : decode cX6_isAhead 9 = .ok (.getfield 21, 3) := dk_180 0 21 (dk_at dksX6_isAhead_0 9 rfl rfl)
theorem dX6_isAhead_12 : decode cX6_isAhead 12 = .ok (.iconst (-1), 1) := dk_2 (dk_at dksX6_isAhead_0 12 rfl rfl)
theorem dX6_isAhead_13 : decode cX6_isAhead 13 = .ok (.if_icmp .ne 17, 3) := dk_160 0 17 (dk_at dksX6_isAhead_0 13 rfl rfl)
theorem dX6_isAhead_16 : decode cX6_isAhead 16 = .ok (.aload_n 0, 1) := dk_42 (dk_at dksX6_isAhead_0 16 rfl rfl)
theorem dX6_isAhead_17 : decode cX6_isAhead 17 = .ok (.getfield 21, 3) := dk_180 0 21 (dk_at dksX6_isAhead_0 17 rfl rfl)
theorem dX6_isAhead_20 : decode cX6_isAhead 20 = .ok (.iconst (-1), 1) := dk_2 (dk_at dksX6_isAhead_0 20 rfl rfl)
theorem dX6_isAhead_21 : decode cX6_isAhead 21 = .ok (.if_icmp .ne 7, 3) := dk_160 0 7 (dk_at dksX6_isAhead_0 21 rfl rfl)
theorem dX6_isAhead_24 : decode cX6_isAhead 24 = .ok (.iconst 1, 1) := dk_4 (dk_at dksX6_isAhead_1 0 rfl rfl)
theorem dX6_isAhead_25 : decode cX6_isAhead 25 = .ok (.goto 4, 3) := dk_167 0 4 (dk_at dksX6_isAhead_1 1 rfl rfl)
theorem dX6_isAhead_28 : decode cX6_isAhead 28 = .ok (.iconst 0, 1) := dk_3 (dk_at dksX6_isAhead_1 4 rfl rfl)
theorem dX6_isAhead_29 : decode cX6_isAhead 29 = .ok (.ireturn, 1) := dk_172 (dk_at dksX6_isAhead_1 5 rfl rfl)
theorem dX6_isAhead_30 : decode cX6_isAhead 30 = .ok (.aload_n 0, 1) := dk_42 (dk_at dksX6_isAhead_1 6 rfl rfl)
theorem dX6_isAhead_31 : decode cX6_isAhead 31 = .ok (.invokevirtual 31, 3) := dk_182 0 31 (dk_at dksX6_isAhead_1 7 rfl rfl)
theorem dX6_isAhead_34 : decode cX6_isAhead 34 = .ok (.aload_n 1, 1) := dk_43 (dk_at dksX6_isAhead_1 10 rfl rfl)
theorem dX6_isAhead_35 : decode cX6_isAhead 35 = .ok (.invokevirtual 31, 3) := dk_182 0 31 (dk_at dksX6_isAhead_1 11 rfl rfl)
theorem dX6_isAhead_38 : decode cX6_isAhead 38 = .ok (.if_icmp .eq 22, 3) := dk_159 0 22 (dk_at dksX6_isAhead_1 14 rfl rfl)
theorem dX6_isAhead_41 : decode cX6_isAhead 41 = .ok (.aload_n 0, 1) := dk_42 (dk_at dksX6_isAhead_1 17 rfl rfl)
theorem dX6_isAhead_42 : decode cX6_isAhead 42 = .ok (.invokevirtual 31, 3) := dk_182 0 31 (dk_at dksX6_isAhead_1 18 rfl rfl)
theorem dX6_isAhead_45 : decode cX6_isAhead 45 = .ok (.aload_n 1, 1) := dk_43 (dk_at dksX6_isAhead_1 21 rfl rfl)
theorem dX6_isAhead_46 : decode cX6_isAhead 46 = .ok (.invokevirtual 31, 3) := dk_182 0 31 (dk_at dksX6_isAhead_2 0 rfl rfl)
theorem dX6_isAhead_49 : decode cX6_isAhead 49 = .ok (.if_icmp .le 7, 3) := dk_164 0 7 (dk_at dksX6_isAhead_2 3 rfl rfl)
theorem dX6_isAhead_52 : decode cX6_isAhead 52 = .ok (.iconst 1, 1) := dk_4 (dk_at dksX6_isAhead_2 6 rfl rfl)
theorem dX6_isAhead_53 : decode cX6_isAhead 53 = .ok (.goto 23, 3) := dk_167 0 23 (dk_at dksX6_isAhead_2 7 rfl rfl)
theorem dX6_isAhead_56 : decode cX6_isAhead 56 = .ok (.iconst 0, 1) := dk_3 (dk_at dksX6_isAhead_2 10 rfl rfl)
theorem dX6_isAhead_57 : decode cX6_isAhead 57 = .ok (.goto 19, 3) := dk_167 0 19 (dk_at dksX6_isAhead_2 11 rfl rfl)
theorem dX6_isAhead_60 : decode cX6_isAhead 60 = .ok (.aload_n 0, 1) := dk_42 (dk_at dksX6_isAhead_2 14 rfl rfl)
theorem dX6_isAhead_61 : decode cX6_isAhead 61 = .ok (.getfield 9, 3) := dk_180 0 9 (dk_at dksX6_isAhead_2 15 rfl rfl)
theorem dX6_isAhead_64 : decode cX6_isAhead 64 = .ok (.aload_n 1, 1) := dk_43 (dk_at dksX6_isAhead_2 18 rfl rfl)
theorem dX6_isAhead_65 : decode cX6_isAhead 65 = .ok (.getfield 9, 3) := dk_180 0 9 (dk_at dksX6_isAhead_2 19 rfl rfl)
theorem dX6_isAhead_68 : decode cX6_isAhead 68 = .ok (.if_icmp .ge 7, 3) := dk_162 0 7 (dk_at dksX6_isAhead_3 0 rfl rfl)
theorem dX6_isAhead_71 : decode cX6_isAhead 71 = .ok (.iconst 1, 1) := dk_4 (dk_at dksX6_isAhead_3 3 rfl rfl)
theorem dX6_isAhead_72 : decode cX6_isAhead 72 = .ok (.goto 4, 3) := dk_167 0 4 (dk_at dksX6_isAhead_3 4 rfl rfl)
theorem dX6_isAhead_75 : decode cX6_isAhead 75 = .ok (.iconst 0, 1) := dk_3 (dk_at dksX6_isAhead_3 7 rfl rfl)
theorem dX6_isAhead_76 : decode cX6_isAhead 76 = .ok (.ireturn, 1) := dk_172 (dk_at dksX6_isAhead_3 8 rfl rfl)
def dkwX7_init_0 : List UInt8 := [42, 183, 0, 3, 42, 16, 48, 188, 10, 181, 0, 9, 177]
abbrev dktX7_init_0 : List UInt8 := dkwX7_init_0 ++ []
theorem dksX7_init_0 : cX7_init.data.toList.drop 0 = dktX7_init_0 := by decide +kernel
theorem dX7_init_0 : decode cX7_init 0 = .ok (.aload_n 0, 1) := dk_42 (dk_at dksX7_init_0 0 rfl rfl)
theorem dX7_init_1 : decode cX7_init 1 = .ok (.invokespecial 3, 3) := dk_183 0 3 (dk_at dksX7_init_0 1 rfl rfl)
theorem dX7_init_4 : decode cX7_init 4 = .ok (.aload_n 0, 1) := dk_42 (dk_at dksX7_init_0 4 rfl rfl)
theorem dX7_init_5 : decode cX7_init 5 = .ok (.bipush 48, 2) := dk_16 48 (dk_at dksX7_init_0 5 rfl rfl)
theorem dX7_init_7 : decode cX7_init 7 = .ok (.newarray .int, 2) := dk_188_10 (dk_at dksX7_init_0 7 rfl rfl)
theorem dX7_init_9 : decode cX7_init 9 = .ok (.putfield 9, 3) := dk_181 0 9 (dk_at dksX7_init_0 9 rfl rfl)
theorem dX7_init_12 : decode cX7_init 12 = .ok (.return_, 1) := dk_177 (dk_at dksX7_init_0 12 rfl rfl)
def dkwX7_add_0 : List UInt8 := [42, 180, 0, 9, 42, 180, 0, 15, 27, 79, 42, 89, 180, 0, 15, 4, 96, 181, 0, 15, 177]
abbrev dktX7_add_0 : List UInt8 := dkwX7_add_0 ++ []
theorem dksX7_add_0 : cX7_add.data.toList.drop 0 = dktX7_add_0 := by decide +kernel
theorem dX7_add_0 : decode cX7_add 0 = .ok (.aload_n 0, 1) := dk_42 (dk_at dksX7_add_0 0 rfl rfl)
theorem dX7_add_1 : decode cX7_add 1 = .ok (.getfield 9, 3) := dk_180 0 9 (dk_at dksX7_add_0 1 rfl rfl)
theorem dX7_add_4 : decode cX7_add 4 = .ok (.aload_n 0, 1) := dk_42 (dk_at dksX7_add_0 4 rfl rfl)
theorem dX7_add_5 : decode cX7_add 5 = .ok (.getfield 15, 3) := dk_180 0 15 (dk_at dksX7_add_0 5 rfl rfl)
theorem dX7_add_8 : decode cX7_add 8 = .ok (.iload_n 1, 1) := dk_27 (dk_at dksX7_add_0 8 rfl rfl)
theorem dX7_add_9 : decode cX7_add 9 = .ok (.iastore, 1) := dk_79 (dk_at dksX7_add_0 9 rfl rfl)
theorem dX7_add_10 : decode cX7_add 10 = .ok (.aload_n 0, 1) := dk_42 (dk_at dksX7_add_0 10 rfl rfl)
theorem dX7_add_11 : decode cX7_add 11 = .ok (.dup, 1) := dk_89 (dk_at dksX7_add_0 11 rfl rfl)
theorem dX7_add_12 : decode cX7_add 12 = .ok (.getfield 15, 3) := dk_180 0 15 (dk_at dksX7_add_0 12 rfl rfl)
theorem dX7_add_15 : decode cX7_add 15 = .ok (.iconst 1, 1) := dk_4 (dk_at dksX7_add_0 15 rfl rfl)
theorem dX7_add_16 : decode cX7_add 16 = .ok (.iadd, 1) := dk_96 (dk_at dksX7_add_0 16 rfl rfl)
theorem dX7_add_17 : decode cX7_add 17 = .ok (.putfield 15, 3) := dk_181 0 15 (dk_at dksX7_add_0 17 rfl rfl)
theorem dX7_add_20 : decode cX7_add 20 = .ok (.return_, 1) := dk_177 (dk_at dksX7_add_0 20 rfl rfl)
def dkwX7_becomes_1 : List UInt8 := [181, 0, 15, 177]
abbrev dktX7_becomes_1 : List UInt8 := dkwX7_becomes_1 ++ []
def dkwX7_becomes_0 : List UInt8 := [43, 180, 0, 9, 3, 42, 180, 0, 9, 3, 43, 180, 0, 15, 184, 0, 19, 42, 43, 180, 0, 15]
abbrev dktX7_becomes_0 : List UInt8 := dkwX7_becomes_0 ++ dktX7_becomes_1
theorem dksX7_becomes_0 : cX7_becomes.data.toList.drop 0 = dktX7_becomes_0 := by decide +kernel
theorem dksX7_becomes_1 : cX7_becomes.data.toList.drop 22 = dktX7_becomes_1 := dk_seg dksX7_becomes_0 22 rfl rfl
theorem dX7_becomes_0 : decode cX7_becomes 0 = .ok (.aload_n 1, 1) := dk_43 (dk_at dksX7_becomes_0 0 rfl rfl)
theorem dX7_becomes_1 : decode cX7_becomes 1 = .ok (.getfield 9, 3) := dk_180 0 9 (dk_at dksX7_becomes_0 1 rfl rfl)
theorem dX7_becomes_4 : decode cX7_becomes 4 = .ok (.iconst 0, 1) := dk_3 (dk_at dksX7_becomes_0 4 rfl rfl)
theorem dX7_becomes_5 : decode cX7_becomes 5 = .ok (.aload_n 0, 1) := dk_42 (dk_at dksX7_becomes_0 5 rfl rfl)
theorem dX7_becomes_6 : decode cX7_becomes 6 = .ok (.getfield 9, 3) := dk_180 0 9 (dk_at dksX7_becomes_0 6 rfl rfl)
theorem dX7_becomes_9 : decode cX7_becomes 9 = .ok (.iconst 0, 1) := dk_3 (dk_at dksX7_becomes_0 9 rfl rfl)
theorem dX7_becomes_10 : decode cX7_becomes 10 = .ok (.aload_n 1, 1) := dk_43 (dk_at dksX7_becomes_0 10 rfl rfl)
theorem dX7_becomes_11 : decode cX7_becomes 11 = .ok (.getfield 15, 3) := dk_180 0 15 (dk_at dksX7_becomes_0 11 rfl rfl)
theorem dX7_becomes_14 : decode cX7_becomes 14 = .ok (.invokestatic 19, 3) := dk_184 0 19 (dk_at dksX7_becomes_0 14 rfl rfl)
theorem dX7_becomes_17 : decode cX7_becomes 17 = .ok (.aload_n 0, 1) := dk_42 (dk_at dksX7_becomes_0 17 rfl rfl)
theorem dX7_becomes_18 : decode cX7_becomes 18 = .ok (.aload_n 1, 1) := dk_43 (dk_at dksX7_becomes_0 18 rfl rfl)
theorem dX7_becomes_19 : decode cX7_becomes 19 = .ok (.getfield 15, 3) := dk_180 0 15 (dk_at dksX7_becomes_0 19 rfl rfl)
theorem dX7_becomes_22 : decode cX7_becomes 22 = .ok (.putfield 15, 3) := dk_181 0 15 (dk_at dksX7_becomes_1 0 rfl rfl)
theorem dX7_becomes_25 : decode cX7_becomes 25 = .ok (.return_, 1) := dk_177 (dk_at dksX7_becomes_1 3 rfl rfl)
def dkwX7_near_0 : List UInt8 := [42, 180, 0, 9, 3, 42, 180, 0, 15, 4, 100, 27, 184, 0, 25, 184, 0, 31, 46, 172]
abbrev dktX7_near_0 : List UInt8 := dkwX7_near_0 ++ []
theorem dksX7_near_0 : cX7_near.data.toList.drop 0 = dktX7_near_0 := by decide +kernel
theorem dX7_near_0 : decode cX7_near 0 = .ok (.aload_n 0, 1) := dk_42 (dk_at dksX7_near_0 0 rfl rfl)
theorem dX7_near_1 : decode cX7_near 1 = .ok (.getfield 9, 3) := dk_180 0 9 (dk_at dksX7_near_0 1 rfl rfl)
theorem dX7_near_4 : decode cX7_near 4 = .ok (.iconst 0, 1) := dk_3 (dk_at dksX7_near_0 4 rfl rfl)
theorem dX7_near_5 : decode cX7_near 5 = .ok (.aload_n 0, 1) := dk_42 (dk_at dksX7_near_0 5 rfl rfl)
theorem dX7_near_6 : decode cX7_near 6 = .ok (.getfield 15, 3) := dk_180 0 15 (dk_at dksX7_near_0 6 rfl rfl)
theorem dX7_near_9 : decode cX7_near 9 = .ok (.iconst 1, 1) := dk_4 (dk_at dksX7_near_0 9 rfl rfl)
theorem dX7_near_10 : decode cX7_near 10 = .ok (.isub, 1) := dk_100 (dk_at dksX7_near_0 10 rfl rfl)
theorem dX7_near_11 : decode cX7_near 11 = .ok (.iload_n 1, 1) := dk_27 (dk_at dksX7_near_0 11 rfl rfl)
theorem dX7_near_12 : decode cX7_near 12 = .ok (.invokestatic 25, 3) := dk_184 0 25 (dk_at dksX7_near_0 12 rfl rfl)
theorem dX7_near_15 : decode cX7_near 15 = .ok (.invokestatic 31, 3) := dk_184 0 31 (dk_at dksX7_near_0 15 rfl rfl)
theorem dX7_near_18 : decode cX7_near 18 = .ok (.iaload, 1) := dk_46 (dk_at dksX7_near_0 18 rfl rfl)
theorem dX7_near_19 : decode cX7_near 19 = .ok (.ireturn, 1) := dk_172 (dk_at dksX7_near_0 19 rfl rfl)
def dkwX7_at_0 : List UInt8 := [42, 180, 0, 9, 27, 46, 172]
abbrev dktX7_at_0 : List UInt8 := dkwX7_at_0 ++ []
theorem dksX7_at_0 : cX7_at.data.toList.drop 0 = dktX7_at_0 := by decide +kernel
theorem dX7_at_0 : decode cX7_at 0 = .ok (.aload_n 0, 1) := dk_42 (dk_at dksX7_at_0 0 rfl rfl)
theorem dX7_at_1 : decode cX7_at 1 = .ok (.getfield 9, 3) := dk_180 0 9 (dk_at dksX7_at_0 1 rfl rfl)
theorem dX7_at_4 : decode cX7_at 4 = .ok (.iload_n 1, 1) := dk_27 (dk_at dksX7_at_0 4 rfl rfl)
theorem dX7_at_5 : decode cX7_at 5 = .ok (.iaload, 1) := dk_46 (dk_at dksX7_at_0 5 rfl rfl)
theorem dX7_at_6 : decode cX7_at 6 = .ok (.ireturn, 1) := dk_172 (dk_at dksX7_at_0 6 rfl rfl)
theorem dX7_many_0 : decode cX7_many 0 = .ok (.aload_n 0, 1) := by decide +kernel
theorem dX7_many_1 : decode cX7_many 1 = .ok (.getfield 15, 3) := by decide +kernel
theorem dX7_many_4 : decode cX7_many 4 = .ok (.ireturn, 1) := by decide +kernel
def dkwX7_lowest_1 : List UInt8 := [180, 0, 9, 29, 46, 162, 0, 6, 21, 4, 62, 132, 4, 1, 167, 255, 228, 29, 172]
abbrev dktX7_lowest_1 : List UInt8 := dkwX7_lowest_1 ++ []
def dkwX7_lowest_0 : List UInt8 := [27, 4, 96, 62, 27, 5, 96, 54, 4, 21, 4, 28, 162, 0, 28, 42, 180, 0, 9, 21, 4, 46, 42]
abbrev dktX7_lowest_0 : List UInt8 := dkwX7_lowest_0 ++ dktX7_lowest_1
theorem dksX7_lowest_0 : cX7_lowest.data.toList.drop 0 = dktX7_lowest_0 := by decide +kernel
theorem dksX7_lowest_1 : cX7_lowest.data.toList.drop 23 = dktX7_lowest_1 := dk_seg dksX7_lowest_0 23 rfl rfl
theorem dX7_lowest_0 : decode cX7_lowest 0 = .ok (.iload_n 1, 1) := dk_27 (dk_at dksX7_lowest_0 0 rfl rfl)
theorem dX7_lowest_1 : decode cX7_lowest 1 = .ok (.iconst 1, 1) := dk_4 (dk_at dksX7_lowest_0 1 rfl rfl)
theorem dX7_lowest_2 : decode cX7_lowest 2 = .ok (.iadd, 1) := dk_96 (dk_at dksX7_lowest_0 2 rfl rfl)
theorem dX7_lowest_3 : decode cX7_lowest 3 = .ok (.istore_n 3, 1) := dk_62 (dk_at dksX7_lowest_0 3 rfl rfl)
theorem dX7_lowest_4 : decode cX7_lowest 4 = .ok (.iload_n 1, 1) := dk_27 (dk_at dksX7_lowest_0 4 rfl rfl)
theorem dX7_lowest_5 : decode cX7_lowest 5 = .ok (.iconst 2, 1) := dk_5 (dk_at dksX7_lowest_0 5 rfl rfl)
theorem dX7_lowest_6 : decode cX7_lowest 6 = .ok (.iadd, 1) := dk_96 (dk_at dksX7_lowest_0 6 rfl rfl)
theorem dX7_lowest_7 : decode cX7_lowest 7 = .ok (.istore 4, 2) := dk_54 4 (dk_at dksX7_lowest_0 7 rfl rfl)
theorem dX7_lowest_9 : decode cX7_lowest 9 = .ok (.iload 4, 2) := dk_21 4 (dk_at dksX7_lowest_0 9 rfl rfl)
theorem dX7_lowest_11 : decode cX7_lowest 11 = .ok (.iload_n 2, 1) := dk_28 (dk_at dksX7_lowest_0 11 rfl rfl)
theorem dX7_lowest_12 : decode cX7_lowest 12 = .ok (.if_icmp .ge 28, 3) := dk_162 0 28 (dk_at dksX7_lowest_0 12 rfl rfl)
theorem dX7_lowest_15 : decode cX7_lowest 15 = .ok (.aload_n 0, 1) := dk_42 (dk_at dksX7_lowest_0 15 rfl rfl)
theorem dX7_lowest_16 : decode cX7_lowest 16 = .ok (.getfield 9, 3) := dk_180 0 9 (dk_at dksX7_lowest_0 16 rfl rfl)
theorem dX7_lowest_19 : decode cX7_lowest 19 = .ok (.iload 4, 2) := dk_21 4 (dk_at dksX7_lowest_0 19 rfl rfl)
theorem dX7_lowest_21 : decode cX7_lowest 21 = .ok (.iaload, 1) := dk_46 (dk_at dksX7_lowest_0 21 rfl rfl)
theorem dX7_lowest_22 : decode cX7_lowest 22 = .ok (.aload_n 0, 1) := dk_42 (dk_at dksX7_lowest_0 22 rfl rfl)
theorem dX7_lowest_23 : decode cX7_lowest 23 = .ok (.getfield 9, 3) := dk_180 0 9 (dk_at dksX7_lowest_1 0 rfl rfl)
theorem dX7_lowest_26 : decode cX7_lowest 26 = .ok (.iload_n 3, 1) := dk_29 (dk_at dksX7_lowest_1 3 rfl rfl)
theorem dX7_lowest_27 : decode cX7_lowest 27 = .ok (.iaload, 1) := dk_46 (dk_at dksX7_lowest_1 4 rfl rfl)
theorem dX7_lowest_28 : decode cX7_lowest 28 = .ok (.if_icmp .ge 6, 3) := dk_162 0 6 (dk_at dksX7_lowest_1 5 rfl rfl)
theorem dX7_lowest_31 : decode cX7_lowest 31 = .ok (.iload 4, 2) := dk_21 4 (dk_at dksX7_lowest_1 8 rfl rfl)
theorem dX7_lowest_33 : decode cX7_lowest 33 = .ok (.istore_n 3, 1) := dk_62 (dk_at dksX7_lowest_1 10 rfl rfl)
theorem dX7_lowest_34 : decode cX7_lowest 34 = .ok (.iinc 4 1, 3) := dk_132 4 1 (dk_at dksX7_lowest_1 11 rfl rfl)
theorem dX7_lowest_37 : decode cX7_lowest 37 = .ok (.goto (-28), 3) := dk_167 255 228 (dk_at dksX7_lowest_1 14 rfl rfl)
theorem dX7_lowest_40 : decode cX7_lowest 40 = .ok (.iload_n 3, 1) := dk_29 (dk_at dksX7_lowest_1 17 rfl rfl)
theorem dX7_lowest_41 : decode cX7_lowest 41 = .ok (.ireturn, 1) := dk_172 (dk_at dksX7_lowest_1 18 rfl rfl)
def dkwX8_init_1 : List UInt8 := [188, 10, 181, 0, 22, 177]
abbrev dktX8_init_1 : List UInt8 := dkwX8_init_1 ++ []
def dkwX8_init_0 : List UInt8 := [42, 43, 181, 0, 3, 42, 183, 0, 9, 42, 187, 0, 15, 89, 183, 0, 17, 181, 0, 18, 42, 17, 0, 180]
abbrev dktX8_init_0 : List UInt8 := dkwX8_init_0 ++ dktX8_init_1
theorem dksX8_init_0 : cX8_init.data.toList.drop 0 = dktX8_init_0 := by decide +kernel
theorem dksX8_init_1 : cX8_init.data.toList.drop 24 = dktX8_init_1 := dk_seg dksX8_init_0 24 rfl rfl
theorem dX8_init_0 : decode cX8_init 0 = .ok (.aload_n 0, 1) := dk_42 (dk_at dksX8_init_0 0 rfl rfl)
theorem dX8_init_1 : decode cX8_init 1 = .ok (.aload_n 1, 1) := dk_43 (dk_at dksX8_init_0 1 rfl rfl)
theorem dX8_init_2 : decode cX8_init 2 = .ok (.putfield 3, 3) := dk_181 0 3 (dk_at dksX8_init_0 2 rfl rfl)
theorem dX8_init_5 : decode cX8_init 5 = .ok (.aload_n 0, 1) := dk_42 (dk_at dksX8_init_0 5 rfl rfl)
theorem dX8_init_6 : decode cX8_init 6 = .ok (.invokespecial 9, 3) := dk_183 0 9 (dk_at dksX8_init_0 6 rfl rfl)
theorem dX8_init_9 : decode cX8_init 9 = .ok (.aload_n 0, 1) := dk_42 (dk_at dksX8_init_0 9 rfl rfl)
theorem dX8_init_10 : decode cX8_init 10 = .ok (.new 15, 3) := dk_187 0 15 (dk_at dksX8_init_0 10 rfl rfl)
theorem dX8_init_13 : decode cX8_init 13 = .ok (.dup, 1) := dk_89 (dk_at dksX8_init_0 13 rfl rfl)
theorem dX8_init_14 : decode cX8_init 14 = .ok (.invokespecial 17, 3) := dk_183 0 17 (dk_at dksX8_init_0 14 rfl rfl)
theorem dX8_init_17 : decode cX8_init 17 = .ok (.putfield 18, 3) := dk_181 0 18 (dk_at dksX8_init_0 17 rfl rfl)
theorem dX8_init_20 : decode cX8_init 20 = .ok (.aload_n 0, 1) := dk_42 (dk_at dksX8_init_0 20 rfl rfl)
theorem dX8_init_21 : decode cX8_init 21 = .ok (.sipush 180, 3) := dk_17 0 180 (dk_at dksX8_init_0 21 rfl rfl)
theorem dX8_init_24 : decode cX8_init 24 = .ok (.newarray .int, 2) := dk_188_10 (dk_at dksX8_init_1 0 rfl rfl)
theorem dX8_init_26 : decode cX8_init 26 = .ok (.putfield 22, 3) := dk_181 0 22 (dk_at dksX8_init_1 2 rfl rfl)
theorem dX8_init_29 : decode cX8_init 29 = .ok (.return_, 1) := dk_177 (dk_at dksX8_init_1 5 rfl rfl)
def dkwX8_starts_1 : List UInt8 := [177]
abbrev dktX8_starts_1 : List UInt8 := dkwX8_starts_1 ++ []
def dkwX8_starts_0 : List UInt8 := [42, 180, 0, 18, 43, 180, 0, 26, 182, 0, 29, 42, 43, 180, 0, 33, 181, 0, 37, 42, 3, 181, 0, 38]
abbrev dktX8_starts_0 : List UInt8 := dkwX8_starts_0 ++ dktX8_starts_1
theorem dksX8_starts_0 : cX8_starts.data.toList.drop 0 = dktX8_starts_0 := by decide +kernel
theorem dksX8_starts_1 : cX8_starts.data.toList.drop 24 = dktX8_starts_1 := dk_seg dksX8_starts_0 24 rfl rfl
theorem dX8_starts_0 : decode cX8_starts 0 = .ok (.aload_n 0, 1) := dk_42 (dk_at dksX8_starts_0 0 rfl rfl)
theorem dX8_starts_1 : decode cX8_starts 1 = .ok (.getfield 18, 3) := dk_180 0 18 (dk_at dksX8_starts_0 1 rfl rfl)
theorem dX8_starts_4 : decode cX8_starts 4 = .ok (.aload_n 1, 1) := dk_43 (dk_at dksX8_starts_0 4 rfl rfl)
theorem dX8_starts_5 : decode cX8_starts 5 = .ok (.getfield 26, 3) := dk_180 0 26 (dk_at dksX8_starts_0 5 rfl rfl)
theorem dX8_starts_8 : decode cX8_starts 8 = .ok (.invokevirtual 29, 3) := dk_182 0 29 (dk_at dksX8_starts_0 8 rfl rfl)
theorem dX8_starts_11 : decode cX8_starts 11 = .ok (.aload_n 0, 1) := dk_42 (dk_at dksX8_starts_0 11 rfl rfl)
theorem dX8_starts_12 : decode cX8_starts 12 = .ok (.aload_n 1, 1) := dk_43 (dk_at dksX8_starts_0 12 rfl rfl)
theorem dX8_starts_13 : decode cX8_starts 13 = .ok (.getfield 33, 3) := dk_180 0 33 (dk_at dksX8_starts_0 13 rfl rfl)
theorem dX8_starts_16 : decode cX8_starts 16 = .ok (.putfield 37, 3) := dk_181 0 37 (dk_at dksX8_starts_0 16 rfl rfl)
theorem dX8_starts_19 : decode cX8_starts 19 = .ok (.aload_n 0, 1) := dk_42 (dk_at dksX8_starts_0 19 rfl rfl)
theorem dX8_starts_20 : decode cX8_starts 20 = .ok (.iconst 0, 1) := dk_3 (dk_at dksX8_starts_0 20 rfl rfl)
theorem dX8_starts_21 : decode cX8_starts 21 = .ok (.putfield 38, 3) := dk_181 0 38 (dk_at dksX8_starts_0 21 rfl rfl)
theorem dX8_starts_24 : decode cX8_starts 24 = .ok (.return_, 1) := dk_177 (dk_at dksX8_starts_1 0 rfl rfl)
def dkwX8_becomes_1 : List UInt8 := [42, 43, 180, 0, 38, 181, 0, 38, 177]
abbrev dktX8_becomes_1 : List UInt8 := dkwX8_becomes_1 ++ []
def dkwX8_becomes_0 : List UInt8 := [42, 43, 182, 0, 41, 43, 180, 0, 22, 3, 42, 180, 0, 22, 3, 6, 43, 180, 0, 38, 104, 184, 0, 45]
abbrev dktX8_becomes_0 : List UInt8 := dkwX8_becomes_0 ++ dktX8_becomes_1
theorem dksX8_becomes_0 : cX8_becomes.data.toList.drop 0 = dktX8_becomes_0 := by decide +kernel
theorem dksX8_becomes_1 : cX8_becomes.data.toList.drop 24 = dktX8_becomes_1 := dk_seg dksX8_becomes_0 24 rfl rfl
theorem dX8_becomes_0 : decode cX8_becomes 0 = .ok (.aload_n 0, 1) := dk_42 (dk_at dksX8_becomes_0 0 rfl rfl)
theorem dX8_becomes_1 : decode cX8_becomes 1 = .ok (.aload_n 1, 1) := dk_43 (dk_at dksX8_becomes_0 1 rfl rfl)
theorem dX8_becomes_2 : decode cX8_becomes 2 = .ok (.invokevirtual 41, 3) := dk_182 0 41 (dk_at dksX8_becomes_0 2 rfl rfl)
theorem dX8_becomes_5 : decode cX8_becomes 5 = .ok (.aload_n 1, 1) := dk_43 (dk_at dksX8_becomes_0 5 rfl rfl)
theorem dX8_becomes_6 : decode cX8_becomes 6 = .ok (.getfield 22, 3) := dk_180 0 22 (dk_at dksX8_becomes_0 6 rfl rfl)
theorem dX8_becomes_9 : decode cX8_becomes 9 = .ok (.iconst 0, 1) := dk_3 (dk_at dksX8_becomes_0 9 rfl rfl)
theorem dX8_becomes_10 : decode cX8_becomes 10 = .ok (.aload_n 0, 1) := dk_42 (dk_at dksX8_becomes_0 10 rfl rfl)
theorem dX8_becomes_11 : decode cX8_becomes 11 = .ok (.getfield 22, 3) := dk_180 0 22 (dk_at dksX8_becomes_0 11 rfl rfl)
theorem dX8_becomes_14 : decode cX8_becomes 14 = .ok (.iconst 0, 1) := dk_3 (dk_at dksX8_becomes_0 14 rfl rfl)
theorem dX8_becomes_15 : decode cX8_becomes 15 = .ok (.iconst 3, 1) := dk_6 (dk_at dksX8_becomes_0 15 rfl rfl)
theorem dX8_becomes_16 : decode cX8_becomes 16 = .ok (.aload_n 1, 1) := dk_43 (dk_at dksX8_becomes_0 16 rfl rfl)
theorem dX8_becomes_17 : decode cX8_becomes 17 = .ok (.getfield 38, 3) := dk_180 0 38 (dk_at dksX8_becomes_0 17 rfl rfl)
theorem dX8_becomes_20 : decode cX8_becomes 20 = .ok (.imul, 1) := dk_104 (dk_at dksX8_becomes_0 20 rfl rfl)
theorem dX8_becomes_21 : decode cX8_becomes 21 = .ok (.invokestatic 45, 3) := dk_184 0 45 (dk_at dksX8_becomes_0 21 rfl rfl)
theorem dX8_becomes_24 : decode cX8_becomes 24 = .ok (.aload_n 0, 1) := dk_42 (dk_at dksX8_becomes_1 0 rfl rfl)
theorem dX8_becomes_25 : decode cX8_becomes 25 = .ok (.aload_n 1, 1) := dk_43 (dk_at dksX8_becomes_1 1 rfl rfl)
theorem dX8_becomes_26 : decode cX8_becomes 26 = .ok (.getfield 38, 3) := dk_180 0 38 (dk_at dksX8_becomes_1 2 rfl rfl)
theorem dX8_becomes_29 : decode cX8_becomes 29 = .ok (.putfield 38, 3) := dk_181 0 38 (dk_at dksX8_becomes_1 5 rfl rfl)
theorem dX8_becomes_32 : decode cX8_becomes 32 = .ok (.return_, 1) := dk_177 (dk_at dksX8_becomes_1 8 rfl rfl)
def dkwX8_sees_0 : List UInt8 := [42, 180, 0, 18, 43, 180, 0, 18, 182, 0, 29, 42, 43, 180, 0, 37, 181, 0, 37, 177]
abbrev dktX8_sees_0 : List UInt8 := dkwX8_sees_0 ++ []
theorem dksX8_sees_0 : cX8_sees.data.toList.drop 0 = dktX8_sees_0 := by decide +kernel
theorem dX8_sees_0 : decode cX8_sees 0 = .ok (.aload_n 0, 1) := dk_42 (dk_at dksX8_sees_0 0 rfl rfl)
theorem dX8_sees_1 : decode cX8_sees 1 = .ok (.getfield 18, 3) := dk_180 0 18 (dk_at dksX8_sees_0 1 rfl rfl)
theorem dX8_sees_4 : decode cX8_sees 4 = .ok (.aload_n 1, 1) := dk_43 (dk_at dksX8_sees_0 4 rfl rfl)
theorem dX8_sees_5 : decode cX8_sees 5 = .ok (.getfield 18, 3) := dk_180 0 18 (dk_at dksX8_sees_0 5 rfl rfl)
theorem dX8_sees_8 : decode cX8_sees 8 = .ok (.invokevirtual 29, 3) := dk_182 0 29 (dk_at dksX8_sees_0 8 rfl rfl)
theorem dX8_sees_11 : decode cX8_sees 11 = .ok (.aload_n 0, 1) := dk_42 (dk_at dksX8_sees_0 11 rfl rfl)
theorem dX8_sees_12 : decode cX8_sees 12 = .ok (.aload_n 1, 1) := dk_43 (dk_at dksX8_sees_0 12 rfl rfl)
theorem dX8_sees_13 : decode cX8_sees 13 = .ok (.getfield 37, 3) := dk_180 0 37 (dk_at dksX8_sees_0 13 rfl rfl)
theorem dX8_sees_16 : decode cX8_sees 16 = .ok (.putfield 37, 3) := dk_181 0 37 (dk_at dksX8_sees_0 16 rfl rfl)
theorem dX8_sees_19 : decode cX8_sees 19 = .ok (.return_, 1) := dk_177 (dk_at dksX8_sees_0 19 rfl rfl)
def dkwX8_deed_5 : List UInt8 := [182, 0, 196, 167, 0, 9, 42, 28, 29, 182, 0, 199, 172]
abbrev dktX8_deed_5 : List UInt8 := dkwX8_deed_5 ++ []
def dkwX8_deed_4 : List UInt8 := [167, 0, 35, 42, 28, 29, 182, 0, 190, 167, 0, 26, 42, 28, 29, 182, 0, 193, 167, 0, 17, 42, 28]
abbrev dktX8_deed_4 : List UInt8 := dkwX8_deed_4 ++ dktX8_deed_5
def dkwX8_deed_3 : List UInt8 := [167, 0, 58, 42, 182, 0, 181, 167, 0, 51, 42, 28, 182, 0, 184, 167, 0, 43, 42, 28, 182, 0, 187]
abbrev dktX8_deed_3 : List UInt8 := dkwX8_deed_3 ++ dktX8_deed_4
def dkwX8_deed_2 : List UInt8 := [42, 42, 180, 0, 3, 180, 0, 165, 27, 50, 180, 0, 169, 182, 0, 175, 167, 0, 65, 42, 182, 0, 179]
abbrev dktX8_deed_2 : List UInt8 := dkwX8_deed_2 ++ dktX8_deed_3
def dkwX8_deed_1 : List UInt8 := [170, 0, 0, 0, 0, 0, 126, 0, 0, 0, 0, 0, 0, 0, 8, 0, 0, 0, 51, 0, 0, 0, 51, 0, 0, 0, 70, 0, 0, 0, 77, 0, 0, 0, 84, 0, 0, 0, 92, 0, 0, 0, 100, 0, 0, 0, 109, 0, 0, 0, 118]
abbrev dktX8_deed_1 : List UInt8 := dkwX8_deed_1 ++ dktX8_deed_2
def dkwX8_deed_0 : List UInt8 := [27]
abbrev dktX8_deed_0 : List UInt8 := dkwX8_deed_0 ++ dktX8_deed_1
theorem dksX8_deed_0 : cX8_deed.data.toList.drop 0 = dktX8_deed_0 := by decide +kernel
theorem dksX8_deed_1 : cX8_deed.data.toList.drop 1 = dktX8_deed_1 := dk_seg dksX8_deed_0 1 rfl rfl
theorem dksX8_deed_2 : cX8_deed.data.toList.drop 52 = dktX8_deed_2 := dk_seg dksX8_deed_1 51 rfl rfl
theorem dksX8_deed_3 : cX8_deed.data.toList.drop 75 = dktX8_deed_3 := dk_seg dksX8_deed_2 23 rfl rfl
theorem dksX8_deed_4 : cX8_deed.data.toList.drop 98 = dktX8_deed_4 := dk_seg dksX8_deed_3 23 rfl rfl
theorem dksX8_deed_5 : cX8_deed.data.toList.drop 121 = dktX8_deed_5 := dk_seg dksX8_deed_4 23 rfl rfl
theorem dX8_deed_0 : decode cX8_deed 0 = .ok (.iload_n 1, 1) := dk_27 (dk_at dksX8_deed_0 0 rfl rfl)
theorem dX8_deed_1 : decode cX8_deed 1 = .ok (.tableswitch 126 0 8 #[51, 51, 70, 77, 84, 92, 100, 109, 118], 51) := by decide +kernel
theorem dX8_deed_52 : decode cX8_deed 52 = .ok (.aload_n 0, 1) := dk_42 (dk_at dksX8_deed_2 0 rfl rfl)
theorem dX8_deed_53 : decode cX8_deed 53 = .ok (.aload_n 0, 1) := dk_42 (dk_at dksX8_deed_2 1 rfl rfl)
theorem dX8_deed_54 : decode cX8_deed 54 = .ok (.getfield 3, 3) := dk_180 0 3 (dk_at dksX8_deed_2 2 rfl rfl)
theorem dX8_deed_57 : decode cX8_deed 57 = .ok (.getfield 165, 3) := dk_180 0 165 (dk_at dksX8_deed_2 5 rfl rfl)
theorem dX8_deed_60 : decode cX8_deed 60 = .ok (.iload_n 1, 1) := dk_27 (dk_at dksX8_deed_2 8 rfl rfl)
theorem dX8_deed_61 : decode cX8_deed 61 = .ok (.aaload, 1) := dk_50 (dk_at dksX8_deed_2 9 rfl rfl)
theorem dX8_deed_62 : decode cX8_deed 62 = .ok (.getfield 169, 3) := dk_180 0 169 (dk_at dksX8_deed_2 10 rfl rfl)
theorem dX8_deed_65 : decode cX8_deed 65 = .ok (.invokevirtual 175, 3) := dk_182 0 175 (dk_at dksX8_deed_2 13 rfl rfl)
theorem dX8_deed_68 : decode cX8_deed 68 = .ok (.goto 65, 3) := dk_167 0 65 (dk_at dksX8_deed_2 16 rfl rfl)
theorem dX8_deed_71 : decode cX8_deed 71 = .ok (.aload_n 0, 1) := dk_42 (dk_at dksX8_deed_2 19 rfl rfl)
theorem dX8_deed_72 : decode cX8_deed 72 = .ok (.invokevirtual 179, 3) := dk_182 0 179 (dk_at dksX8_deed_2 20 rfl rfl)
theorem dX8_deed_75 : decode cX8_deed 75 = .ok (.goto 58, 3) := dk_167 0 58 (dk_at dksX8_deed_3 0 rfl rfl)
theorem dX8_deed_78 : decode cX8_deed 78 = .ok (.aload_n 0, 1) := dk_42 (dk_at dksX8_deed_3 3 rfl rfl)
theorem dX8_deed_79 : decode cX8_deed 79 = .ok (.invokevirtual 181, 3) := dk_182 0 181 (dk_at dksX8_deed_3 4 rfl rfl)
theorem dX8_deed_82 : decode cX8_deed 82 = .ok (.goto 51, 3) := dk_167 0 51 (dk_at dksX8_deed_3 7 rfl rfl)
theorem dX8_deed_85 : decode cX8_deed 85 = .ok (.aload_n 0, 1) := dk_42 (dk_at dksX8_deed_3 10 rfl rfl)
theorem dX8_deed_86 : decode cX8_deed 86 = .ok (.iload_n 2, 1) := dk_28 (dk_at dksX8_deed_3 11 rfl rfl)
theorem dX8_deed_87 : decode cX8_deed 87 = .ok (.invokevirtual 184, 3) := dk_182 0 184 (dk_at dksX8_deed_3 12 rfl rfl)
theorem dX8_deed_90 : decode cX8_deed 90 = .ok (.goto 43, 3) := dk_167 0 43 (dk_at dksX8_deed_3 15 rfl rfl)
theorem dX8_deed_93 : decode cX8_deed 93 = .ok (.aload_n 0, 1) := dk_42 (dk_at dksX8_deed_3 18 rfl rfl)
theorem dX8_deed_94 : decode cX8_deed 94 = .ok (.iload_n 2, 1) := dk_28 (dk_at dksX8_deed_3 19 rfl rfl)
theorem dX8_deed_95 : decode cX8_deed 95 = .ok (.invokevirtual 187, 3) := dk_182 0 187 (dk_at dksX8_deed_3 20 rfl rfl)
theorem dX8_deed_98 : decode cX8_deed 98 = .ok (.goto 35, 3) := dk_167 0 35 (dk_at dksX8_deed_4 0 rfl rfl)
theorem dX8_deed_101 : decode cX8_deed 101 = .ok (.aload_n 0, 1) := dk_42 (dk_at dksX8_deed_4 3 rfl rfl)
theorem dX8_deed_102 : decode cX8_deed 102 = .ok (.iload_n 2, 1) := dk_28 (dk_at dksX8_deed_4 4 rfl rfl)
theorem dX8_deed_103 : decode cX8_deed 103 = .ok (.iload_n 3, 1) := dk_29 (dk_at dksX8_deed_4 5 rfl rfl)
theorem dX8_deed_104 : decode cX8_deed 104 = .ok (.invokevirtual 190, 3) := dk_182 0 190 (dk_at dksX8_deed_4 6 rfl rfl)
theorem dX8_deed_107 : decode cX8_deed 107 = .ok (.goto 26, 3) := dk_167 0 26 (dk_at dksX8_deed_4 9 rfl rfl)
theorem dX8_deed_110 : decode cX8_deed 110 = .ok (.aload_n 0, 1) := dk_42 (dk_at dksX8_deed_4 12 rfl rfl)
theorem dX8_deed_111 : decode cX8_deed 111 = .ok (.iload_n 2, 1) := dk_28 (dk_at dksX8_deed_4 13 rfl rfl)
theorem dX8_deed_112 : decode cX8_deed 112 = .ok (.iload_n 3, 1) := dk_29 (dk_at dksX8_deed_4 14 rfl rfl)
theorem dX8_deed_113 : decode cX8_deed 113 = .ok (.invokevirtual 193, 3) := dk_182 0 193 (dk_at dksX8_deed_4 15 rfl rfl)
theorem dX8_deed_116 : decode cX8_deed 116 = .ok (.goto 17, 3) := dk_167 0 17 (dk_at dksX8_deed_4 18 rfl rfl)
theorem dX8_deed_119 : decode cX8_deed 119 = .ok (.aload_n 0, 1) := dk_42 (dk_at dksX8_deed_4 21 rfl rfl)
theorem dX8_deed_120 : decode cX8_deed 120 = .ok (.iload_n 2, 1) := dk_28 (dk_at dksX8_deed_4 22 rfl rfl)
theorem dX8_deed_121 : decode cX8_deed 121 = .ok (.invokevirtual 196, 3) := dk_182 0 196 (dk_at dksX8_deed_5 0 rfl rfl)
theorem dX8_deed_124 : decode cX8_deed 124 = .ok (.goto 9, 3) := dk_167 0 9 (dk_at dksX8_deed_5 3 rfl rfl)
theorem dX8_deed_127 : decode cX8_deed 127 = .ok (.aload_n 0, 1) := dk_42 (dk_at dksX8_deed_5 6 rfl rfl)
theorem dX8_deed_128 : decode cX8_deed 128 = .ok (.iload_n 2, 1) := dk_28 (dk_at dksX8_deed_5 7 rfl rfl)
theorem dX8_deed_129 : decode cX8_deed 129 = .ok (.iload_n 3, 1) := dk_29 (dk_at dksX8_deed_5 8 rfl rfl)
theorem dX8_deed_130 : decode cX8_deed 130 = .ok (.invokevirtual 199, 3) := dk_182 0 199 (dk_at dksX8_deed_5 9 rfl rfl)
theorem dX8_deed_133 : decode cX8_deed 133 = .ok (.ireturn, 1) := dk_172 (dk_at dksX8_deed_5 12 rfl rfl)
def dkwX8_filters_4 : List UInt8 := [172]
abbrev dktX8_filters_4 : List UInt8 := dkwX8_filters_4 ++ []
def dkwX8_filters_3 : List UInt8 := [96, 182, 0, 80, 185, 0, 84, 4, 0, 79, 132, 2, 1, 167, 255, 189, 42, 42, 182, 0, 89, 182, 0, 92]
abbrev dktX8_filters_3 : List UInt8 := dkwX8_filters_3 ++ dktX8_filters_4
def dkwX8_filters_2 : List UInt8 := [182, 0, 80, 42, 180, 0, 3, 180, 0, 74, 180, 0, 77, 28, 46, 42, 180, 0, 3, 180, 0, 74, 28, 4]
abbrev dktX8_filters_2 : List UInt8 := dkwX8_filters_2 ++ dktX8_filters_3
def dkwX8_filters_1 : List UInt8 := [162, 0, 62, 42, 180, 0, 18, 180, 0, 77, 28, 43, 42, 180, 0, 3, 180, 0, 74, 28, 4, 100]
abbrev dktX8_filters_1 : List UInt8 := dkwX8_filters_1 ++ dktX8_filters_2
def dkwX8_filters_0 : List UInt8 := [42, 180, 0, 3, 180, 0, 74, 42, 180, 0, 18, 182, 0, 29, 3, 61, 28, 42, 180, 0, 18, 180, 0, 67]
abbrev dktX8_filters_0 : List UInt8 := dkwX8_filters_0 ++ dktX8_filters_1
theorem dksX8_filters_0 : cX8_filters.data.toList.drop 0 = dktX8_filters_0 := by decide +kernel
theorem dksX8_filters_1 : cX8_filters.data.toList.drop 24 = dktX8_filters_1 := dk_seg dksX8_filters_0 24 rfl rfl
theorem dksX8_filters_2 : cX8_filters.data.toList.drop 46 = dktX8_filters_2 := dk_seg dksX8_filters_1 22 rfl rfl
theorem dksX8_filters_3 : cX8_filters.data.toList.drop 70 = dktX8_filters_3 := dk_seg dksX8_filters_2 24 rfl rfl
theorem dksX8_filters_4 : cX8_filters.data.toList.drop 94 = dktX8_filters_4 := dk_seg dksX8_filters_3 24 rfl rfl
theorem dX8_filters_0 : decode cX8_filters 0 = .ok (.aload_n 0, 1) := dk_42 (dk_at dksX8_filters_0 0 rfl rfl)
theorem dX8_filters_1 : decode cX8_filters 1 = .ok (.getfield 3, 3) := dk_180 0 3 (dk_at dksX8_filters_0 1 rfl rfl)
theorem dX8_filters_4 : decode cX8_filters 4 = .ok (.getfield 74, 3) := dk_180 0 74 (dk_at dksX8_filters_0 4 rfl rfl)
theorem dX8_filters_7 : decode cX8_filters 7 = .ok (.aload_n 0, 1) := dk_42 (dk_at dksX8_filters_0 7 rfl rfl)
theorem dX8_filters_8 : decode cX8_filters 8 = .ok (.getfield 18, 3) := dk_180 0 18 (dk_at dksX8_filters_0 8 rfl rfl)
theorem dX8_filters_11 : decode cX8_filters 11 = .ok (.invokevirtual 29, 3) := dk_182 0 29 (dk_at dksX8_filters_0 11 rfl rfl)
theorem dX8_filters_14 : decode cX8_filters 14 = .ok (.iconst 0, 1) := dk_3 (dk_at dksX8_filters_0 14 rfl rfl)
theorem dX8_filters_15 : decode cX8_filters 15 = .ok (.istore_n 2, 1) := dk_61 (dk_at dksX8_filters_0 15 rfl rfl)
theorem dX8_filters_16 : decode cX8_filters 16 = .ok (.iload_n 2, 1) := dk_28 (dk_at dksX8_filters_0 16 rfl rfl)
theorem dX8_filters_17 : decode cX8_filters 17 = .ok (.aload_n 0, 1) := dk_42 (dk_at dksX8_filters_0 17 rfl rfl)
theorem dX8_filters_18 : decode cX8_filters 18 = .ok (.getfield 18, 3) := dk_180 0 18 (dk_at dksX8_filters_0 18 rfl rfl)
theorem dX8_filters_21 : decode cX8_filters 21 = .ok (.getfield 67, 3) := dk_180 0 67 (dk_at dksX8_filters_0 21 rfl rfl)
theorem dX8_filters_24 : decode cX8_filters 24 = .ok (.if_icmp .ge 62, 3) := dk_162 0 62 (dk_at dksX8_filters_1 0 rfl rfl)
theorem dX8_filters_27 : decode cX8_filters 27 = .ok (.aload_n 0, 1) := dk_42 (dk_at dksX8_filters_1 3 rfl rfl)
theorem dX8_filters_28 : decode cX8_filters 28 = .ok (.getfield 18, 3) := dk_180 0 18 (dk_at dksX8_filters_1 4 rfl rfl)
theorem dX8_filters_31 : decode cX8_filters 31 = .ok (.getfield 77, 3) := dk_180 0 77 (dk_at dksX8_filters_1 7 rfl rfl)
theorem dX8_filters_34 : decode cX8_filters 34 = .ok (.iload_n 2, 1) := dk_28 (dk_at dksX8_filters_1 10 rfl rfl)
theorem dX8_filters_35 : decode cX8_filters 35 = .ok (.aload_n 1, 1) := dk_43 (dk_at dksX8_filters_1 11 rfl rfl)
theorem dX8_filters_36 : decode cX8_filters 36 = .ok (.aload_n 0, 1) := dk_42 (dk_at dksX8_filters_1 12 rfl rfl)
theorem dX8_filters_37 : decode cX8_filters 37 = .ok (.getfield 3, 3) := dk_180 0 3 (dk_at dksX8_filters_1 13 rfl rfl)
theorem dX8_filters_40 : decode cX8_filters 40 = .ok (.getfield 74, 3) := dk_180 0 74 (dk_at dksX8_filters_1 16 rfl rfl)
theorem dX8_filters_43 : decode cX8_filters 43 = .ok (.iload_n 2, 1) := dk_28 (dk_at dksX8_filters_1 19 rfl rfl)
theorem dX8_filters_44 : decode cX8_filters 44 = .ok (.iconst 1, 1) := dk_4 (dk_at dksX8_filters_1 20 rfl rfl)
theorem dX8_filters_45 : decode cX8_filters 45 = .ok (.isub, 1) := dk_100 (dk_at dksX8_filters_1 21 rfl rfl)
theorem dX8_filters_46 : decode cX8_filters 46 = .ok (.invokevirtual 80, 3) := dk_182 0 80 (dk_at dksX8_filters_2 0 rfl rfl)
theorem dX8_filters_49 : decode cX8_filters 49 = .ok (.aload_n 0, 1) := dk_42 (dk_at dksX8_filters_2 3 rfl rfl)
theorem dX8_filters_50 : decode cX8_filters 50 = .ok (.getfield 3, 3) := dk_180 0 3 (dk_at dksX8_filters_2 4 rfl rfl)
theorem dX8_filters_53 : decode cX8_filters 53 = .ok (.getfield 74, 3) := dk_180 0 74 (dk_at dksX8_filters_2 7 rfl rfl)
theorem dX8_filters_56 : decode cX8_filters 56 = .ok (.getfield 77, 3) := dk_180 0 77 (dk_at dksX8_filters_2 10 rfl rfl)
theorem dX8_filters_59 : decode cX8_filters 59 = .ok (.iload_n 2, 1) := dk_28 (dk_at dksX8_filters_2 13 rfl rfl)
theorem dX8_filters_60 : decode cX8_filters 60 = .ok (.iaload, 1) := dk_46 (dk_at dksX8_filters_2 14 rfl rfl)
theorem dX8_filters_61 : decode cX8_filters 61 = .ok (.aload_n 0, 1) := dk_42 (dk_at dksX8_filters_2 15 rfl rfl)
theorem dX8_filters_62 : decode cX8_filters 62 = .ok (.getfield 3, 3) := dk_180 0 3 (dk_at dksX8_filters_2 16 rfl rfl)
theorem dX8_filters_65 : decode cX8_filters 65 = .ok (.getfield 74, 3) := dk_180 0 74 (dk_at dksX8_filters_2 19 rfl rfl)
theorem dX8_filters_68 : decode cX8_filters 68 = .ok (.iload_n 2, 1) := dk_28 (dk_at dksX8_filters_2 22 rfl rfl)
theorem dX8_filters_69 : decode cX8_filters 69 = .ok (.iconst 1, 1) := dk_4 (dk_at dksX8_filters_2 23 rfl rfl)
theorem dX8_filters_70 : decode cX8_filters 70 = .ok (.iadd, 1) := dk_96 (dk_at dksX8_filters_3 0 rfl rfl)
theorem dX8_filters_71 : decode cX8_filters 71 = .ok (.invokevirtual 80, 3) := dk_182 0 80 (dk_at dksX8_filters_3 1 rfl rfl)
theorem dX8_filters_74 : decode cX8_filters 74 = .ok (.invokeinterface 84 4, 5) := by decide +kernel
theorem dX8_filters_79 : decode cX8_filters 79 = .ok (.iastore, 1) := dk_79 (dk_at dksX8_filters_3 9 rfl rfl)
theorem dX8_filters_80 : decode cX8_filters 80 = .ok (.iinc 2 1, 3) := dk_132 2 1 (dk_at dksX8_filters_3 10 rfl rfl)
theorem dX8_filters_83 : decode cX8_filters 83 = .ok (.goto (-67), 3) := dk_167 255 189 (dk_at dksX8_filters_3 13 rfl rfl)
theorem dX8_filters_86 : decode cX8_filters 86 = .ok (.aload_n 0, 1) := dk_42 (dk_at dksX8_filters_3 16 rfl rfl)
theorem dX8_filters_87 : decode cX8_filters 87 = .ok (.aload_n 0, 1) := dk_42 (dk_at dksX8_filters_3 17 rfl rfl)
theorem dX8_filters_88 : decode cX8_filters 88 = .ok (.invokevirtual 89, 3) := dk_182 0 89 (dk_at dksX8_filters_3 18 rfl rfl)
theorem dX8_filters_91 : decode cX8_filters 91 = .ok (.invokevirtual 92, 3) := dk_182 0 92 (dk_at dksX8_filters_3 21 rfl rfl)
theorem dX8_filters_94 : decode cX8_filters 94 = .ok (.ireturn, 1) := dk_172 (dk_at dksX8_filters_4 0 rfl rfl)
def dkwX8_kept_0 : List UInt8 := [42, 180, 0, 3, 180, 0, 54, 42, 180, 0, 18, 42, 180, 0, 37, 182, 0, 58, 180, 0, 64, 172]
abbrev dktX8_kept_0 : List UInt8 := dkwX8_kept_0 ++ []
theorem dksX8_kept_0 : cX8_kept.data.toList.drop 0 = dktX8_kept_0 := by decide +kernel
theorem dX8_kept_0 : decode cX8_kept 0 = .ok (.aload_n 0, 1) := dk_42 (dk_at dksX8_kept_0 0 rfl rfl)
theorem dX8_kept_1 : decode cX8_kept 1 = .ok (.getfield 3, 3) := dk_180 0 3 (dk_at dksX8_kept_0 1 rfl rfl)
theorem dX8_kept_4 : decode cX8_kept 4 = .ok (.getfield 54, 3) := dk_180 0 54 (dk_at dksX8_kept_0 4 rfl rfl)
theorem dX8_kept_7 : decode cX8_kept 7 = .ok (.aload_n 0, 1) := dk_42 (dk_at dksX8_kept_0 7 rfl rfl)
theorem dX8_kept_8 : decode cX8_kept 8 = .ok (.getfield 18, 3) := dk_180 0 18 (dk_at dksX8_kept_0 8 rfl rfl)
theorem dX8_kept_11 : decode cX8_kept 11 = .ok (.aload_n 0, 1) := dk_42 (dk_at dksX8_kept_0 11 rfl rfl)
theorem dX8_kept_12 : decode cX8_kept 12 = .ok (.getfield 37, 3) := dk_180 0 37 (dk_at dksX8_kept_0 12 rfl rfl)
theorem dX8_kept_15 : decode cX8_kept 15 = .ok (.invokevirtual 58, 3) := dk_182 0 58 (dk_at dksX8_kept_0 15 rfl rfl)
theorem dX8_kept_18 : decode cX8_kept 18 = .ok (.getfield 64, 3) := dk_180 0 64 (dk_at dksX8_kept_0 18 rfl rfl)
theorem dX8_kept_21 : decode cX8_kept 21 = .ok (.ireturn, 1) := dk_172 (dk_at dksX8_kept_0 21 rfl rfl)
def dkwX8_done_0 : List UInt8 := [42, 27, 181, 0, 51, 2, 172]
abbrev dktX8_done_0 : List UInt8 := dkwX8_done_0 ++ []
theorem dksX8_done_0 : cX8_done.data.toList.drop 0 = dktX8_done_0 := by decide +kernel
theorem dX8_done_0 : decode cX8_done 0 = .ok (.aload_n 0, 1) := dk_42 (dk_at dksX8_done_0 0 rfl rfl)
theorem dX8_done_1 : decode cX8_done 1 = .ok (.iload_n 1, 1) := dk_27 (dk_at dksX8_done_0 1 rfl rfl)
theorem dX8_done_2 : decode cX8_done 2 = .ok (.putfield 51, 3) := dk_181 0 51 (dk_at dksX8_done_0 2 rfl rfl)
theorem dX8_done_5 : decode cX8_done 5 = .ok (.iconst (-1), 1) := dk_2 (dk_at dksX8_done_0 5 rfl rfl)
theorem dX8_done_6 : decode cX8_done 6 = .ok (.ireturn, 1) := dk_172 (dk_at dksX8_done_0 6 rfl rfl)
def dkwX8_flattens_3 : List UInt8 := [132, 2, 1, 167, 255, 223, 42, 42, 182, 0, 112, 182, 0, 92, 172]
abbrev dktX8_flattens_3 : List UInt8 := dkwX8_flattens_3 ++ []
def dkwX8_flattens_2 : List UInt8 := [43, 180, 0, 99, 28, 50, 180, 0, 102, 154, 0, 13, 42, 43, 180, 0, 99, 28, 50, 182, 0, 108]
abbrev dktX8_flattens_2 : List UInt8 := dkwX8_flattens_2 ++ dktX8_flattens_3
def dkwX8_flattens_1 : List UInt8 := [180, 0, 3, 180, 0, 74, 42, 180, 0, 37, 182, 0, 58, 76, 3, 61, 28, 43, 180, 0, 98, 162, 0, 31]
abbrev dktX8_flattens_1 : List UInt8 := dkwX8_flattens_1 ++ dktX8_flattens_2
def dkwX8_flattens_0 : List UInt8 := [42, 180, 0, 3, 180, 0, 74, 42, 180, 0, 18, 182, 0, 29, 42, 180, 0, 3, 180, 0, 54, 42]
abbrev dktX8_flattens_0 : List UInt8 := dkwX8_flattens_0 ++ dktX8_flattens_1
theorem dksX8_flattens_0 : cX8_flattens.data.toList.drop 0 = dktX8_flattens_0 := by decide +kernel
theorem dksX8_flattens_1 : cX8_flattens.data.toList.drop 22 = dktX8_flattens_1 := dk_seg dksX8_flattens_0 22 rfl rfl
theorem dksX8_flattens_2 : cX8_flattens.data.toList.drop 46 = dktX8_flattens_2 := dk_seg dksX8_flattens_1 24 rfl rfl
theorem dksX8_flattens_3 : cX8_flattens.data.toList.drop 68 = dktX8_flattens_3 := dk_seg dksX8_flattens_2 22 rfl rfl
theorem dX8_flattens_0 : decode cX8_flattens 0 = .ok (.aload_n 0, 1) := dk_42 (dk_at dksX8_flattens_0 0 rfl rfl)
theorem dX8_flattens_1 : decode cX8_flattens 1 = .ok (.getfield 3, 3) := dk_180 0 3 (dk_at dksX8_flattens_0 1 rfl rfl)
theorem dX8_flattens_4 : decode cX8_flattens 4 = .ok (.getfield 74, 3) := dk_180 0 74 (dk_at dksX8_flattens_0 4 rfl rfl)
theorem dX8_flattens_7 : decode cX8_flattens 7 = .ok (.aload_n 0, 1) := dk_42 (dk_at dksX8_flattens_0 7 rfl rfl)
theorem dX8_flattens_8 : decode cX8_flattens 8 = .ok (.getfield 18, 3) := dk_180 0 18 (dk_at dksX8_flattens_0 8 rfl rfl)
theorem dX8_flattens_11 : decode cX8_flattens 11 = .ok (.invokevirtual 29, 3) := dk_182 0 29 (dk_at dksX8_flattens_0 11 rfl rfl)
theorem dX8_flattens_14 : decode cX8_flattens 14 = .ok (.aload_n 0, 1) := dk_42 (dk_at dksX8_flattens_0 14 rfl rfl)
theorem dX8_flattens_15 : decode cX8_flattens 15 = .ok (.getfield 3, 3) := dk_180 0 3 (dk_at dksX8_flattens_0 15 rfl rfl)
theorem dX8_flattens_18 : decode cX8_flattens 18 = .ok (.getfield 54, 3) := dk_180 0 54 (dk_at dksX8_flattens_0 18 rfl rfl)
theorem dX8_flattens_21 : decode cX8_flattens 21 = .ok (.aload_n 0, 1) := dk_42 (dk_at dksX8_flattens_0 21 rfl rfl)
theorem dX8_flattens_22 : decode cX8_flattens 22 = .ok (.getfield 3, 3) := dk_180 0 3 (dk_at dksX8_flattens_1 0 rfl rfl)
theorem dX8_flattens_25 : decode cX8_flattens 25 = .ok (.getfield 74, 3) := dk_180 0 74 (dk_at dksX8_flattens_1 3 rfl rfl)
theorem dX8_flattens_28 : decode cX8_flattens 28 = .ok (.aload_n 0, 1) := dk_42 (dk_at dksX8_flattens_1 6 rfl rfl)
theorem dX8_flattens_29 : decode cX8_flattens 29 = .ok (.getfield 37, 3) := dk_180 0 37 (dk_at dksX8_flattens_1 7 rfl rfl)
theorem dX8_flattens_32 : decode cX8_flattens 32 = .ok (.invokevirtual 58, 3) := dk_182 0 58 (dk_at dksX8_flattens_1 10 rfl rfl)
theorem dX8_flattens_35 : decode cX8_flattens 35 = .ok (.astore_n 1, 1) := dk_76 (dk_at dksX8_flattens_1 13 rfl rfl)
theorem dX8_flattens_36 : decode cX8_flattens 36 = .ok (.iconst 0, 1) := dk_3 (dk_at dksX8_flattens_1 14 rfl rfl)
theorem dX8_flattens_37 : decode cX8_flattens 37 = .ok (.istore_n 2, 1) := dk_61 (dk_at dksX8_flattens_1 15 rfl rfl)
theorem dX8_flattens_38 : decode cX8_flattens 38 = .ok (.iload_n 2, 1) := dk_28 (dk_at dksX8_flattens_1 16 rfl rfl)
theorem dX8_flattens_39 : decode cX8_flattens 39 = .ok (.aload_n 1, 1) := dk_43 (dk_at dksX8_flattens_1 17 rfl rfl)
theorem dX8_flattens_40 : decode cX8_flattens 40 = .ok (.getfield 98, 3) := dk_180 0 98 (dk_at dksX8_flattens_1 18 rfl rfl)
theorem dX8_flattens_43 : decode cX8_flattens 43 = .ok (.if_icmp .ge 31, 3) := dk_162 0 31 (dk_at dksX8_flattens_1 21 rfl rfl)
theorem dX8_flattens_46 : decode cX8_flattens 46 = .ok (.aload_n 1, 1) := dk_43 (dk_at dksX8_flattens_2 0 rfl rfl)
theorem dX8_flattens_47 : decode cX8_flattens 47 = .ok (.getfield 99, 3) := dk_180 0 99 (dk_at dksX8_flattens_2 1 rfl rfl)
theorem dX8_flattens_50 : decode cX8_flattens 50 = .ok (.iload_n 2, 1) := dk_28 (dk_at dksX8_flattens_2 4 rfl rfl)
theorem dX8_flattens_51 : decode cX8_flattens 51 = .ok (.aaload, 1) := dk_50 (dk_at dksX8_flattens_2 5 rfl rfl)
theorem dX8_flattens_52 : decode cX8_flattens 52 = .ok (.getfield 102, 3) := dk_180 0 102 (dk_at dksX8_flattens_2 6 rfl rfl)
theorem dX8_flattens_55 : decode cX8_flattens 55 = .ok (.ifCond .ne 13, 3) := dk_154 0 13 (dk_at dksX8_flattens_2 9 rfl rfl)
theorem dX8_flattens_58 : decode cX8_flattens 58 = .ok (.aload_n 0, 1) := dk_42 (dk_at dksX8_flattens_2 12 rfl rfl)
theorem dX8_flattens_59 : decode cX8_flattens 59 = .ok (.aload_n 1, 1) := dk_43 (dk_at dksX8_flattens_2 13 rfl rfl)
theorem dX8_flattens_60 : decode cX8_flattens 60 = .ok (.getfield 99, 3) := dk_180 0 99 (dk_at dksX8_flattens_2 14 rfl rfl)
theorem dX8_flattens_63 : decode cX8_flattens 63 = .ok (.iload_n 2, 1) := dk_28 (dk_at dksX8_flattens_2 17 rfl rfl)
theorem dX8_flattens_64 : decode cX8_flattens 64 = .ok (.aaload, 1) := dk_50 (dk_at dksX8_flattens_2 18 rfl rfl)
theorem dX8_flattens_65 : decode cX8_flattens 65 = .ok (.invokevirtual 108, 3) := dk_182 0 108 (dk_at dksX8_flattens_2 19 rfl rfl)
theorem dX8_flattens_68 : decode cX8_flattens 68 = .ok (.iinc 2 1, 3) := dk_132 2 1 (dk_at dksX8_flattens_3 0 rfl rfl)
theorem dX8_flattens_71 : decode cX8_flattens 71 = .ok (.goto (-33), 3) := dk_167 255 223 (dk_at dksX8_flattens_3 3 rfl rfl)
theorem dX8_flattens_74 : decode cX8_flattens 74 = .ok (.aload_n 0, 1) := dk_42 (dk_at dksX8_flattens_3 6 rfl rfl)
theorem dX8_flattens_75 : decode cX8_flattens 75 = .ok (.aload_n 0, 1) := dk_42 (dk_at dksX8_flattens_3 7 rfl rfl)
theorem dX8_flattens_76 : decode cX8_flattens 76 = .ok (.invokevirtual 112, 3) := dk_182 0 112 (dk_at dksX8_flattens_3 8 rfl rfl)
theorem dX8_flattens_79 : decode cX8_flattens 79 = .ok (.invokevirtual 92, 3) := dk_182 0 92 (dk_at dksX8_flattens_3 11 rfl rfl)
theorem dX8_flattens_82 : decode cX8_flattens 82 = .ok (.ireturn, 1) := dk_172 (dk_at dksX8_flattens_3 14 rfl rfl)
def dkwX8_flattens_2_4 : List UInt8 := [132, 2, 1, 167, 255, 211, 177]
abbrev dktX8_flattens_2_4 : List UInt8 := dkwX8_flattens_2_4 ++ []
def dkwX8_flattens_2_3 : List UInt8 := [180, 0, 74, 180, 0, 77, 28, 46, 43, 180, 0, 118, 164, 0, 18, 42, 28, 43, 180, 0, 118, 182, 0, 121]
abbrev dktX8_flattens_2_3 : List UInt8 := dkwX8_flattens_2_3 ++ dktX8_flattens_2_4
def dkwX8_flattens_2_2 : List UInt8 := [180, 0, 115, 4, 96, 61, 28, 42, 180, 0, 3, 180, 0, 74, 180, 0, 67, 162, 0, 37, 42, 180, 0, 3]
abbrev dktX8_flattens_2_2 : List UInt8 := dkwX8_flattens_2_2 ++ dktX8_flattens_2_3
def dkwX8_flattens_2_1 : List UInt8 := [180, 0, 118, 164, 0, 18, 42, 28, 43, 180, 0, 118, 182, 0, 121, 132, 2, 255, 167, 255, 221, 43]
abbrev dktX8_flattens_2_1 : List UInt8 := dkwX8_flattens_2_1 ++ dktX8_flattens_2_2
def dkwX8_flattens_2_0 : List UInt8 := [43, 180, 0, 115, 61, 28, 155, 0, 37, 42, 180, 0, 3, 180, 0, 74, 180, 0, 77, 28, 46, 43]
abbrev dktX8_flattens_2_0 : List UInt8 := dkwX8_flattens_2_0 ++ dktX8_flattens_2_1
theorem dksX8_flattens_2_0 : cX8_flattens_2.data.toList.drop 0 = dktX8_flattens_2_0 := by decide +kernel
theorem dksX8_flattens_2_1 : cX8_flattens_2.data.toList.drop 22 = dktX8_flattens_2_1 := dk_seg dksX8_flattens_2_0 22 rfl rfl
theorem dksX8_flattens_2_2 : cX8_flattens_2.data.toList.drop 44 = dktX8_flattens_2_2 := dk_seg dksX8_flattens_2_1 22 rfl rfl
theorem dksX8_flattens_2_3 : cX8_flattens_2.data.toList.drop 68 = dktX8_flattens_2_3 := dk_seg dksX8_flattens_2_2 24 rfl rfl
theorem dksX8_flattens_2_4 : cX8_flattens_2.data.toList.drop 92 = dktX8_flattens_2_4 := dk_seg dksX8_flattens_2_3 24 rfl rfl
theorem dX8_flattens_2_0 : decode cX8_flattens_2 0 = .ok (.aload_n 1, 1) := dk_43 (dk_at dksX8_flattens_2_0 0 rfl rfl)
theorem dX8_flattens_2_1 : decode cX8_flattens_2 1 = .ok (.getfield 115, 3) := dk_180 0 115 (dk_at dksX8_flattens_2_0 1 rfl rfl)
theorem dX8_flattens_2_4 : decode cX8_flattens_2 4 = .ok (.istore_n 2, 1) := dk_61 (dk_at dksX8_flattens_2_0 4 rfl rfl)
theorem dX8_flattens_2_5 : decode cX8_flattens_2 5 = .ok (.iload_n 2, 1) := dk_28 (dk_at dksX8_flattens_2_0 5 rfl rfl)
theorem dX8_flattens_2_6 : decode cX8_flattens_2 6 = .ok (.ifCond .lt 37, 3) := dk_155 0 37 (dk_at dksX8_flattens_2_0 6 rfl rfl)
theorem dX8_flattens_2_9 : decode cX8_flattens_2 9 = .ok (.aload_n 0, 1) := dk_42 (dk_at dksX8_flattens_2_0 9 rfl rfl)
theorem dX8_flattens_2_10 : decode cX8_flattens_2 10 = .ok (.getfield 3, 3) := dk_180 0 3 (dk_at dksX8_flattens_2_0 10 rfl rfl)
theorem dX8_flattens_2_13 : decode cX8_flattens_2 13 = .ok (.getfield 74, 3) := dk_180 0 74 (dk_at dksX8_flattens_2_0 13 rfl rfl)
theorem dX8_flattens_2_16 : decode cX8_flattens_2 16 = .ok (.getfield 77, 3) := dk_180 0 77 (dk_at dksX8_flattens_2_0 16 rfl rfl)
theorem dX8_flattens_2_19 : decode cX8_flattens_2 19 = .ok (.iload_n 2, 1) := dk_28 (dk_at dksX8_flattens_2_0 19 rfl rfl)
theorem dX8_flattens_2_20 : decode cX8_flattens_2 20 = .ok (.iaload, 1) := dk_46 (dk_at dksX8_flattens_2_0 20 rfl rfl)
theorem dX8_flattens_2_21 : decode cX8_flattens_2 21 = .ok (.aload_n 1, 1) := dk_43 (dk_at dksX8_flattens_2_0 21 rfl rfl)
theorem dX8_flattens_2_22 : decode cX8_flattens_2 22 = .ok (.getfield 118, 3) := dk_180 0 118 (dk_at dksX8_flattens_2_1 0 rfl rfl)
theorem dX8_flattens_2_25 : decode cX8_flattens_2 25 = .ok (.if_icmp .le 18, 3) := dk_164 0 18 (dk_at dksX8_flattens_2_1 3 rfl rfl)
theorem dX8_flattens_2_28 : decode cX8_flattens_2 28 = .ok (.aload_n 0, 1) := dk_42 (dk_at dksX8_flattens_2_1 6 rfl rfl)
theorem dX8_flattens_2_29 : decode cX8_flattens_2 29 = .ok (.iload_n 2, 1) := dk_28 (dk_at dksX8_flattens_2_1 7 rfl rfl)
theorem dX8_flattens_2_30 : decode cX8_flattens_2 30 = .ok (.aload_n 1, 1) := dk_43 (dk_at dksX8_flattens_2_1 8 rfl rfl)
theorem dX8_flattens_2_31 : decode cX8_flattens_2 31 = .ok (.getfield 118, 3) := dk_180 0 118 (dk_at dksX8_flattens_2_1 9 rfl rfl)
theorem dX8_flattens_2_34 : decode cX8_flattens_2 34 = .ok (.invokevirtual 121, 3) := dk_182 0 121 (dk_at dksX8_flattens_2_1 12 rfl rfl)
theorem dX8_flattens_2_37 : decode cX8_flattens_2 37 = .ok (.iinc 2 (-1), 3) := dk_132 2 255 (dk_at dksX8_flattens_2_1 15 rfl rfl)
theorem dX8_flattens_2_40 : decode cX8_flattens_2 40 = .ok (.goto (-35), 3) := dk_167 255 221 (dk_at dksX8_flattens_2_1 18 rfl rfl)
theorem dX8_flattens_2_43 : decode cX8_flattens_2 43 = .ok (.aload_n 1, 1) := dk_43 (dk_at dksX8_flattens_2_1 21 rfl rfl)
theorem dX8_flattens_2_44 : decode cX8_flattens_2 44 = .ok (.getfield 115, 3) := dk_180 0 115 (dk_at dksX8_flattens_2_2 0 rfl rfl)
theorem dX8_flattens_2_47 : decode cX8_flattens_2 47 = .ok (.iconst 1, 1) := dk_4 (dk_at dksX8_flattens_2_2 3 rfl rfl)
theorem dX8_flattens_2_48 : decode cX8_flattens_2 48 = .ok (.iadd, 1) := dk_96 (dk_at dksX8_flattens_2_2 4 rfl rfl)
theorem dX8_flattens_2_49 : decode cX8_flattens_2 49 = .ok (.istore_n 2, 1) := dk_61 (dk_at dksX8_flattens_2_2 5 rfl rfl)
theorem dX8_flattens_2_50 : decode cX8_flattens_2 50 = .ok (.iload_n 2, 1) := dk_28 (dk_at dksX8_flattens_2_2 6 rfl rfl)
theorem dX8_flattens_2_51 : decode cX8_flattens_2 51 = .ok (.aload_n 0, 1) := dk_42 (dk_at dksX8_flattens_2_2 7 rfl rfl)
theorem dX8_flattens_2_52 : decode cX8_flattens_2 52 = .ok (.getfield 3, 3) := dk_180 0 3 (dk_at dksX8_flattens_2_2 8 rfl rfl)
theorem dX8_flattens_2_55 : decode cX8_flattens_2 55 = .ok (.getfield 74, 3) := dk_180 0 74 (dk_at dksX8_flattens_2_2 11 rfl rfl)
theorem dX8_flattens_2_58 : decode cX8_flattens_2 58 = .ok (.getfield 67, 3) := dk_180 0 67 (dk_at dksX8_flattens_2_2 14 rfl rfl)
theorem dX8_flattens_2_61 : decode cX8_flattens_2 61 = .ok (.if_icmp .ge 37, 3) := dk_162 0 37 (dk_at dksX8_flattens_2_2 17 rfl rfl)
theorem dX8_flattens_2_64 : decode cX8_flattens_2 64 = .ok (.aload_n 0, 1) := dk_42 (dk_at dksX8_flattens_2_2 20 rfl rfl)
theorem dX8_flattens_2_65 : decode cX8_flattens_2 65 = .ok (.getfield 3, 3) := dk_180 0 3 (dk_at dksX8_flattens_2_2 21 rfl rfl)
theorem dX8_flattens_2_68 : decode cX8_flattens_2 68 = .ok (.getfield 74, 3) := dk_180 0 74 (dk_at dksX8_flattens_2_3 0 rfl rfl)
theorem dX8_flattens_2_71 : decode cX8_flattens_2 71 = .ok (.getfield 77, 3) := dk_180 0 77 (dk_at dksX8_flattens_2_3 3 rfl rfl)
theorem dX8_flattens_2_74 : decode cX8_flattens_2 74 = .ok (.iload_n 2, 1) := dk_28 (dk_at dksX8_flattens_2_3 6 rfl rfl)
theorem dX8_flattens_2_75 : decode cX8_flattens_2 75 = .ok (.iaload, 1) := dk_46 (dk_at dksX8_flattens_2_3 7 rfl rfl)
theorem dX8_flattens_2_76 : decode cX8_flattens_2 76 = .ok (.aload_n 1, 1) := dk_43 (dk_at dksX8_flattens_2_3 8 rfl rfl)
theorem dX8_flattens_2_77 : decode cX8_flattens_2 77 = .ok (.getfield 118, 3) := dk_180 0 118 (dk_at dksX8_flattens_2_3 9 rfl rfl)
theorem dX8_flattens_2_80 : decode cX8_flattens_2 80 = .ok (.if_icmp .le 18, 3) := dk_164 0 18 (dk_at dksX8_flattens_2_3 12 rfl rfl)
theorem dX8_flattens_2_83 : decode cX8_flattens_2 83 = .ok (.aload_n 0, 1) := dk_42 (dk_at dksX8_flattens_2_3 15 rfl rfl)
theorem dX8_flattens_2_84 : decode cX8_flattens_2 84 = .ok (.iload_n 2, 1) := dk_28 (dk_at dksX8_flattens_2_3 16 rfl rfl)
theorem dX8_flattens_2_85 : decode cX8_flattens_2 85 = .ok (.aload_n 1, 1) := dk_43 (dk_at dksX8_flattens_2_3 17 rfl rfl)
theorem dX8_flattens_2_86 : decode cX8_flattens_2 86 = .ok (.getfield 118, 3) := dk_180 0 118 (dk_at dksX8_flattens_2_3 18 rfl rfl)
theorem dX8_flattens_2_89 : decode cX8_flattens_2 89 = .ok (.invokevirtual 121, 3) := dk_182 0 121 (dk_at dksX8_flattens_2_3 21 rfl rfl)
theorem dX8_flattens_2_92 : decode cX8_flattens_2 92 = .ok (.iinc 2 1, 3) := dk_132 2 1 (dk_at dksX8_flattens_2_4 0 rfl rfl)
theorem dX8_flattens_2_95 : decode cX8_flattens_2 95 = .ok (.goto (-45), 3) := dk_167 255 211 (dk_at dksX8_flattens_2_4 3 rfl rfl)
theorem dX8_flattens_2_98 : decode cX8_flattens_2 98 = .ok (.return_, 1) := dk_177 (dk_at dksX8_flattens_2_4 6 rfl rfl)
def dkwX8_lowers_0 : List UInt8 := [42, 180, 0, 18, 180, 0, 77, 27, 42, 180, 0, 18, 180, 0, 77, 27, 46, 28, 184, 0, 125, 79, 177]
abbrev dktX8_lowers_0 : List UInt8 := dkwX8_lowers_0 ++ []
theorem dksX8_lowers_0 : cX8_lowers.data.toList.drop 0 = dktX8_lowers_0 := by decide +kernel
theorem dX8_lowers_0 : decode cX8_lowers 0 = .ok (.aload_n 0, 1) := dk_42 (dk_at dksX8_lowers_0 0 rfl rfl)
theorem dX8_lowers_1 : decode cX8_lowers 1 = .ok (.getfield 18, 3) := dk_180 0 18 (dk_at dksX8_lowers_0 1 rfl rfl)
theorem dX8_lowers_4 : decode cX8_lowers 4 = .ok (.getfield 77, 3) := dk_180 0 77 (dk_at dksX8_lowers_0 4 rfl rfl)
theorem dX8_lowers_7 : decode cX8_lowers 7 = .ok (.iload_n 1, 1) := dk_27 (dk_at dksX8_lowers_0 7 rfl rfl)
theorem dX8_lowers_8 : decode cX8_lowers 8 = .ok (.aload_n 0, 1) := dk_42 (dk_at dksX8_lowers_0 8 rfl rfl)
theorem dX8_lowers_9 : decode cX8_lowers 9 = .ok (.getfield 18, 3) := dk_180 0 18 (dk_at dksX8_lowers_0 9 rfl rfl)
theorem dX8_lowers_12 : decode cX8_lowers 12 = .ok (.getfield 77, 3) := dk_180 0 77 (dk_at dksX8_lowers_0 12 rfl rfl)
theorem dX8_lowers_15 : decode cX8_lowers 15 = .ok (.iload_n 1, 1) := dk_27 (dk_at dksX8_lowers_0 15 rfl rfl)
theorem dX8_lowers_16 : decode cX8_lowers 16 = .ok (.iaload, 1) := dk_46 (dk_at dksX8_lowers_0 16 rfl rfl)
theorem dX8_lowers_17 : decode cX8_lowers 17 = .ok (.iload_n 2, 1) := dk_28 (dk_at dksX8_lowers_0 17 rfl rfl)
theorem dX8_lowers_18 : decode cX8_lowers 18 = .ok (.invokestatic 125, 3) := dk_184 0 125 (dk_at dksX8_lowers_0 18 rfl rfl)
theorem dX8_lowers_21 : decode cX8_lowers 21 = .ok (.iastore, 1) := dk_79 (dk_at dksX8_lowers_0 21 rfl rfl)
theorem dX8_lowers_22 : decode cX8_lowers 22 = .ok (.return_, 1) := dk_177 (dk_at dksX8_lowers_0 22 rfl rfl)
def dkwX8_less_2 : List UInt8 := [132, 2, 1, 167, 255, 210, 27, 172]
abbrev dktX8_less_2 : List UInt8 := dkwX8_less_2 ++ []
def dkwX8_less_1 : List UInt8 := [46, 42, 180, 0, 3, 180, 0, 74, 180, 0, 77, 28, 46, 162, 0, 7, 4, 167, 0, 4, 3, 96, 60]
abbrev dktX8_less_1 : List UInt8 := dkwX8_less_1 ++ dktX8_less_2
def dkwX8_less_0 : List UInt8 := [3, 60, 3, 61, 28, 42, 180, 0, 18, 180, 0, 67, 162, 0, 41, 27, 42, 180, 0, 18, 180, 0, 77, 28]
abbrev dktX8_less_0 : List UInt8 := dkwX8_less_0 ++ dktX8_less_1
theorem dksX8_less_0 : cX8_less.data.toList.drop 0 = dktX8_less_0 := by decide +kernel
theorem dksX8_less_1 : cX8_less.data.toList.drop 24 = dktX8_less_1 := dk_seg dksX8_less_0 24 rfl rfl
theorem dksX8_less_2 : cX8_less.data.toList.drop 47 = dktX8_less_2 := dk_seg dksX8_less_1 23 rfl rfl
theorem dX8_less_0 : decode cX8_less 0 = .ok (.iconst 0, 1) := dk_3 (dk_at dksX8_less_0 0 rfl rfl)
theorem dX8_less_1 : decode cX8_less 1 = .ok (.istore_n 1, 1) := dk_60 (dk_at dksX8_less_0 1 rfl rfl)
theorem dX8_less_2 : decode cX8_less 2 = .ok (.iconst 0, 1) := dk_3 (dk_at dksX8_less_0 2 rfl rfl)
theorem dX8_less_3 : decode cX8_less 3 = .ok (.istore_n 2, 1) := dk_61 (dk_at dksX8_less_0 3 rfl rfl)
theorem dX8_less_4 : decode cX8_less 4 = .ok (.iload_n 2, 1) := dk_28 (dk_at dksX8_less_0 4 rfl rfl)
theorem dX8_less_5 : decode cX8_less 5 = .ok (.aload_n 0, 1) := dk_42 (dk_at dksX8_less_0 5 rfl rfl)
theorem dX8_less_6 : decode cX8_less 6 = .ok (.getfield 18, 3) := dk_180 0 18 (dk_at dksX8_less_0 6 rfl rfl)
theorem dX8_less_9 : decode cX8_less 9 = .ok (.getfield 67, 3) := dk_180 0 67 (dk_at dksX8_less_0 9 rfl rfl)
theorem dX8_less_12 : decode cX8_less 12 = .ok (.if_icmp .ge 41, 3) := dk_162 0 41 (dk_at dksX8_less_0 12 rfl rfl)
theorem dX8_less_15 : decode cX8_less 15 = .ok (.iload_n 1, 1) := dk_27 (dk_at dksX8_less_0 15 rfl rfl)
theorem dX8_less_16 : decode cX8_less 16 = .ok (.aload_n 0, 1) := dk_42 (dk_at dksX8_less_0 16 rfl rfl)
theorem dX8_less_17 : decode cX8_less 17 = .ok (.getfield 18, 3) := dk_180 0 18 (dk_at dksX8_less_0 17 rfl rfl)
theorem dX8_less_20 : decode cX8_less 20 = .ok (.getfield 77, 3) := dk_180 0 77 (dk_at dksX8_less_0 20 rfl rfl)
theorem dX8_less_23 : decode cX8_less 23 = .ok (.iload_n 2, 1) := dk_28 (dk_at dksX8_less_0 23 rfl rfl)
theorem dX8_less_24 : decode cX8_less 24 = .ok (.iaload, 1) := dk_46 (dk_at dksX8_less_1 0 rfl rfl)
theorem dX8_less_25 : decode cX8_less 25 = .ok (.aload_n 0, 1) := dk_42 (dk_at dksX8_less_1 1 rfl rfl)
theorem dX8_less_26 : decode cX8_less 26 = .ok (.getfield 3, 3) := dk_180 0 3 (dk_at dksX8_less_1 2 rfl rfl)
theorem dX8_less_29 : decode cX8_less 29 = .ok (.getfield 74, 3) := dk_180 0 74 (dk_at dksX8_less_1 5 rfl rfl)
theorem dX8_less_32 : decode cX8_less 32 = .ok (.getfield 77, 3) := dk_180 0 77 (dk_at dksX8_less_1 8 rfl rfl)
theorem dX8_less_35 : decode cX8_less 35 = .ok (.iload_n 2, 1) := dk_28 (dk_at dksX8_less_1 11 rfl rfl)
theorem dX8_less_36 : decode cX8_less 36 = .ok (.iaload, 1) := dk_46 (dk_at dksX8_less_1 12 rfl rfl)
theorem dX8_less_37 : decode cX8_less 37 = .ok (.if_icmp .ge 7, 3) := dk_162 0 7 (dk_at dksX8_less_1 13 rfl rfl)
theorem dX8_less_40 : decode cX8_less 40 = .ok (.iconst 1, 1) := dk_4 (dk_at dksX8_less_1 16 rfl rfl)
theorem dX8_less_41 : decode cX8_less 41 = .ok (.goto 4, 3) := dk_167 0 4 (dk_at dksX8_less_1 17 rfl rfl)
theorem dX8_less_44 : decode cX8_less 44 = .ok (.iconst 0, 1) := dk_3 (dk_at dksX8_less_1 20 rfl rfl)
theorem dX8_less_45 : decode cX8_less 45 = .ok (.iadd, 1) := dk_96 (dk_at dksX8_less_1 21 rfl rfl)
theorem dX8_less_46 : decode cX8_less 46 = .ok (.istore_n 1, 1) := dk_60 (dk_at dksX8_less_1 22 rfl rfl)
theorem dX8_less_47 : decode cX8_less 47 = .ok (.iinc 2 1, 3) := dk_132 2 1 (dk_at dksX8_less_2 0 rfl rfl)
theorem dX8_less_50 : decode cX8_less 50 = .ok (.goto (-46), 3) := dk_167 255 210 (dk_at dksX8_less_2 3 rfl rfl)
theorem dX8_less_53 : decode cX8_less 53 = .ok (.iload_n 1, 1) := dk_27 (dk_at dksX8_less_2 6 rfl rfl)
theorem dX8_less_54 : decode cX8_less 54 = .ok (.ireturn, 1) := dk_172 (dk_at dksX8_less_2 7 rfl rfl)
def dkwX8_turns_3 : List UInt8 := [180, 0, 77, 3, 46, 182, 0, 92, 172]
abbrev dktX8_turns_3 : List UInt8 := dkwX8_turns_3 ++ []
def dkwX8_turns_2 : List UInt8 := [180, 0, 18, 180, 0, 67, 4, 100, 27, 100, 46, 79, 132, 1, 1, 167, 255, 211, 42, 42, 180, 0, 18]
abbrev dktX8_turns_2 : List UInt8 := dkwX8_turns_2 ++ dktX8_turns_3
def dkwX8_turns_1 : List UInt8 := [162, 0, 40, 42, 180, 0, 18, 180, 0, 77, 27, 42, 180, 0, 3, 180, 0, 74, 180, 0, 77, 42]
abbrev dktX8_turns_1 : List UInt8 := dkwX8_turns_1 ++ dktX8_turns_2
def dkwX8_turns_0 : List UInt8 := [42, 180, 0, 3, 180, 0, 74, 42, 180, 0, 18, 182, 0, 29, 3, 60, 27, 42, 180, 0, 18, 180, 0, 67]
abbrev dktX8_turns_0 : List UInt8 := dkwX8_turns_0 ++ dktX8_turns_1
theorem dksX8_turns_0 : cX8_turns.data.toList.drop 0 = dktX8_turns_0 := by decide +kernel
theorem dksX8_turns_1 : cX8_turns.data.toList.drop 24 = dktX8_turns_1 := dk_seg dksX8_turns_0 24 rfl rfl
theorem dksX8_turns_2 : cX8_turns.data.toList.drop 46 = dktX8_turns_2 := dk_seg dksX8_turns_1 22 rfl rfl
theorem dksX8_turns_3 : cX8_turns.data.toList.drop 69 = dktX8_turns_3 := dk_seg dksX8_turns_2 23 rfl rfl
theorem dX8_turns_0 : decode cX8_turns 0 = .ok (.aload_n 0, 1) := dk_42 (dk_at dksX8_turns_0 0 rfl rfl)
theorem dX8_turns_1 : decode cX8_turns 1 = .ok (.getfield 3, 3) := dk_180 0 3 (dk_at dksX8_turns_0 1 rfl rfl)
theorem dX8_turns_4 : decode cX8_turns 4 = .ok (.getfield 74, 3) := dk_180 0 74 (dk_at dksX8_turns_0 4 rfl rfl)
theorem dX8_turns_7 : decode cX8_turns 7 = .ok (.aload_n 0, 1) := dk_42 (dk_at dksX8_turns_0 7 rfl rfl)
theorem dX8_turns_8 : decode cX8_turns 8 = .ok (.getfield 18, 3) := dk_180 0 18 (dk_at dksX8_turns_0 8 rfl rfl)
theorem dX8_turns_11 : decode cX8_turns 11 = .ok (.invokevirtual 29, 3) := dk_182 0 29 (dk_at dksX8_turns_0 11 rfl rfl)
theorem dX8_turns_14 : decode cX8_turns 14 = .ok (.iconst 0, 1) := dk_3 (dk_at dksX8_turns_0 14 rfl rfl)
theorem dX8_turns_15 : decode cX8_turns 15 = .ok (.istore_n 1, 1) := dk_60 (dk_at dksX8_turns_0 15 rfl rfl)
theorem dX8_turns_16 : decode cX8_turns 16 = .ok (.iload_n 1, 1) := dk_27 (dk_at dksX8_turns_0 16 rfl rfl)
theorem dX8_turns_17 : decode cX8_turns 17 = .ok (.aload_n 0, 1) := dk_42 (dk_at dksX8_turns_0 17 rfl rfl)
theorem dX8_turns_18 : decode cX8_turns 18 = .ok (.getfield 18, 3) := dk_180 0 18 (dk_at dksX8_turns_0 18 rfl rfl)
theorem dX8_turns_21 : decode cX8_turns 21 = .ok (.getfield 67, 3) := dk_180 0 67 (dk_at dksX8_turns_0 21 rfl rfl)
theorem dX8_turns_24 : decode cX8_turns 24 = .ok (.if_icmp .ge 40, 3) := dk_162 0 40 (dk_at dksX8_turns_1 0 rfl rfl)
theorem dX8_turns_27 : decode cX8_turns 27 = .ok (.aload_n 0, 1) := dk_42 (dk_at dksX8_turns_1 3 rfl rfl)
theorem dX8_turns_28 : decode cX8_turns 28 = .ok (.getfield 18, 3) := dk_180 0 18 (dk_at dksX8_turns_1 4 rfl rfl)
theorem dX8_turns_31 : decode cX8_turns 31 = .ok (.getfield 77, 3) := dk_180 0 77 (dk_at dksX8_turns_1 7 rfl rfl)
theorem dX8_turns_34 : decode cX8_turns 34 = .ok (.iload_n 1, 1) := dk_27 (dk_at dksX8_turns_1 10 rfl rfl)
theorem dX8_turns_35 : decode cX8_turns 35 = .ok (.aload_n 0, 1) := dk_42 (dk_at dksX8_turns_1 11 rfl rfl)
theorem dX8_turns_36 : decode cX8_turns 36 = .ok (.getfield 3, 3) := dk_180 0 3 (dk_at dksX8_turns_1 12 rfl rfl)
theorem dX8_turns_39 : decode cX8_turns 39 = .ok (.getfield 74, 3) := dk_180 0 74 (dk_at dksX8_turns_1 15 rfl rfl)
theorem dX8_turns_42 : decode cX8_turns 42 = .ok (.getfield 77, 3) := dk_180 0 77 (dk_at dksX8_turns_1 18 rfl rfl)
theorem dX8_turns_45 : decode cX8_turns 45 = .ok (.aload_n 0, 1) := dk_42 (dk_at dksX8_turns_1 21 rfl rfl)
theorem dX8_turns_46 : decode cX8_turns 46 = .ok (.getfield 18, 3) := dk_180 0 18 (dk_at dksX8_turns_2 0 rfl rfl)
theorem dX8_turns_49 : decode cX8_turns 49 = .ok (.getfield 67, 3) := dk_180 0 67 (dk_at dksX8_turns_2 3 rfl rfl)
theorem dX8_turns_52 : decode cX8_turns 52 = .ok (.iconst 1, 1) := dk_4 (dk_at dksX8_turns_2 6 rfl rfl)
theorem dX8_turns_53 : decode cX8_turns 53 = .ok (.isub, 1) := dk_100 (dk_at dksX8_turns_2 7 rfl rfl)
theorem dX8_turns_54 : decode cX8_turns 54 = .ok (.iload_n 1, 1) := dk_27 (dk_at dksX8_turns_2 8 rfl rfl)
theorem dX8_turns_55 : decode cX8_turns 55 = .ok (.isub, 1) := dk_100 (dk_at dksX8_turns_2 9 rfl rfl)
theorem dX8_turns_56 : decode cX8_turns 56 = .ok (.iaload, 1) := dk_46 (dk_at dksX8_turns_2 10 rfl rfl)
theorem dX8_turns_57 : decode cX8_turns 57 = .ok (.iastore, 1) := dk_79 (dk_at dksX8_turns_2 11 rfl rfl)
theorem dX8_turns_58 : decode cX8_turns 58 = .ok (.iinc 1 1, 3) := dk_132 1 1 (dk_at dksX8_turns_2 12 rfl rfl)
theorem dX8_turns_61 : decode cX8_turns 61 = .ok (.goto (-45), 3) := dk_167 255 211 (dk_at dksX8_turns_2 15 rfl rfl)
theorem dX8_turns_64 : decode cX8_turns 64 = .ok (.aload_n 0, 1) := dk_42 (dk_at dksX8_turns_2 18 rfl rfl)
theorem dX8_turns_65 : decode cX8_turns 65 = .ok (.aload_n 0, 1) := dk_42 (dk_at dksX8_turns_2 19 rfl rfl)
theorem dX8_turns_66 : decode cX8_turns 66 = .ok (.getfield 18, 3) := dk_180 0 18 (dk_at dksX8_turns_2 20 rfl rfl)
theorem dX8_turns_69 : decode cX8_turns 69 = .ok (.getfield 77, 3) := dk_180 0 77 (dk_at dksX8_turns_3 0 rfl rfl)
theorem dX8_turns_72 : decode cX8_turns 72 = .ok (.iconst 0, 1) := dk_3 (dk_at dksX8_turns_3 3 rfl rfl)
theorem dX8_turns_73 : decode cX8_turns 73 = .ok (.iaload, 1) := dk_46 (dk_at dksX8_turns_3 4 rfl rfl)
theorem dX8_turns_74 : decode cX8_turns 74 = .ok (.invokevirtual 92, 3) := dk_182 0 92 (dk_at dksX8_turns_3 5 rfl rfl)
theorem dX8_turns_77 : decode cX8_turns 77 = .ok (.ireturn, 1) := dk_172 (dk_at dksX8_turns_3 8 rfl rfl)
def dkwX8_clips_1 : List UInt8 := [180, 0, 137, 27, 4, 182, 0, 143, 42, 42, 182, 0, 112, 182, 0, 92, 172]
abbrev dktX8_clips_1 : List UInt8 := dkwX8_clips_1 ++ []
def dkwX8_clips_0 : List UInt8 := [27, 133, 9, 20, 0, 131, 184, 0, 70, 154, 0, 5, 4, 172, 42, 42, 180, 0, 3, 180, 0, 133, 3, 50]
abbrev dktX8_clips_0 : List UInt8 := dkwX8_clips_0 ++ dktX8_clips_1
theorem dksX8_clips_0 : cX8_clips.data.toList.drop 0 = dktX8_clips_0 := by decide +kernel
theorem dksX8_clips_1 : cX8_clips.data.toList.drop 24 = dktX8_clips_1 := dk_seg dksX8_clips_0 24 rfl rfl
theorem dX8_clips_0 : decode cX8_clips 0 = .ok (.iload_n 1, 1) := dk_27 (dk_at dksX8_clips_0 0 rfl rfl)
theorem dX8_clips_1 : decode cX8_clips 1 = .ok (.i2l, 1) := dk_133 (dk_at dksX8_clips_0 1 rfl rfl)
theorem dX8_clips_2 : decode cX8_clips 2 = .ok (.lconst 0, 1) := dk_9 (dk_at dksX8_clips_0 2 rfl rfl)
theorem dX8_clips_3 : decode cX8_clips 3 = .ok (.ldc2_w 131, 3) := dk_20 0 131 (dk_at dksX8_clips_0 3 rfl rfl)
theorem dX8_clips_6 : decode cX8_clips 6 = .ok (.invokestatic 70, 3) := dk_184 0 70 (dk_at dksX8_clips_0 6 rfl rfl)
theorem dX8_clips_9 : decode cX8_clips 9 = .ok (.ifCond .ne 5, 3) := dk_154 0 5 (dk_at dksX8_clips_0 9 rfl rfl)
theorem dX8_clips_12 : decode cX8_clips 12 = .ok (.iconst 1, 1) := dk_4 (dk_at dksX8_clips_0 12 rfl rfl)
theorem dX8_clips_13 : decode cX8_clips 13 = .ok (.ireturn, 1) := dk_172 (dk_at dksX8_clips_0 13 rfl rfl)
theorem dX8_clips_14 : decode cX8_clips 14 = .ok (.aload_n 0, 1) := dk_42 (dk_at dksX8_clips_0 14 rfl rfl)
theorem dX8_clips_15 : decode cX8_clips 15 = .ok (.aload_n 0, 1) := dk_42 (dk_at dksX8_clips_0 15 rfl rfl)
theorem dX8_clips_16 : decode cX8_clips 16 = .ok (.getfield 3, 3) := dk_180 0 3 (dk_at dksX8_clips_0 16 rfl rfl)
theorem dX8_clips_19 : decode cX8_clips 19 = .ok (.getfield 133, 3) := dk_180 0 133 (dk_at dksX8_clips_0 19 rfl rfl)
theorem dX8_clips_22 : decode cX8_clips 22 = .ok (.iconst 0, 1) := dk_3 (dk_at dksX8_clips_0 22 rfl rfl)
theorem dX8_clips_23 : decode cX8_clips 23 = .ok (.aaload, 1) := dk_50 (dk_at dksX8_clips_0 23 rfl rfl)
theorem dX8_clips_24 : decode cX8_clips 24 = .ok (.getfield 137, 3) := dk_180 0 137 (dk_at dksX8_clips_1 0 rfl rfl)
theorem dX8_clips_27 : decode cX8_clips 27 = .ok (.iload_n 1, 1) := dk_27 (dk_at dksX8_clips_1 3 rfl rfl)
theorem dX8_clips_28 : decode cX8_clips 28 = .ok (.iconst 1, 1) := dk_4 (dk_at dksX8_clips_1 4 rfl rfl)
theorem dX8_clips_29 : decode cX8_clips 29 = .ok (.invokevirtual 143, 3) := dk_182 0 143 (dk_at dksX8_clips_1 5 rfl rfl)
theorem dX8_clips_32 : decode cX8_clips 32 = .ok (.aload_n 0, 1) := dk_42 (dk_at dksX8_clips_1 8 rfl rfl)
theorem dX8_clips_33 : decode cX8_clips 33 = .ok (.aload_n 0, 1) := dk_42 (dk_at dksX8_clips_1 9 rfl rfl)
theorem dX8_clips_34 : decode cX8_clips 34 = .ok (.invokevirtual 112, 3) := dk_182 0 112 (dk_at dksX8_clips_1 10 rfl rfl)
theorem dX8_clips_37 : decode cX8_clips 37 = .ok (.invokevirtual 92, 3) := dk_182 0 92 (dk_at dksX8_clips_1 13 rfl rfl)
theorem dX8_clips_40 : decode cX8_clips 40 = .ok (.ireturn, 1) := dk_172 (dk_at dksX8_clips_1 16 rfl rfl)
def dkwX8_changes_2 : List UInt8 := [180, 0, 77, 21, 4, 46, 28, 29, 185, 0, 95, 4, 0, 79, 132, 4, 1, 167, 255, 210, 177]
abbrev dktX8_changes_2 : List UInt8 := dkwX8_changes_2 ++ []
def dkwX8_changes_1 : List UInt8 := [180, 0, 67, 162, 0, 40, 42, 180, 0, 18, 180, 0, 77, 21, 4, 43, 42, 180, 0, 3, 180, 0, 74]
abbrev dktX8_changes_1 : List UInt8 := dkwX8_changes_1 ++ dktX8_changes_2
def dkwX8_changes_0 : List UInt8 := [42, 180, 0, 3, 180, 0, 74, 42, 180, 0, 18, 182, 0, 29, 3, 54, 4, 21, 4, 42, 180, 0, 18]
abbrev dktX8_changes_0 : List UInt8 := dkwX8_changes_0 ++ dktX8_changes_1
theorem dksX8_changes_0 : cX8_changes.data.toList.drop 0 = dktX8_changes_0 := by decide +kernel
theorem dksX8_changes_1 : cX8_changes.data.toList.drop 23 = dktX8_changes_1 := dk_seg dksX8_changes_0 23 rfl rfl
theorem dksX8_changes_2 : cX8_changes.data.toList.drop 46 = dktX8_changes_2 := dk_seg dksX8_changes_1 23 rfl rfl
theorem dX8_changes_0 : decode cX8_changes 0 = .ok (.aload_n 0, 1) := dk_42 (dk_at dksX8_changes_0 0 rfl rfl)
theorem dX8_changes_1 : decode cX8_changes 1 = .ok (.getfield 3, 3) := dk_180 0 3 (dk_at dksX8_changes_0 1 rfl rfl)
theorem dX8_changes_4 : decode cX8_changes 4 = .ok (.getfield 74, 3) := dk_180 0 74 (dk_at dksX8_changes_0 4 rfl rfl)
theorem dX8_changes_7 : decode cX8_changes 7 = .ok (.aload_n 0, 1) := dk_42 (dk_at dksX8_changes_0 7 rfl rfl)
theorem dX8_changes_8 : decode cX8_changes 8 = .ok (.getfield 18, 3) := dk_180 0 18 (dk_at dksX8_changes_0 8 rfl rfl)
theorem dX8_changes_11 : decode cX8_changes 11 = .ok (.invokevirtual 29, 3) := dk_182 0 29 (dk_at dksX8_changes_0 11 rfl rfl)
theorem dX8_changes_14 : decode cX8_changes 14 = .ok (.iconst 0, 1) := dk_3 (dk_at dksX8_changes_0 14 rfl rfl)
theorem dX8_changes_15 : decode cX8_changes 15 = .ok (.istore 4, 2) := dk_54 4 (dk_at dksX8_changes_0 15 rfl rfl)
theorem dX8_changes_17 : decode cX8_changes 17 = .ok (.iload 4, 2) := dk_21 4 (dk_at dksX8_changes_0 17 rfl rfl)
theorem dX8_changes_19 : decode cX8_changes 19 = .ok (.aload_n 0, 1) := dk_42 (dk_at dksX8_changes_0 19 rfl rfl)
theorem dX8_changes_20 : decode cX8_changes 20 = .ok (.getfield 18, 3) := dk_180 0 18 (dk_at dksX8_changes_0 20 rfl rfl)
theorem dX8_changes_23 : decode cX8_changes 23 = .ok (.getfield 67, 3) := dk_180 0 67 (dk_at dksX8_changes_1 0 rfl rfl)
theorem dX8_changes_26 : decode cX8_changes 26 = .ok (.if_icmp .ge 40, 3) := dk_162 0 40 (dk_at dksX8_changes_1 3 rfl rfl)
theorem dX8_changes_29 : decode cX8_changes 29 = .ok (.aload_n 0, 1) := dk_42 (dk_at dksX8_changes_1 6 rfl rfl)
theorem dX8_changes_30 : decode cX8_changes 30 = .ok (.getfield 18, 3) := dk_180 0 18 (dk_at dksX8_changes_1 7 rfl rfl)
theorem dX8_changes_33 : decode cX8_changes 33 = .ok (.getfield 77, 3) := dk_180 0 77 (dk_at dksX8_changes_1 10 rfl rfl)
theorem dX8_changes_36 : decode cX8_changes 36 = .ok (.iload 4, 2) := dk_21 4 (dk_at dksX8_changes_1 13 rfl rfl)
theorem dX8_changes_38 : decode cX8_changes 38 = .ok (.aload_n 1, 1) := dk_43 (dk_at dksX8_changes_1 15 rfl rfl)
theorem dX8_changes_39 : decode cX8_changes 39 = .ok (.aload_n 0, 1) := dk_42 (dk_at dksX8_changes_1 16 rfl rfl)
theorem dX8_changes_40 : decode cX8_changes 40 = .ok (.getfield 3, 3) := dk_180 0 3 (dk_at dksX8_changes_1 17 rfl rfl)
theorem dX8_changes_43 : decode cX8_changes 43 = .ok (.getfield 74, 3) := dk_180 0 74 (dk_at dksX8_changes_1 20 rfl rfl)
theorem dX8_changes_46 : decode cX8_changes 46 = .ok (.getfield 77, 3) := dk_180 0 77 (dk_at dksX8_changes_2 0 rfl rfl)
theorem dX8_changes_49 : decode cX8_changes 49 = .ok (.iload 4, 2) := dk_21 4 (dk_at dksX8_changes_2 3 rfl rfl)
theorem dX8_changes_51 : decode cX8_changes 51 = .ok (.iaload, 1) := dk_46 (dk_at dksX8_changes_2 5 rfl rfl)
theorem dX8_changes_52 : decode cX8_changes 52 = .ok (.iload_n 2, 1) := dk_28 (dk_at dksX8_changes_2 6 rfl rfl)
theorem dX8_changes_53 : decode cX8_changes 53 = .ok (.iload_n 3, 1) := dk_29 (dk_at dksX8_changes_2 7 rfl rfl)
theorem dX8_changes_54 : decode cX8_changes 54 = .ok (.invokeinterface 95 4, 5) := by decide +kernel
theorem dX8_changes_59 : decode cX8_changes 59 = .ok (.iastore, 1) := dk_79 (dk_at dksX8_changes_2 13 rfl rfl)
theorem dX8_changes_60 : decode cX8_changes 60 = .ok (.iinc 4 1, 3) := dk_132 4 1 (dk_at dksX8_changes_2 14 rfl rfl)
theorem dX8_changes_63 : decode cX8_changes 63 = .ok (.goto (-46), 3) := dk_167 255 210 (dk_at dksX8_changes_2 17 rfl rfl)
theorem dX8_changes_66 : decode cX8_changes 66 = .ok (.return_, 1) := dk_177 (dk_at dksX8_changes_2 20 rfl rfl)
def dkwX8_lifts_1 : List UInt8 := [4, 50, 180, 0, 137, 27, 4, 182, 0, 143, 42, 42, 180, 0, 18, 182, 0, 149, 182, 0, 92, 172]
abbrev dktX8_lifts_1 : List UInt8 := dkwX8_lifts_1 ++ []
def dkwX8_lifts_0 : List UInt8 := [27, 133, 20, 0, 147, 20, 0, 131, 184, 0, 70, 154, 0, 5, 4, 172, 42, 42, 180, 0, 3, 180, 0, 133]
abbrev dktX8_lifts_0 : List UInt8 := dkwX8_lifts_0 ++ dktX8_lifts_1
theorem dksX8_lifts_0 : cX8_lifts.data.toList.drop 0 = dktX8_lifts_0 := by decide +kernel
theorem dksX8_lifts_1 : cX8_lifts.data.toList.drop 24 = dktX8_lifts_1 := dk_seg dksX8_lifts_0 24 rfl rfl
theorem dX8_lifts_0 : decode cX8_lifts 0 = .ok (.iload_n 1, 1) := dk_27 (dk_at dksX8_lifts_0 0 rfl rfl)
theorem dX8_lifts_1 : decode cX8_lifts 1 = .ok (.i2l, 1) := dk_133 (dk_at dksX8_lifts_0 1 rfl rfl)
theorem dX8_lifts_2 : decode cX8_lifts 2 = .ok (.ldc2_w 147, 3) := dk_20 0 147 (dk_at dksX8_lifts_0 2 rfl rfl)
theorem dX8_lifts_5 : decode cX8_lifts 5 = .ok (.ldc2_w 131, 3) := dk_20 0 131 (dk_at dksX8_lifts_0 5 rfl rfl)
theorem dX8_lifts_8 : decode cX8_lifts 8 = .ok (.invokestatic 70, 3) := dk_184 0 70 (dk_at dksX8_lifts_0 8 rfl rfl)
theorem dX8_lifts_11 : decode cX8_lifts 11 = .ok (.ifCond .ne 5, 3) := dk_154 0 5 (dk_at dksX8_lifts_0 11 rfl rfl)
theorem dX8_lifts_14 : decode cX8_lifts 14 = .ok (.iconst 1, 1) := dk_4 (dk_at dksX8_lifts_0 14 rfl rfl)
theorem dX8_lifts_15 : decode cX8_lifts 15 = .ok (.ireturn, 1) := dk_172 (dk_at dksX8_lifts_0 15 rfl rfl)
theorem dX8_lifts_16 : decode cX8_lifts 16 = .ok (.aload_n 0, 1) := dk_42 (dk_at dksX8_lifts_0 16 rfl rfl)
theorem dX8_lifts_17 : decode cX8_lifts 17 = .ok (.aload_n 0, 1) := dk_42 (dk_at dksX8_lifts_0 17 rfl rfl)
theorem dX8_lifts_18 : decode cX8_lifts 18 = .ok (.getfield 3, 3) := dk_180 0 3 (dk_at dksX8_lifts_0 18 rfl rfl)
theorem dX8_lifts_21 : decode cX8_lifts 21 = .ok (.getfield 133, 3) := dk_180 0 133 (dk_at dksX8_lifts_0 21 rfl rfl)
theorem dX8_lifts_24 : decode cX8_lifts 24 = .ok (.iconst 1, 1) := dk_4 (dk_at dksX8_lifts_1 0 rfl rfl)
theorem dX8_lifts_25 : decode cX8_lifts 25 = .ok (.aaload, 1) := dk_50 (dk_at dksX8_lifts_1 1 rfl rfl)
theorem dX8_lifts_26 : decode cX8_lifts 26 = .ok (.getfield 137, 3) := dk_180 0 137 (dk_at dksX8_lifts_1 2 rfl rfl)
theorem dX8_lifts_29 : decode cX8_lifts 29 = .ok (.iload_n 1, 1) := dk_27 (dk_at dksX8_lifts_1 5 rfl rfl)
theorem dX8_lifts_30 : decode cX8_lifts 30 = .ok (.iconst 1, 1) := dk_4 (dk_at dksX8_lifts_1 6 rfl rfl)
theorem dX8_lifts_31 : decode cX8_lifts 31 = .ok (.invokevirtual 143, 3) := dk_182 0 143 (dk_at dksX8_lifts_1 7 rfl rfl)
theorem dX8_lifts_34 : decode cX8_lifts 34 = .ok (.aload_n 0, 1) := dk_42 (dk_at dksX8_lifts_1 10 rfl rfl)
theorem dX8_lifts_35 : decode cX8_lifts 35 = .ok (.aload_n 0, 1) := dk_42 (dk_at dksX8_lifts_1 11 rfl rfl)
theorem dX8_lifts_36 : decode cX8_lifts 36 = .ok (.getfield 18, 3) := dk_180 0 18 (dk_at dksX8_lifts_1 12 rfl rfl)
theorem dX8_lifts_39 : decode cX8_lifts 39 = .ok (.invokevirtual 149, 3) := dk_182 0 149 (dk_at dksX8_lifts_1 15 rfl rfl)
theorem dX8_lifts_42 : decode cX8_lifts 42 = .ok (.invokevirtual 92, 3) := dk_182 0 92 (dk_at dksX8_lifts_1 18 rfl rfl)
theorem dX8_lifts_45 : decode cX8_lifts 45 = .ok (.ireturn, 1) := dk_172 (dk_at dksX8_lifts_1 21 rfl rfl)
def dkwX8_scales_2 : List UInt8 := [180, 0, 18, 182, 0, 154, 182, 0, 92, 172]
abbrev dktX8_scales_2 : List UInt8 := dkwX8_scales_2 ++ []
def dkwX8_scales_1 : List UInt8 := [4, 172, 42, 42, 180, 0, 3, 180, 0, 133, 5, 50, 180, 0, 137, 27, 28, 182, 0, 143, 42, 42]
abbrev dktX8_scales_1 : List UInt8 := dkwX8_scales_1 ++ dktX8_scales_2
def dkwX8_scales_0 : List UInt8 := [27, 133, 9, 20, 0, 152, 184, 0, 70, 153, 0, 15, 28, 133, 10, 20, 0, 152, 184, 0, 70, 154, 0, 5]
abbrev dktX8_scales_0 : List UInt8 := dkwX8_scales_0 ++ dktX8_scales_1
theorem dksX8_scales_0 : cX8_scales.data.toList.drop 0 = dktX8_scales_0 := by decide +kernel
theorem dksX8_scales_1 : cX8_scales.data.toList.drop 24 = dktX8_scales_1 := dk_seg dksX8_scales_0 24 rfl rfl
theorem dksX8_scales_2 : cX8_scales.data.toList.drop 46 = dktX8_scales_2 := dk_seg dksX8_scales_1 22 rfl rfl
theorem dX8_scales_0 : decode cX8_scales 0 = .ok (.iload_n 1, 1) := dk_27 (dk_at dksX8_scales_0 0 rfl rfl)
theorem dX8_scales_1 : decode cX8_scales 1 = .ok (.i2l, 1) := dk_133 (dk_at dksX8_scales_0 1 rfl rfl)
theorem dX8_scales_2 : decode cX8_scales 2 = .ok (.lconst 0, 1) := dk_9 (dk_at dksX8_scales_0 2 rfl rfl)
theorem dX8_scales_3 : decode cX8_scales 3 = .ok (.ldc2_w 152, 3) := dk_20 0 152 (dk_at dksX8_scales_0 3 rfl rfl)
theorem dX8_scales_6 : decode cX8_scales 6 = .ok (.invokestatic 70, 3) := dk_184 0 70 (dk_at dksX8_scales_0 6 rfl rfl)
theorem dX8_scales_9 : decode cX8_scales 9 = .ok (.ifCond .eq 15, 3) := dk_153 0 15 (dk_at dksX8_scales_0 9 rfl rfl)
theorem dX8_scales_12 : decode cX8_scales 12 = .ok (.iload_n 2, 1) := dk_28 (dk_at dksX8_scales_0 12 rfl rfl)
theorem dX8_scales_13 : decode cX8_scales 13 = .ok (.i2l, 1) := dk_133 (dk_at dksX8_scales_0 13 rfl rfl)
theorem dX8_scales_14 : decode cX8_scales 14 = .ok (.lconst 1, 1) := dk_10 (dk_at dksX8_scales_0 14 rfl rfl)
theorem dX8_scales_15 : decode cX8_scales 15 = .ok (.ldc2_w 152, 3) := dk_20 0 152 (dk_at dksX8_scales_0 15 rfl rfl)
theorem dX8_scales_18 : decode cX8_scales 18 = .ok (.invokestatic 70, 3) := dk_184 0 70 (dk_at dksX8_scales_0 18 rfl rfl)
theorem dX8_scales_21 : decode cX8_scales 21 = .ok (.ifCond .ne 5, 3) := dk_154 0 5 (dk_at dksX8_scales_0 21 rfl rfl)
theorem dX8_scales_24 : decode cX8_scales 24 = .ok (.iconst 1, 1) := dk_4 (dk_at dksX8_scales_1 0 rfl rfl)
theorem dX8_scales_25 : decode cX8_scales 25 = .ok (.ireturn, 1) := dk_172 (dk_at dksX8_scales_1 1 rfl rfl)
theorem dX8_scales_26 : decode cX8_scales 26 = .ok (.aload_n 0, 1) := dk_42 (dk_at dksX8_scales_1 2 rfl rfl)
theorem dX8_scales_27 : decode cX8_scales 27 = .ok (.aload_n 0, 1) := dk_42 (dk_at dksX8_scales_1 3 rfl rfl)
theorem dX8_scales_28 : decode cX8_scales 28 = .ok (.getfield 3, 3) := dk_180 0 3 (dk_at dksX8_scales_1 4 rfl rfl)
theorem dX8_scales_31 : decode cX8_scales 31 = .ok (.getfield 133, 3) := dk_180 0 133 (dk_at dksX8_scales_1 7 rfl rfl)
theorem dX8_scales_34 : decode cX8_scales 34 = .ok (.iconst 2, 1) := dk_5 (dk_at dksX8_scales_1 10 rfl rfl)
theorem dX8_scales_35 : decode cX8_scales 35 = .ok (.aaload, 1) := dk_50 (dk_at dksX8_scales_1 11 rfl rfl)
theorem dX8_scales_36 : decode cX8_scales 36 = .ok (.getfield 137, 3) := dk_180 0 137 (dk_at dksX8_scales_1 12 rfl rfl)
theorem dX8_scales_39 : decode cX8_scales 39 = .ok (.iload_n 1, 1) := dk_27 (dk_at dksX8_scales_1 15 rfl rfl)
theorem dX8_scales_40 : decode cX8_scales 40 = .ok (.iload_n 2, 1) := dk_28 (dk_at dksX8_scales_1 16 rfl rfl)
theorem dX8_scales_41 : decode cX8_scales 41 = .ok (.invokevirtual 143, 3) := dk_182 0 143 (dk_at dksX8_scales_1 17 rfl rfl)
theorem dX8_scales_44 : decode cX8_scales 44 = .ok (.aload_n 0, 1) := dk_42 (dk_at dksX8_scales_1 20 rfl rfl)
theorem dX8_scales_45 : decode cX8_scales 45 = .ok (.aload_n 0, 1) := dk_42 (dk_at dksX8_scales_1 21 rfl rfl)
theorem dX8_scales_46 : decode cX8_scales 46 = .ok (.getfield 18, 3) := dk_180 0 18 (dk_at dksX8_scales_2 0 rfl rfl)
theorem dX8_scales_49 : decode cX8_scales 49 = .ok (.invokevirtual 154, 3) := dk_182 0 154 (dk_at dksX8_scales_2 3 rfl rfl)
theorem dX8_scales_52 : decode cX8_scales 52 = .ok (.invokevirtual 92, 3) := dk_182 0 92 (dk_at dksX8_scales_2 6 rfl rfl)
theorem dX8_scales_55 : decode cX8_scales 55 = .ok (.ireturn, 1) := dk_172 (dk_at dksX8_scales_2 9 rfl rfl)
def dkwX8_sets_2 : List UInt8 := [182, 0, 92, 172]
abbrev dktX8_sets_2 : List UInt8 := dkwX8_sets_2 ++ []
def dkwX8_sets_1 : List UInt8 := [42, 180, 0, 18, 180, 0, 77, 27, 46, 62, 42, 180, 0, 18, 180, 0, 77, 27, 28, 79, 42, 29]
abbrev dktX8_sets_1 : List UInt8 := dkwX8_sets_1 ++ dktX8_sets_2
def dkwX8_sets_0 : List UInt8 := [42, 27, 182, 0, 157, 154, 0, 5, 3, 172, 28, 133, 9, 20, 0, 131, 184, 0, 70, 154, 0, 5, 4, 172]
abbrev dktX8_sets_0 : List UInt8 := dkwX8_sets_0 ++ dktX8_sets_1
theorem dksX8_sets_0 : cX8_sets.data.toList.drop 0 = dktX8_sets_0 := by decide +kernel
theorem dksX8_sets_1 : cX8_sets.data.toList.drop 24 = dktX8_sets_1 := dk_seg dksX8_sets_0 24 rfl rfl
theorem dksX8_sets_2 : cX8_sets.data.toList.drop 46 = dktX8_sets_2 := dk_seg dksX8_sets_1 22 rfl rfl
theorem dX8_sets_0 : decode cX8_sets 0 = .ok (.aload_n 0, 1) := dk_42 (dk_at dksX8_sets_0 0 rfl rfl)
theorem dX8_sets_1 : decode cX8_sets 1 = .ok (.iload_n 1, 1) := dk_27 (dk_at dksX8_sets_0 1 rfl rfl)
theorem dX8_sets_2 : decode cX8_sets 2 = .ok (.invokevirtual 157, 3) := dk_182 0 157 (dk_at dksX8_sets_0 2 rfl rfl)
theorem dX8_sets_5 : decode cX8_sets 5 = .ok (.ifCond .ne 5, 3) := dk_154 0 5 (dk_at dksX8_sets_0 5 rfl rfl)
theorem dX8_sets_8 : decode cX8_sets 8 = .ok (.iconst 0, 1) := dk_3 (dk_at dksX8_sets_0 8 rfl rfl)
theorem dX8_sets_9 : decode cX8_sets 9 = .ok (.ireturn, 1) := dk_172 (dk_at dksX8_sets_0 9 rfl rfl)
theorem dX8_sets_10 : decode cX8_sets 10 = .ok (.iload_n 2, 1) := dk_28 (dk_at dksX8_sets_0 10 rfl rfl)
theorem dX8_sets_11 : decode cX8_sets 11 = .ok (.i2l, 1) := dk_133 (dk_at dksX8_sets_0 11 rfl rfl)
theorem dX8_sets_12 : decode cX8_sets 12 = .ok (.lconst 0, 1) := dk_9 (dk_at dksX8_sets_0 12 rfl rfl)
theorem dX8_sets_13 : decode cX8_sets 13 = .ok (.ldc2_w 131, 3) := dk_20 0 131 (dk_at dksX8_sets_0 13 rfl rfl)
theorem dX8_sets_16 : decode cX8_sets 16 = .ok (.invokestatic 70, 3) := dk_184 0 70 (dk_at dksX8_sets_0 16 rfl rfl)
theorem dX8_sets_19 : decode cX8_sets 19 = .ok (.ifCond .ne 5, 3) := dk_154 0 5 (dk_at dksX8_sets_0 19 rfl rfl)
theorem dX8_sets_22 : decode cX8_sets 22 = .ok (.iconst 1, 1) := dk_4 (dk_at dksX8_sets_0 22 rfl rfl)
theorem dX8_sets_23 : decode cX8_sets 23 = .ok (.ireturn, 1) := dk_172 (dk_at dksX8_sets_0 23 rfl rfl)
theorem dX8_sets_24 : decode cX8_sets 24 = .ok (.aload_n 0, 1) := dk_42 (dk_at dksX8_sets_1 0 rfl rfl)
theorem dX8_sets_25 : decode cX8_sets 25 = .ok (.getfield 18, 3) := dk_180 0 18 (dk_at dksX8_sets_1 1 rfl rfl)
theorem dX8_sets_28 : decode cX8_sets 28 = .ok (.getfield 77, 3) := dk_180 0 77 (dk_at dksX8_sets_1 4 rfl rfl)
theorem dX8_sets_31 : decode cX8_sets 31 = .ok (.iload_n 1, 1) := dk_27 (dk_at dksX8_sets_1 7 rfl rfl)
theorem dX8_sets_32 : decode cX8_sets 32 = .ok (.iaload, 1) := dk_46 (dk_at dksX8_sets_1 8 rfl rfl)
theorem dX8_sets_33 : decode cX8_sets 33 = .ok (.istore_n 3, 1) := dk_62 (dk_at dksX8_sets_1 9 rfl rfl)
theorem dX8_sets_34 : decode cX8_sets 34 = .ok (.aload_n 0, 1) := dk_42 (dk_at dksX8_sets_1 10 rfl rfl)
theorem dX8_sets_35 : decode cX8_sets 35 = .ok (.getfield 18, 3) := dk_180 0 18 (dk_at dksX8_sets_1 11 rfl rfl)
theorem dX8_sets_38 : decode cX8_sets 38 = .ok (.getfield 77, 3) := dk_180 0 77 (dk_at dksX8_sets_1 14 rfl rfl)
theorem dX8_sets_41 : decode cX8_sets 41 = .ok (.iload_n 1, 1) := dk_27 (dk_at dksX8_sets_1 17 rfl rfl)
theorem dX8_sets_42 : decode cX8_sets 42 = .ok (.iload_n 2, 1) := dk_28 (dk_at dksX8_sets_1 18 rfl rfl)
theorem dX8_sets_43 : decode cX8_sets 43 = .ok (.iastore, 1) := dk_79 (dk_at dksX8_sets_1 19 rfl rfl)
theorem dX8_sets_44 : decode cX8_sets 44 = .ok (.aload_n 0, 1) := dk_42 (dk_at dksX8_sets_1 20 rfl rfl)
theorem dX8_sets_45 : decode cX8_sets 45 = .ok (.iload_n 3, 1) := dk_29 (dk_at dksX8_sets_1 21 rfl rfl)
theorem dX8_sets_46 : decode cX8_sets 46 = .ok (.invokevirtual 92, 3) := dk_182 0 92 (dk_at dksX8_sets_2 0 rfl rfl)
theorem dX8_sets_49 : decode cX8_sets 49 = .ok (.ireturn, 1) := dk_172 (dk_at dksX8_sets_2 3 rfl rfl)
def dkwX8_isPlace_0 : List UInt8 := [27, 133, 9, 42, 180, 0, 18, 180, 0, 67, 4, 100, 133, 184, 0, 70, 172]
abbrev dktX8_isPlace_0 : List UInt8 := dkwX8_isPlace_0 ++ []
theorem dksX8_isPlace_0 : cX8_isPlace.data.toList.drop 0 = dktX8_isPlace_0 := by decide +kernel
theorem dX8_isPlace_0 : decode cX8_isPlace 0 = .ok (.iload_n 1, 1) := dk_27 (dk_at dksX8_isPlace_0 0 rfl rfl)
theorem dX8_isPlace_1 : decode cX8_isPlace 1 = .ok (.i2l, 1) := dk_133 (dk_at dksX8_isPlace_0 1 rfl rfl)
theorem dX8_isPlace_2 : decode cX8_isPlace 2 = .ok (.lconst 0, 1) := dk_9 (dk_at dksX8_isPlace_0 2 rfl rfl)
theorem dX8_isPlace_3 : decode cX8_isPlace 3 = .ok (.aload_n 0, 1) := dk_42 (dk_at dksX8_isPlace_0 3 rfl rfl)
theorem dX8_isPlace_4 : decode cX8_isPlace 4 = .ok (.getfield 18, 3) := dk_180 0 18 (dk_at dksX8_isPlace_0 4 rfl rfl)
theorem dX8_isPlace_7 : decode cX8_isPlace 7 = .ok (.getfield 67, 3) := dk_180 0 67 (dk_at dksX8_isPlace_0 7 rfl rfl)
theorem dX8_isPlace_10 : decode cX8_isPlace 10 = .ok (.iconst 1, 1) := dk_4 (dk_at dksX8_isPlace_0 10 rfl rfl)
theorem dX8_isPlace_11 : decode cX8_isPlace 11 = .ok (.isub, 1) := dk_100 (dk_at dksX8_isPlace_0 11 rfl rfl)
theorem dX8_isPlace_12 : decode cX8_isPlace 12 = .ok (.i2l, 1) := dk_133 (dk_at dksX8_isPlace_0 12 rfl rfl)
theorem dX8_isPlace_13 : decode cX8_isPlace 13 = .ok (.invokestatic 70, 3) := dk_184 0 70 (dk_at dksX8_isPlace_0 13 rfl rfl)
theorem dX8_isPlace_16 : decode cX8_isPlace 16 = .ok (.ireturn, 1) := dk_172 (dk_at dksX8_isPlace_0 16 rfl rfl)
def dkwX8_hushes_1 : List UInt8 := [42, 28, 182, 0, 92, 172]
abbrev dktX8_hushes_1 : List UInt8 := dkwX8_hushes_1 ++ []
def dkwX8_hushes_0 : List UInt8 := [27, 133, 9, 20, 0, 131, 184, 0, 70, 154, 0, 5, 4, 172, 42, 180, 0, 37, 61, 42, 27, 181, 0, 37]
abbrev dktX8_hushes_0 : List UInt8 := dkwX8_hushes_0 ++ dktX8_hushes_1
theorem dksX8_hushes_0 : cX8_hushes.data.toList.drop 0 = dktX8_hushes_0 := by decide +kernel
theorem dksX8_hushes_1 : cX8_hushes.data.toList.drop 24 = dktX8_hushes_1 := dk_seg dksX8_hushes_0 24 rfl rfl
theorem dX8_hushes_0 : decode cX8_hushes 0 = .ok (.iload_n 1, 1) := dk_27 (dk_at dksX8_hushes_0 0 rfl rfl)
theorem dX8_hushes_1 : decode cX8_hushes 1 = .ok (.i2l, 1) := dk_133 (dk_at dksX8_hushes_0 1 rfl rfl)
theorem dX8_hushes_2 : decode cX8_hushes 2 = .ok (.lconst 0, 1) := dk_9 (dk_at dksX8_hushes_0 2 rfl rfl)
theorem dX8_hushes_3 : decode cX8_hushes 3 = .ok (.ldc2_w 131, 3) := dk_20 0 131 (dk_at dksX8_hushes_0 3 rfl rfl)
theorem dX8_hushes_6 : decode cX8_hushes 6 = .ok (.invokestatic 70, 3) := dk_184 0 70 (dk_at dksX8_hushes_0 6 rfl rfl)
theorem dX8_hushes_9 : decode cX8_hushes 9 = .ok (.ifCond .ne 5, 3) := dk_154 0 5 (dk_at dksX8_hushes_0 9 rfl rfl)
theorem dX8_hushes_12 : decode cX8_hushes 12 = .ok (.iconst 1, 1) := dk_4 (dk_at dksX8_hushes_0 12 rfl rfl)
theorem dX8_hushes_13 : decode cX8_hushes 13 = .ok (.ireturn, 1) := dk_172 (dk_at dksX8_hushes_0 13 rfl rfl)
theorem dX8_hushes_14 : decode cX8_hushes 14 = .ok (.aload_n 0, 1) := dk_42 (dk_at dksX8_hushes_0 14 rfl rfl)
theorem dX8_hushes_15 : decode cX8_hushes 15 = .ok (.getfield 37, 3) := dk_180 0 37 (dk_at dksX8_hushes_0 15 rfl rfl)
theorem dX8_hushes_18 : decode cX8_hushes 18 = .ok (.istore_n 2, 1) := dk_61 (dk_at dksX8_hushes_0 18 rfl rfl)
theorem dX8_hushes_19 : decode cX8_hushes 19 = .ok (.aload_n 0, 1) := dk_42 (dk_at dksX8_hushes_0 19 rfl rfl)
theorem dX8_hushes_20 : decode cX8_hushes 20 = .ok (.iload_n 1, 1) := dk_27 (dk_at dksX8_hushes_0 20 rfl rfl)
theorem dX8_hushes_21 : decode cX8_hushes 21 = .ok (.putfield 37, 3) := dk_181 0 37 (dk_at dksX8_hushes_0 21 rfl rfl)
theorem dX8_hushes_24 : decode cX8_hushes 24 = .ok (.aload_n 0, 1) := dk_42 (dk_at dksX8_hushes_1 0 rfl rfl)
theorem dX8_hushes_25 : decode cX8_hushes 25 = .ok (.iload_n 2, 1) := dk_28 (dk_at dksX8_hushes_1 1 rfl rfl)
theorem dX8_hushes_26 : decode cX8_hushes 26 = .ok (.invokevirtual 92, 3) := dk_182 0 92 (dk_at dksX8_hushes_1 2 rfl rfl)
theorem dX8_hushes_29 : decode cX8_hushes 29 = .ok (.ireturn, 1) := dk_172 (dk_at dksX8_hushes_1 5 rfl rfl)
def dkwX8_cuts_4 : List UInt8 := [180, 0, 74, 180, 0, 67, 28, 100, 182, 0, 92, 172]
abbrev dktX8_cuts_4 : List UInt8 := dkwX8_cuts_4 ++ []
def dkwX8_cuts_3 : List UInt8 := [180, 0, 74, 180, 0, 77, 29, 46, 182, 0, 161, 132, 3, 1, 167, 255, 227, 42, 42, 180, 0, 3]
abbrev dktX8_cuts_3 : List UInt8 := dkwX8_cuts_3 ++ dktX8_cuts_4
def dkwX8_cuts_2 : List UInt8 := [180, 0, 18, 3, 181, 0, 67, 27, 62, 29, 27, 28, 96, 162, 0, 28, 42, 180, 0, 18, 42, 180, 0, 3]
abbrev dktX8_cuts_2 : List UInt8 := dkwX8_cuts_2 ++ dktX8_cuts_3
def dkwX8_cuts_1 : List UInt8 := [184, 0, 70, 154, 0, 5, 4, 172, 42, 180, 0, 3, 180, 0, 74, 42, 180, 0, 18, 182, 0, 29, 42]
abbrev dktX8_cuts_1 : List UInt8 := dkwX8_cuts_1 ++ dktX8_cuts_2
def dkwX8_cuts_0 : List UInt8 := [42, 27, 182, 0, 157, 154, 0, 5, 3, 172, 28, 133, 10, 42, 180, 0, 18, 180, 0, 67, 27, 100, 133]
abbrev dktX8_cuts_0 : List UInt8 := dkwX8_cuts_0 ++ dktX8_cuts_1
theorem dksX8_cuts_0 : cX8_cuts.data.toList.drop 0 = dktX8_cuts_0 := by decide +kernel
theorem dksX8_cuts_1 : cX8_cuts.data.toList.drop 23 = dktX8_cuts_1 := dk_seg dksX8_cuts_0 23 rfl rfl
theorem dksX8_cuts_2 : cX8_cuts.data.toList.drop 46 = dktX8_cuts_2 := dk_seg dksX8_cuts_1 23 rfl rfl
theorem dksX8_cuts_3 : cX8_cuts.data.toList.drop 70 = dktX8_cuts_3 := dk_seg dksX8_cuts_2 24 rfl rfl
theorem dksX8_cuts_4 : cX8_cuts.data.toList.drop 92 = dktX8_cuts_4 := dk_seg dksX8_cuts_3 22 rfl rfl
theorem dX8_cuts_0 : decode cX8_cuts 0 = .ok (.aload_n 0, 1) := dk_42 (dk_at dksX8_cuts_0 0 rfl rfl)
theorem dX8_cuts_1 : decode cX8_cuts 1 = .ok (.iload_n 1, 1) := dk_27 (dk_at dksX8_cuts_0 1 rfl rfl)
theorem dX8_cuts_2 : decode cX8_cuts 2 = .ok (.invokevirtual 157, 3) := dk_182 0 157 (dk_at dksX8_cuts_0 2 rfl rfl)
theorem dX8_cuts_5 : decode cX8_cuts 5 = .ok (.ifCond .ne 5, 3) := dk_154 0 5 (dk_at dksX8_cuts_0 5 rfl rfl)
theorem dX8_cuts_8 : decode cX8_cuts 8 = .ok (.iconst 0, 1) := dk_3 (dk_at dksX8_cuts_0 8 rfl rfl)
theorem dX8_cuts_9 : decode cX8_cuts 9 = .ok (.ireturn, 1) := dk_172 (dk_at dksX8_cuts_0 9 rfl rfl)
theorem dX8_cuts_10 : decode cX8_cuts 10 = .ok (.iload_n 2, 1) := dk_28 (dk_at dksX8_cuts_0 10 rfl rfl)
theorem dX8_cuts_11 : decode cX8_cuts 11 = .ok (.i2l, 1) := dk_133 (dk_at dksX8_cuts_0 11 rfl rfl)
theorem dX8_cuts_12 : decode cX8_cuts 12 = .ok (.lconst 1, 1) := dk_10 (dk_at dksX8_cuts_0 12 rfl rfl)
theorem dX8_cuts_13 : decode cX8_cuts 13 = .ok (.aload_n 0, 1) := dk_42 (dk_at dksX8_cuts_0 13 rfl rfl)
theorem dX8_cuts_14 : decode cX8_cuts 14 = .ok (.getfield 18, 3) := dk_180 0 18 (dk_at dksX8_cuts_0 14 rfl rfl)
theorem dX8_cuts_17 : decode cX8_cuts 17 = .ok (.getfield 67, 3) := dk_180 0 67 (dk_at dksX8_cuts_0 17 rfl rfl)
theorem dX8_cuts_20 : decode cX8_cuts 20 = .ok (.iload_n 1, 1) := dk_27 (dk_at dksX8_cuts_0 20 rfl rfl)
theorem dX8_cuts_21 : decode cX8_cuts 21 = .ok (.isub, 1) := dk_100 (dk_at dksX8_cuts_0 21 rfl rfl)
theorem dX8_cuts_22 : decode cX8_cuts 22 = .ok (.i2l, 1) := dk_133 (dk_at dksX8_cuts_0 22 rfl rfl)
theorem dX8_cuts_23 : decode cX8_cuts 23 = .ok (.invokestatic 70, 3) := dk_184 0 70 (dk_at dksX8_cuts_1 0 rfl rfl)
theorem dX8_cuts_26 : decode cX8_cuts 26 = .ok (.ifCond .ne 5, 3) := dk_154 0 5 (dk_at dksX8_cuts_1 3 rfl rfl)
theorem dX8_cuts_29 : decode cX8_cuts 29 = .ok (.iconst 1, 1) := dk_4 (dk_at dksX8_cuts_1 6 rfl rfl)
theorem dX8_cuts_30 : decode cX8_cuts 30 = .ok (.ireturn, 1) := dk_172 (dk_at dksX8_cuts_1 7 rfl rfl)
theorem dX8_cuts_31 : decode cX8_cuts 31 = .ok (.aload_n 0, 1) := dk_42 (dk_at dksX8_cuts_1 8 rfl rfl)
theorem dX8_cuts_32 : decode cX8_cuts 32 = .ok (.getfield 3, 3) := dk_180 0 3 (dk_at dksX8_cuts_1 9 rfl rfl)
theorem dX8_cuts_35 : decode cX8_cuts 35 = .ok (.getfield 74, 3) := dk_180 0 74 (dk_at dksX8_cuts_1 12 rfl rfl)
theorem dX8_cuts_38 : decode cX8_cuts 38 = .ok (.aload_n 0, 1) := dk_42 (dk_at dksX8_cuts_1 15 rfl rfl)
theorem dX8_cuts_39 : decode cX8_cuts 39 = .ok (.getfield 18, 3) := dk_180 0 18 (dk_at dksX8_cuts_1 16 rfl rfl)
theorem dX8_cuts_42 : decode cX8_cuts 42 = .ok (.invokevirtual 29, 3) := dk_182 0 29 (dk_at dksX8_cuts_1 19 rfl rfl)
theorem dX8_cuts_45 : decode cX8_cuts 45 = .ok (.aload_n 0, 1) := dk_42 (dk_at dksX8_cuts_1 22 rfl rfl)
theorem dX8_cuts_46 : decode cX8_cuts 46 = .ok (.getfield 18, 3) := dk_180 0 18 (dk_at dksX8_cuts_2 0 rfl rfl)
theorem dX8_cuts_49 : decode cX8_cuts 49 = .ok (.iconst 0, 1) := dk_3 (dk_at dksX8_cuts_2 3 rfl rfl)
theorem dX8_cuts_50 : decode cX8_cuts 50 = .ok (.putfield 67, 3) := dk_181 0 67 (dk_at dksX8_cuts_2 4 rfl rfl)
theorem dX8_cuts_53 : decode cX8_cuts 53 = .ok (.iload_n 1, 1) := dk_27 (dk_at dksX8_cuts_2 7 rfl rfl)
theorem dX8_cuts_54 : decode cX8_cuts 54 = .ok (.istore_n 3, 1) := dk_62 (dk_at dksX8_cuts_2 8 rfl rfl)
theorem dX8_cuts_55 : decode cX8_cuts 55 = .ok (.iload_n 3, 1) := dk_29 (dk_at dksX8_cuts_2 9 rfl rfl)
theorem dX8_cuts_56 : decode cX8_cuts 56 = .ok (.iload_n 1, 1) := dk_27 (dk_at dksX8_cuts_2 10 rfl rfl)
theorem dX8_cuts_57 : decode cX8_cuts 57 = .ok (.iload_n 2, 1) := dk_28 (dk_at dksX8_cuts_2 11 rfl rfl)
theorem dX8_cuts_58 : decode cX8_cuts 58 = .ok (.iadd, 1) := dk_96 (dk_at dksX8_cuts_2 12 rfl rfl)
theorem dX8_cuts_59 : decode cX8_cuts 59 = .ok (.if_icmp .ge 28, 3) := dk_162 0 28 (dk_at dksX8_cuts_2 13 rfl rfl)
theorem dX8_cuts_62 : decode cX8_cuts 62 = .ok (.aload_n 0, 1) := dk_42 (dk_at dksX8_cuts_2 16 rfl rfl)
theorem dX8_cuts_63 : decode cX8_cuts 63 = .ok (.getfield 18, 3) := dk_180 0 18 (dk_at dksX8_cuts_2 17 rfl rfl)
theorem dX8_cuts_66 : decode cX8_cuts 66 = .ok (.aload_n 0, 1) := dk_42 (dk_at dksX8_cuts_2 20 rfl rfl)
theorem dX8_cuts_67 : decode cX8_cuts 67 = .ok (.getfield 3, 3) := dk_180 0 3 (dk_at dksX8_cuts_2 21 rfl rfl)
theorem dX8_cuts_70 : decode cX8_cuts 70 = .ok (.getfield 74, 3) := dk_180 0 74 (dk_at dksX8_cuts_3 0 rfl rfl)
theorem dX8_cuts_73 : decode cX8_cuts 73 = .ok (.getfield 77, 3) := dk_180 0 77 (dk_at dksX8_cuts_3 3 rfl rfl)
theorem dX8_cuts_76 : decode cX8_cuts 76 = .ok (.iload_n 3, 1) := dk_29 (dk_at dksX8_cuts_3 6 rfl rfl)
theorem dX8_cuts_77 : decode cX8_cuts 77 = .ok (.iaload, 1) := dk_46 (dk_at dksX8_cuts_3 7 rfl rfl)
theorem dX8_cuts_78 : decode cX8_cuts 78 = .ok (.invokevirtual 161, 3) := dk_182 0 161 (dk_at dksX8_cuts_3 8 rfl rfl)
theorem dX8_cuts_81 : decode cX8_cuts 81 = .ok (.iinc 3 1, 3) := dk_132 3 1 (dk_at dksX8_cuts_3 11 rfl rfl)
theorem dX8_cuts_84 : decode cX8_cuts 84 = .ok (.goto (-29), 3) := dk_167 255 227 (dk_at dksX8_cuts_3 14 rfl rfl)
theorem dX8_cuts_87 : decode cX8_cuts 87 = .ok (.aload_n 0, 1) := dk_42 (dk_at dksX8_cuts_3 17 rfl rfl)
theorem dX8_cuts_88 : decode cX8_cuts 88 = .ok (.aload_n 0, 1) := dk_42 (dk_at dksX8_cuts_3 18 rfl rfl)
theorem dX8_cuts_89 : decode cX8_cuts 89 = .ok (.getfield 3, 3) := dk_180 0 3 (dk_at dksX8_cuts_3 19 rfl rfl)
theorem dX8_cuts_92 : decode cX8_cuts 92 = .ok (.getfield 74, 3) := dk_180 0 74 (dk_at dksX8_cuts_4 0 rfl rfl)
theorem dX8_cuts_95 : decode cX8_cuts 95 = .ok (.getfield 67, 3) := dk_180 0 67 (dk_at dksX8_cuts_4 3 rfl rfl)
theorem dX8_cuts_98 : decode cX8_cuts 98 = .ok (.iload_n 2, 1) := dk_28 (dk_at dksX8_cuts_4 6 rfl rfl)
theorem dX8_cuts_99 : decode cX8_cuts 99 = .ok (.isub, 1) := dk_100 (dk_at dksX8_cuts_4 7 rfl rfl)
theorem dX8_cuts_100 : decode cX8_cuts 100 = .ok (.invokevirtual 92, 3) := dk_182 0 92 (dk_at dksX8_cuts_4 8 rfl rfl)
theorem dX8_cuts_103 : decode cX8_cuts 103 = .ok (.ireturn, 1) := dk_172 (dk_at dksX8_cuts_4 11 rfl rfl)
def dkwX8_notes_3 : List UInt8 := [104, 5, 96, 29, 79, 42, 89, 180, 0, 38, 4, 96, 181, 0, 38, 177]
abbrev dktX8_notes_3 : List UInt8 := dkwX8_notes_3 ++ []
def dkwX8_notes_2 : List UInt8 := [79, 42, 180, 0, 22, 6, 42, 180, 0, 38, 104, 4, 96, 28, 79, 42, 180, 0, 22, 6, 42, 180, 0, 38]
abbrev dktX8_notes_2 : List UInt8 := dkwX8_notes_2 ++ dktX8_notes_3
def dkwX8_notes_1 : List UInt8 := [184, 0, 45, 42, 89, 180, 0, 38, 4, 100, 181, 0, 38, 42, 180, 0, 22, 6, 42, 180, 0, 38, 104, 27]
abbrev dktX8_notes_1 : List UInt8 := dkwX8_notes_1 ++ dktX8_notes_2
def dkwX8_notes_0 : List UInt8 := [42, 180, 0, 38, 16, 60, 160, 0, 29, 42, 180, 0, 22, 6, 42, 180, 0, 22, 3, 17, 0, 177]
abbrev dktX8_notes_0 : List UInt8 := dkwX8_notes_0 ++ dktX8_notes_1
theorem dksX8_notes_0 : cX8_notes.data.toList.drop 0 = dktX8_notes_0 := by decide +kernel
theorem dksX8_notes_1 : cX8_notes.data.toList.drop 22 = dktX8_notes_1 := dk_seg dksX8_notes_0 22 rfl rfl
theorem dksX8_notes_2 : cX8_notes.data.toList.drop 46 = dktX8_notes_2 := dk_seg dksX8_notes_1 24 rfl rfl
theorem dksX8_notes_3 : cX8_notes.data.toList.drop 70 = dktX8_notes_3 := dk_seg dksX8_notes_2 24 rfl rfl
theorem dX8_notes_0 : decode cX8_notes 0 = .ok (.aload_n 0, 1) := dk_42 (dk_at dksX8_notes_0 0 rfl rfl)
theorem dX8_notes_1 : decode cX8_notes 1 = .ok (.getfield 38, 3) := dk_180 0 38 (dk_at dksX8_notes_0 1 rfl rfl)
theorem dX8_notes_4 : decode cX8_notes 4 = .ok (.bipush 60, 2) := dk_16 60 (dk_at dksX8_notes_0 4 rfl rfl)
theorem dX8_notes_6 : decode cX8_notes 6 = .ok (.if_icmp .ne 29, 3) := dk_160 0 29 (dk_at dksX8_notes_0 6 rfl rfl)
theorem dX8_notes_9 : decode cX8_notes 9 = .ok (.aload_n 0, 1) := dk_42 (dk_at dksX8_notes_0 9 rfl rfl)
theorem dX8_notes_10 : decode cX8_notes 10 = .ok (.getfield 22, 3) := dk_180 0 22 (dk_at dksX8_notes_0 10 rfl rfl)
theorem dX8_notes_13 : decode cX8_notes 13 = .ok (.iconst 3, 1) := dk_6 (dk_at dksX8_notes_0 13 rfl rfl)
theorem dX8_notes_14 : decode cX8_notes 14 = .ok (.aload_n 0, 1) := dk_42 (dk_at dksX8_notes_0 14 rfl rfl)
theorem dX8_notes_15 : decode cX8_notes 15 = .ok (.getfield 22, 3) := dk_180 0 22 (dk_at dksX8_notes_0 15 rfl rfl)
theorem dX8_notes_18 : decode cX8_notes 18 = .ok (.iconst 0, 1) := dk_3 (dk_at dksX8_notes_0 18 rfl rfl)
theorem dX8_notes_19 : decode cX8_notes 19 = .ok (.sipush 177, 3) := dk_17 0 177 (dk_at dksX8_notes_0 19 rfl rfl)
theorem dX8_notes_22 : decode cX8_notes 22 = .ok (.invokestatic 45, 3) := dk_184 0 45 (dk_at dksX8_notes_1 0 rfl rfl)
theorem dX8_notes_25 : decode cX8_notes 25 = .ok (.aload_n 0, 1) := dk_42 (dk_at dksX8_notes_1 3 rfl rfl)
theorem dX8_notes_26 : decode cX8_notes 26 = .ok (.dup, 1) := dk_89 (dk_at dksX8_notes_1 4 rfl rfl)
theorem dX8_notes_27 : decode cX8_notes 27 = .ok (.getfield 38, 3) := dk_180 0 38 (dk_at dksX8_notes_1 5 rfl rfl)
theorem dX8_notes_30 : decode cX8_notes 30 = .ok (.iconst 1, 1) := dk_4 (dk_at dksX8_notes_1 8 rfl rfl)
theorem dX8_notes_31 : decode cX8_notes 31 = .ok (.isub, 1) := dk_100 (dk_at dksX8_notes_1 9 rfl rfl)
theorem dX8_notes_32 : decode cX8_notes 32 = .ok (.putfield 38, 3) := dk_181 0 38 (dk_at dksX8_notes_1 10 rfl rfl)
theorem dX8_notes_35 : decode cX8_notes 35 = .ok (.aload_n 0, 1) := dk_42 (dk_at dksX8_notes_1 13 rfl rfl)
theorem dX8_notes_36 : decode cX8_notes 36 = .ok (.getfield 22, 3) := dk_180 0 22 (dk_at dksX8_notes_1 14 rfl rfl)
theorem dX8_notes_39 : decode cX8_notes 39 = .ok (.iconst 3, 1) := dk_6 (dk_at dksX8_notes_1 17 rfl rfl)
theorem dX8_notes_40 : decode cX8_notes 40 = .ok (.aload_n 0, 1) := dk_42 (dk_at dksX8_notes_1 18 rfl rfl)
theorem dX8_notes_41 : decode cX8_notes 41 = .ok (.getfield 38, 3) := dk_180 0 38 (dk_at dksX8_notes_1 19 rfl rfl)
theorem dX8_notes_44 : decode cX8_notes 44 = .ok (.imul, 1) := dk_104 (dk_at dksX8_notes_1 22 rfl rfl)
theorem dX8_notes_45 : decode cX8_notes 45 = .ok (.iload_n 1, 1) := dk_27 (dk_at dksX8_notes_1 23 rfl rfl)
theorem dX8_notes_46 : decode cX8_notes 46 = .ok (.iastore, 1) := dk_79 (dk_at dksX8_notes_2 0 rfl rfl)
theorem dX8_notes_47 : decode cX8_notes 47 = .ok (.aload_n 0, 1) := dk_42 (dk_at dksX8_notes_2 1 rfl rfl)
theorem dX8_notes_48 : decode cX8_notes 48 = .ok (.getfield 22, 3) := dk_180 0 22 (dk_at dksX8_notes_2 2 rfl rfl)
theorem dX8_notes_51 : decode cX8_notes 51 = .ok (.iconst 3, 1) := dk_6 (dk_at dksX8_notes_2 5 rfl rfl)
theorem dX8_notes_52 : decode cX8_notes 52 = .ok (.aload_n 0, 1) := dk_42 (dk_at dksX8_notes_2 6 rfl rfl)
theorem dX8_notes_53 : decode cX8_notes 53 = .ok (.getfield 38, 3) := dk_180 0 38 (dk_at dksX8_notes_2 7 rfl rfl)
theorem dX8_notes_56 : decode cX8_notes 56 = .ok (.imul, 1) := dk_104 (dk_at dksX8_notes_2 10 rfl rfl)
theorem dX8_notes_57 : decode cX8_notes 57 = .ok (.iconst 1, 1) := dk_4 (dk_at dksX8_notes_2 11 rfl rfl)
theorem dX8_notes_58 : decode cX8_notes 58 = .ok (.iadd, 1) := dk_96 (dk_at dksX8_notes_2 12 rfl rfl)
theorem dX8_notes_59 : decode cX8_notes 59 = .ok (.iload_n 2, 1) := dk_28 (dk_at dksX8_notes_2 13 rfl rfl)
theorem dX8_notes_60 : decode cX8_notes 60 = .ok (.iastore, 1) := dk_79 (dk_at dksX8_notes_2 14 rfl rfl)
theorem dX8_notes_61 : decode cX8_notes 61 = .ok (.aload_n 0, 1) := dk_42 (dk_at dksX8_notes_2 15 rfl rfl)
theorem dX8_notes_62 : decode cX8_notes 62 = .ok (.getfield 22, 3) := dk_180 0 22 (dk_at dksX8_notes_2 16 rfl rfl)
theorem dX8_notes_65 : decode cX8_notes 65 = .ok (.iconst 3, 1) := dk_6 (dk_at dksX8_notes_2 19 rfl rfl)
theorem dX8_notes_66 : decode cX8_notes 66 = .ok (.aload_n 0, 1) := dk_42 (dk_at dksX8_notes_2 20 rfl rfl)
theorem dX8_notes_67 : decode cX8_notes 67 = .ok (.getfield 38, 3) := dk_180 0 38 (dk_at dksX8_notes_2 21 rfl rfl)
theorem dX8_notes_70 : decode cX8_notes 70 = .ok (.imul, 1) := dk_104 (dk_at dksX8_notes_3 0 rfl rfl)
theorem dX8_notes_71 : decode cX8_notes 71 = .ok (.iconst 2, 1) := dk_5 (dk_at dksX8_notes_3 1 rfl rfl)
theorem dX8_notes_72 : decode cX8_notes 72 = .ok (.iadd, 1) := dk_96 (dk_at dksX8_notes_3 2 rfl rfl)
theorem dX8_notes_73 : decode cX8_notes 73 = .ok (.iload_n 3, 1) := dk_29 (dk_at dksX8_notes_3 3 rfl rfl)
theorem dX8_notes_74 : decode cX8_notes 74 = .ok (.iastore, 1) := dk_79 (dk_at dksX8_notes_3 4 rfl rfl)
theorem dX8_notes_75 : decode cX8_notes 75 = .ok (.aload_n 0, 1) := dk_42 (dk_at dksX8_notes_3 5 rfl rfl)
theorem dX8_notes_76 : decode cX8_notes 76 = .ok (.dup, 1) := dk_89 (dk_at dksX8_notes_3 6 rfl rfl)
theorem dX8_notes_77 : decode cX8_notes 77 = .ok (.getfield 38, 3) := dk_180 0 38 (dk_at dksX8_notes_3 7 rfl rfl)
theorem dX8_notes_80 : decode cX8_notes 80 = .ok (.iconst 1, 1) := dk_4 (dk_at dksX8_notes_3 10 rfl rfl)
theorem dX8_notes_81 : decode cX8_notes 81 = .ok (.iadd, 1) := dk_96 (dk_at dksX8_notes_3 11 rfl rfl)
theorem dX8_notes_82 : decode cX8_notes 82 = .ok (.putfield 38, 3) := dk_181 0 38 (dk_at dksX8_notes_3 12 rfl rfl)
theorem dX8_notes_85 : decode cX8_notes 85 = .ok (.return_, 1) := dk_177 (dk_at dksX8_notes_3 15 rfl rfl)
def dkwX10_init_0 : List UInt8 := [42, 43, 181, 0, 3, 42, 183, 0, 9, 177]
abbrev dktX10_init_0 : List UInt8 := dkwX10_init_0 ++ []
theorem dksX10_init_0 : cX10_init.data.toList.drop 0 = dktX10_init_0 := by decide +kernel
theorem dX10_init_0 : decode cX10_init 0 = .ok (.aload_n 0, 1) := dk_42 (dk_at dksX10_init_0 0 rfl rfl)
theorem dX10_init_1 : decode cX10_init 1 = .ok (.aload_n 1, 1) := dk_43 (dk_at dksX10_init_0 1 rfl rfl)
theorem dX10_init_2 : decode cX10_init 2 = .ok (.putfield 3, 3) := dk_181 0 3 (dk_at dksX10_init_0 2 rfl rfl)
theorem dX10_init_5 : decode cX10_init 5 = .ok (.aload_n 0, 1) := dk_42 (dk_at dksX10_init_0 5 rfl rfl)
theorem dX10_init_6 : decode cX10_init 6 = .ok (.invokespecial 9, 3) := dk_183 0 9 (dk_at dksX10_init_0 6 rfl rfl)
theorem dX10_init_9 : decode cX10_init 9 = .ok (.return_, 1) := dk_177 (dk_at dksX10_init_0 9 rfl rfl)
def dkwX10_trace_1 : List UInt8 := [43, 180, 0, 115, 180, 0, 64, 154, 0, 15, 187, 0, 50, 89, 42, 180, 0, 15, 183, 0, 52, 191, 43, 176]
abbrev dktX10_trace_1 : List UInt8 := dkwX10_trace_1 ++ []
def dkwX10_trace_0 : List UInt8 := [187, 0, 78, 89, 183, 0, 129, 76, 3, 61, 42, 43, 28, 182, 0, 130, 61, 42, 182, 0, 134, 154, 255, 245]
abbrev dktX10_trace_0 : List UInt8 := dkwX10_trace_0 ++ dktX10_trace_1
theorem dksX10_trace_0 : cX10_trace.data.toList.drop 0 = dktX10_trace_0 := by decide +kernel
theorem dksX10_trace_1 : cX10_trace.data.toList.drop 24 = dktX10_trace_1 := dk_seg dksX10_trace_0 24 rfl rfl
theorem dX10_trace_0 : decode cX10_trace 0 = .ok (.new 78, 3) := dk_187 0 78 (dk_at dksX10_trace_0 0 rfl rfl)
theorem dX10_trace_3 : decode cX10_trace 3 = .ok (.dup, 1) := dk_89 (dk_at dksX10_trace_0 3 rfl rfl)
theorem dX10_trace_4 : decode cX10_trace 4 = .ok (.invokespecial 129, 3) := dk_183 0 129 (dk_at dksX10_trace_0 4 rfl rfl)
theorem dX10_trace_7 : decode cX10_trace 7 = .ok (.astore_n 1, 1) := dk_76 (dk_at dksX10_trace_0 7 rfl rfl)
theorem dX10_trace_8 : decode cX10_trace 8 = .ok (.iconst 0, 1) := dk_3 (dk_at dksX10_trace_0 8 rfl rfl)
theorem dX10_trace_9 : decode cX10_trace 9 = .ok (.istore_n 2, 1) := dk_61 (dk_at dksX10_trace_0 9 rfl rfl)
theorem dX10_trace_10 : decode cX10_trace 10 = .ok (.aload_n 0, 1) := dk_42 (dk_at dksX10_trace_0 10 rfl rfl)
theorem dX10_trace_11 : decode cX10_trace 11 = .ok (.aload_n 1, 1) := dk_43 (dk_at dksX10_trace_0 11 rfl rfl)
theorem dX10_trace_12 : decode cX10_trace 12 = .ok (.iload_n 2, 1) := dk_28 (dk_at dksX10_trace_0 12 rfl rfl)
theorem dX10_trace_13 : decode cX10_trace 13 = .ok (.invokevirtual 130, 3) := dk_182 0 130 (dk_at dksX10_trace_0 13 rfl rfl)
theorem dX10_trace_16 : decode cX10_trace 16 = .ok (.istore_n 2, 1) := dk_61 (dk_at dksX10_trace_0 16 rfl rfl)
theorem dX10_trace_17 : decode cX10_trace 17 = .ok (.aload_n 0, 1) := dk_42 (dk_at dksX10_trace_0 17 rfl rfl)
theorem dX10_trace_18 : decode cX10_trace 18 = .ok (.invokevirtual 134, 3) := dk_182 0 134 (dk_at dksX10_trace_0 18 rfl rfl)
theorem dX10_trace_21 : decode cX10_trace 21 = .ok (.ifCond .ne (-11), 3) := dk_154 255 245 (dk_at dksX10_trace_0 21 rfl rfl)
theorem dX10_trace_24 : decode cX10_trace 24 = .ok (.aload_n 1, 1) := dk_43 (dk_at dksX10_trace_1 0 rfl rfl)
theorem dX10_trace_25 : decode cX10_trace 25 = .ok (.getfield 115, 3) := dk_180 0 115 (dk_at dksX10_trace_1 1 rfl rfl)
theorem dX10_trace_28 : decode cX10_trace 28 = .ok (.getfield 64, 3) := dk_180 0 64 (dk_at dksX10_trace_1 4 rfl rfl)
theorem dX10_trace_31 : decode cX10_trace 31 = .ok (.ifCond .ne 15, 3) := dk_154 0 15 (dk_at dksX10_trace_1 7 rfl rfl)
theorem dX10_trace_34 : decode cX10_trace 34 = .ok (.new 50, 3) := dk_187 0 50 (dk_at dksX10_trace_1 10 rfl rfl)
theorem dX10_trace_37 : decode cX10_trace 37 = .ok (.dup, 1) := dk_89 (dk_at dksX10_trace_1 13 rfl rfl)
theorem dX10_trace_38 : decode cX10_trace 38 = .ok (.aload_n 0, 1) := dk_42 (dk_at dksX10_trace_1 14 rfl rfl)
theorem dX10_trace_39 : decode cX10_trace 39 = .ok (.getfield 15, 3) := dk_180 0 15 (dk_at dksX10_trace_1 15 rfl rfl)
theorem dX10_trace_42 : decode cX10_trace 42 = .ok (.invokespecial 52, 3) := dk_183 0 52 (dk_at dksX10_trace_1 18 rfl rfl)
theorem dX10_trace_45 : decode cX10_trace 45 = .ok (.athrow, 1) := dk_191 (dk_at dksX10_trace_1 21 rfl rfl)
theorem dX10_trace_46 : decode cX10_trace 46 = .ok (.aload_n 1, 1) := dk_43 (dk_at dksX10_trace_1 22 rfl rfl)
theorem dX10_trace_47 : decode cX10_trace 47 = .ok (.areturn, 1) := dk_176 (dk_at dksX10_trace_1 23 rfl rfl)
def dkwX10_clause_12 : List UInt8 := [182, 0, 126, 28, 21, 6, 128, 172]
abbrev dktX10_clause_12 : List UInt8 := dkwX10_clause_12 ++ []
def dkwX10_clause_11 : List UInt8 := [21, 6, 7, 160, 0, 17, 43, 42, 3, 16, 9, 182, 0, 55, 181, 0, 124, 167, 0, 8, 42, 43]
abbrev dktX10_clause_11 : List UInt8 := dkwX10_clause_11 ++ dktX10_clause_12
def dkwX10_clause_10 : List UInt8 := [167, 0, 49, 21, 6, 5, 160, 0, 18, 43, 42, 3, 17, 3, 231, 182, 0, 55, 181, 0, 122, 167, 0, 28]
abbrev dktX10_clause_10 : List UInt8 := dkwX10_clause_10 ++ dktX10_clause_11
def dkwX10_clause_9 : List UInt8 := [187, 0, 50, 89, 21, 4, 183, 0, 52, 191, 21, 6, 4, 160, 0, 14, 42, 43, 180, 0, 115, 182, 0, 119]
abbrev dktX10_clause_9 : List UInt8 := dkwX10_clause_9 ++ dktX10_clause_10
def dkwX10_clause_8 : List UInt8 := [159, 0, 24, 28, 21, 6, 126, 154, 0, 17, 21, 6, 154, 0, 22, 43, 180, 0, 87, 16, 8, 160, 0, 13]
abbrev dktX10_clause_8 : List UInt8 := dkwX10_clause_8 ++ dktX10_clause_9
def dkwX10_clause_7 : List UInt8 := [4, 167, 0, 16, 5, 167, 0, 12, 7, 167, 0, 8, 3, 167, 0, 4, 2, 54, 6, 21, 6, 2]
abbrev dktX10_clause_7 : List UInt8 := dkwX10_clause_7 ++ dktX10_clause_8
def dkwX10_clause_6 : List UInt8 := [170, 0, 0, 0, 45, 0, 0, 0, 0, 0, 0, 0, 3, 0, 0, 0, 29, 0, 0, 0, 33, 0, 0, 0, 37, 0, 0, 0, 41]
abbrev dktX10_clause_6 : List UInt8 := dkwX10_clause_6 ++ dktX10_clause_7
def dkwX10_clause_5 : List UInt8 := [167, 0, 16, 25, 7, 18, 113, 182, 0, 105, 153, 0, 6, 6, 54, 8, 21, 8]
abbrev dktX10_clause_5 : List UInt8 := dkwX10_clause_5 ++ dktX10_clause_6
def dkwX10_clause_4 : List UInt8 := [153, 0, 38, 4, 54, 8, 167, 0, 32, 25, 7, 18, 111, 182, 0, 105, 153, 0, 22, 5, 54, 8]
abbrev dktX10_clause_4 : List UInt8 := dkwX10_clause_4 ++ dktX10_clause_5
def dkwX10_clause_3 : List UInt8 := [25, 7, 18, 103, 182, 0, 105, 153, 0, 54, 3, 54, 8, 167, 0, 48, 25, 7, 18, 109, 182, 0, 105]
abbrev dktX10_clause_3 : List UInt8 := dkwX10_clause_3 ++ dktX10_clause_4
def dkwX10_clause_2 : List UInt8 := [171, 0, 0, 0, 0, 103, 0, 0, 0, 4, 0, 50, 175, 244, 0, 0, 0, 90, 6, 66, 39, 26, 0, 0, 0, 58, 6, 117, 217, 115, 0, 0, 0, 74, 6, 151, 241, 69, 0, 0, 0, 42]
abbrev dktX10_clause_2 : List UInt8 := dkwX10_clause_2 ++ dktX10_clause_3
def dkwX10_clause_1 : List UInt8 := [58, 7, 2, 54, 8, 25, 7, 182, 0, 98]
abbrev dktX10_clause_1 : List UInt8 := dkwX10_clause_1 ++ dktX10_clause_2
def dkwX10_clause_0 : List UInt8 := [42, 182, 0, 26, 62, 42, 180, 0, 15, 54, 4, 42, 182, 0, 67, 58, 5, 25, 5, 185, 0, 90, 1, 0]
abbrev dktX10_clause_0 : List UInt8 := dkwX10_clause_0 ++ dktX10_clause_1
theorem dksX10_clause_0 : cX10_clause.data.toList.drop 0 = dktX10_clause_0 := by decide +kernel
theorem dksX10_clause_1 : cX10_clause.data.toList.drop 24 = dktX10_clause_1 := dk_seg dksX10_clause_0 24 rfl rfl
theorem dksX10_clause_2 : cX10_clause.data.toList.drop 34 = dktX10_clause_2 := dk_seg dksX10_clause_1 10 rfl rfl
theorem dksX10_clause_3 : cX10_clause.data.toList.drop 76 = dktX10_clause_3 := dk_seg dksX10_clause_2 42 rfl rfl
theorem dksX10_clause_4 : cX10_clause.data.toList.drop 99 = dktX10_clause_4 := dk_seg dksX10_clause_3 23 rfl rfl
theorem dksX10_clause_5 : cX10_clause.data.toList.drop 121 = dktX10_clause_5 := dk_seg dksX10_clause_4 22 rfl rfl
theorem dksX10_clause_6 : cX10_clause.data.toList.drop 139 = dktX10_clause_6 := dk_seg dksX10_clause_5 18 rfl rfl
theorem dksX10_clause_7 : cX10_clause.data.toList.drop 168 = dktX10_clause_7 := dk_seg dksX10_clause_6 29 rfl rfl
theorem dksX10_clause_8 : cX10_clause.data.toList.drop 190 = dktX10_clause_8 := dk_seg dksX10_clause_7 22 rfl rfl
theorem dksX10_clause_9 : cX10_clause.data.toList.drop 214 = dktX10_clause_9 := dk_seg dksX10_clause_8 24 rfl rfl
theorem dksX10_clause_10 : cX10_clause.data.toList.drop 238 = dktX10_clause_10 := dk_seg dksX10_clause_9 24 rfl rfl
theorem dksX10_clause_11 : cX10_clause.data.toList.drop 262 = dktX10_clause_11 := dk_seg dksX10_clause_10 24 rfl rfl
theorem dksX10_clause_12 : cX10_clause.data.toList.drop 284 = dktX10_clause_12 := dk_seg dksX10_clause_11 22 rfl rfl
theorem dX10_clause_0 : decode cX10_clause 0 = .ok (.aload_n 0, 1) := dk_42 (dk_at dksX10_clause_0 0 rfl rfl)
theorem dX10_clause_1 : decode cX10_clause 1 = .ok (.invokevirtual 26, 3) := dk_182 0 26 (dk_at dksX10_clause_0 1 rfl rfl)
theorem dX10_clause_4 : decode cX10_clause 4 = .ok (.istore_n 3, 1) := dk_62 (dk_at dksX10_clause_0 4 rfl rfl)
theorem dX10_clause_5 : decode cX10_clause 5 = .ok (.aload_n 0, 1) := dk_42 (dk_at dksX10_clause_0 5 rfl rfl)
theorem dX10_clause_6 : decode cX10_clause 6 = .ok (.getfield 15, 3) := dk_180 0 15 (dk_at dksX10_clause_0 6 rfl rfl)
theorem dX10_clause_9 : decode cX10_clause 9 = .ok (.istore 4, 2) := dk_54 4 (dk_at dksX10_clause_0 9 rfl rfl)
theorem dX10_clause_11 : decode cX10_clause 11 = .ok (.aload_n 0, 1) := dk_42 (dk_at dksX10_clause_0 11 rfl rfl)
theorem dX10_clause_12 : decode cX10_clause 12 = .ok (.invokevirtual 67, 3) := dk_182 0 67 (dk_at dksX10_clause_0 12 rfl rfl)
theorem dX10_clause_15 : decode cX10_clause 15 = .ok (.astore 5, 2) := dk_58 5 (dk_at dksX10_clause_0 15 rfl rfl)
theorem dX10_clause_17 : decode cX10_clause 17 = .ok (.aload 5, 2) := dk_25 5 (dk_at dksX10_clause_0 17 rfl rfl)
theorem dX10_clause_19 : decode cX10_clause 19 = .ok (.invokeinterface 90 1, 5) := by decide +kernel
theorem dX10_clause_24 : decode cX10_clause 24 = .ok (.astore 7, 2) := dk_58 7 (dk_at dksX10_clause_1 0 rfl rfl)
theorem dX10_clause_26 : decode cX10_clause 26 = .ok (.iconst (-1), 1) := dk_2 (dk_at dksX10_clause_1 2 rfl rfl)
theorem dX10_clause_27 : decode cX10_clause 27 = .ok (.istore 8, 2) := dk_54 8 (dk_at dksX10_clause_1 3 rfl rfl)
theorem dX10_clause_29 : decode cX10_clause 29 = .ok (.aload 7, 2) := dk_25 7 (dk_at dksX10_clause_1 5 rfl rfl)
theorem dX10_clause_31 : decode cX10_clause 31 = .ok (.invokevirtual 98, 3) := dk_182 0 98 (dk_at dksX10_clause_1 7 rfl rfl)
theorem dX10_clause_34 : decode cX10_clause 34 = .ok (.lookupswitch 103 #[(3321844, 90), (104998682, 58), (108386675, 74), (110620997, 42)], 42) := by decide +kernel
theorem dX10_clause_76 : decode cX10_clause 76 = .ok (.aload 7, 2) := dk_25 7 (dk_at dksX10_clause_3 0 rfl rfl)
theorem dX10_clause_78 : decode cX10_clause 78 = .ok (.ldc 103, 2) := dk_18 103 (dk_at dksX10_clause_3 2 rfl rfl)
theorem dX10_clause_80 : decode cX10_clause 80 = .ok (.invokevirtual 105, 3) := dk_182 0 105 (dk_at dksX10_clause_3 4 rfl rfl)
theorem dX10_clause_83 : decode cX10_clause 83 = .ok (.ifCond .eq 54, 3) := dk_153 0 54 (dk_at dksX10_clause_3 7 rfl rfl)
theorem dX10_clause_86 : decode cX10_clause 86 = .ok (.iconst 0, 1) := dk_3 (dk_at dksX10_clause_3 10 rfl rfl)
theorem dX10_clause_87 : decode cX10_clause 87 = .ok (.istore 8, 2) := dk_54 8 (dk_at dksX10_clause_3 11 rfl rfl)
theorem dX10_clause_89 : decode cX10_clause 89 = .ok (.goto 48, 3) := dk_167 0 48 (dk_at dksX10_clause_3 13 rfl rfl)
theorem dX10_clause_92 : decode cX10_clause 92 = .ok (.aload 7, 2) := dk_25 7 (dk_at dksX10_clause_3 16 rfl rfl)
theorem dX10_clause_94 : decode cX10_clause 94 = .ok (.ldc 109, 2) := dk_18 109 (dk_at dksX10_clause_3 18 rfl rfl)
theorem dX10_clause_96 : decode cX10_clause 96 = .ok (.invokevirtual 105, 3) := dk_182 0 105 (dk_at dksX10_clause_3 20 rfl rfl)
theorem dX10_clause_99 : decode cX10_clause 99 = .ok (.ifCond .eq 38, 3) := dk_153 0 38 (dk_at dksX10_clause_4 0 rfl rfl)
theorem dX10_clause_102 : decode cX10_clause 102 = .ok (.iconst 1, 1) := dk_4 (dk_at dksX10_clause_4 3 rfl rfl)
theorem dX10_clause_103 : decode cX10_clause 103 = .ok (.istore 8, 2) := dk_54 8 (dk_at dksX10_clause_4 4 rfl rfl)
theorem dX10_clause_105 : decode cX10_clause 105 = .ok (.goto 32, 3) := dk_167 0 32 (dk_at dksX10_clause_4 6 rfl rfl)
theorem dX10_clause_108 : decode cX10_clause 108 = .ok (.aload 7, 2) := dk_25 7 (dk_at dksX10_clause_4 9 rfl rfl)
theorem dX10_clause_110 : decode cX10_clause 110 = .ok (.ldc 111, 2) := dk_18 111 (dk_at dksX10_clause_4 11 rfl rfl)
theorem dX10_clause_112 : decode cX10_clause 112 = .ok (.invokevirtual 105, 3) := dk_182 0 105 (dk_at dksX10_clause_4 13 rfl rfl)
theorem dX10_clause_115 : decode cX10_clause 115 = .ok (.ifCond .eq 22, 3) := dk_153 0 22 (dk_at dksX10_clause_4 16 rfl rfl)
theorem dX10_clause_118 : decode cX10_clause 118 = .ok (.iconst 2, 1) := dk_5 (dk_at dksX10_clause_4 19 rfl rfl)
theorem dX10_clause_119 : decode cX10_clause 119 = .ok (.istore 8, 2) := dk_54 8 (dk_at dksX10_clause_4 20 rfl rfl)
theorem dX10_clause_121 : decode cX10_clause 121 = .ok (.goto 16, 3) := dk_167 0 16 (dk_at dksX10_clause_5 0 rfl rfl)
theorem dX10_clause_124 : decode cX10_clause 124 = .ok (.aload 7, 2) := dk_25 7 (dk_at dksX10_clause_5 3 rfl rfl)
theorem dX10_clause_126 : decode cX10_clause 126 = .ok (.ldc 113, 2) := dk_18 113 (dk_at dksX10_clause_5 5 rfl rfl)
theorem dX10_clause_128 : decode cX10_clause 128 = .ok (.invokevirtual 105, 3) := dk_182 0 105 (dk_at dksX10_clause_5 7 rfl rfl)
theorem dX10_clause_131 : decode cX10_clause 131 = .ok (.ifCond .eq 6, 3) := dk_153 0 6 (dk_at dksX10_clause_5 10 rfl rfl)
theorem dX10_clause_134 : decode cX10_clause 134 = .ok (.iconst 3, 1) := dk_6 (dk_at dksX10_clause_5 13 rfl rfl)
theorem dX10_clause_135 : decode cX10_clause 135 = .ok (.istore 8, 2) := dk_54 8 (dk_at dksX10_clause_5 14 rfl rfl)
theorem dX10_clause_137 : decode cX10_clause 137 = .ok (.iload 8, 2) := dk_21 8 (dk_at dksX10_clause_5 16 rfl rfl)
theorem dX10_clause_139 : decode cX10_clause 139 = .ok (.tableswitch 45 0 3 #[29, 33, 37, 41], 29) := by decide +kernel
theorem dX10_clause_168 : decode cX10_clause 168 = .ok (.iconst 1, 1) := dk_4 (dk_at dksX10_clause_7 0 rfl rfl)
theorem dX10_clause_169 : decode cX10_clause 169 = .ok (.goto 16, 3) := dk_167 0 16 (dk_at dksX10_clause_7 1 rfl rfl)
theorem dX10_clause_172 : decode cX10_clause 172 = .ok (.iconst 2, 1) := dk_5 (dk_at dksX10_clause_7 4 rfl rfl)
theorem dX10_clause_173 : decode cX10_clause 173 = .ok (.goto 12, 3) := dk_167 0 12 (dk_at dksX10_clause_7 5 rfl rfl)
theorem dX10_clause_176 : decode cX10_clause 176 = .ok (.iconst 4, 1) := dk_7 (dk_at dksX10_clause_7 8 rfl rfl)
theorem dX10_clause_177 : decode cX10_clause 177 = .ok (.goto 8, 3) := dk_167 0 8 (dk_at dksX10_clause_7 9 rfl rfl)
theorem dX10_clause_180 : decode cX10_clause 180 = .ok (.iconst 0, 1) := dk_3 (dk_at dksX10_clause_7 12 rfl rfl)
theorem dX10_clause_181 : decode cX10_clause 181 = .ok (.goto 4, 3) := dk_167 0 4 (dk_at dksX10_clause_7 13 rfl rfl)
theorem dX10_clause_184 : decode cX10_clause 184 = .ok (.iconst (-1), 1) := dk_2 (dk_at dksX10_clause_7 16 rfl rfl)
theorem dX10_clause_185 : decode cX10_clause 185 = .ok (.istore 6, 2) := dk_54 6 (dk_at dksX10_clause_7 17 rfl rfl)
theorem dX10_clause_187 : decode cX10_clause 187 = .ok (.iload 6, 2) := dk_21 6 (dk_at dksX10_clause_7 19 rfl rfl)
theorem dX10_clause_189 : decode cX10_clause 189 = .ok (.iconst (-1), 1) := dk_2 (dk_at dksX10_clause_7 21 rfl rfl)
theorem dX10_clause_190 : decode cX10_clause 190 = .ok (.if_icmp .eq 24, 3) := dk_159 0 24 (dk_at dksX10_clause_8 0 rfl rfl)
theorem dX10_clause_193 : decode cX10_clause 193 = .ok (.iload_n 2, 1) := dk_28 (dk_at dksX10_clause_8 3 rfl rfl)
theorem dX10_clause_194 : decode cX10_clause 194 = .ok (.iload 6, 2) := dk_21 6 (dk_at dksX10_clause_8 4 rfl rfl)
theorem dX10_clause_196 : decode cX10_clause 196 = .ok (.iand, 1) := dk_126 (dk_at dksX10_clause_8 6 rfl rfl)
theorem dX10_clause_197 : decode cX10_clause 197 = .ok (.ifCond .ne 17, 3) := dk_154 0 17 (dk_at dksX10_clause_8 7 rfl rfl)
theorem dX10_clause_200 : decode cX10_clause 200 = .ok (.iload 6, 2) := dk_21 6 (dk_at dksX10_clause_8 10 rfl rfl)
theorem dX10_clause_202 : decode cX10_clause 202 = .ok (.ifCond .ne 22, 3) := dk_154 0 22 (dk_at dksX10_clause_8 12 rfl rfl)
theorem dX10_clause_205 : decode cX10_clause 205 = .ok (.aload_n 1, 1) := dk_43 (dk_at dksX10_clause_8 15 rfl rfl)
theorem dX10_clause_206 : decode cX10_clause 206 = .ok (.getfield 87, 3) := dk_180 0 87 (dk_at dksX10_clause_8 16 rfl rfl)
theorem dX10_clause_209 : decode cX10_clause 209 = .ok (.bipush 8, 2) := dk_16 8 (dk_at dksX10_clause_8 19 rfl rfl)
theorem dX10_clause_211 : decode cX10_clause 211 = .ok (.if_icmp .ne 13, 3) := dk_160 0 13 (dk_at dksX10_clause_8 21 rfl rfl)
theorem dX10_clause_214 : decode cX10_clause 214 = .ok (.new 50, 3) := dk_187 0 50 (dk_at dksX10_clause_9 0 rfl rfl)
theorem dX10_clause_217 : decode cX10_clause 217 = .ok (.dup, 1) := dk_89 (dk_at dksX10_clause_9 3 rfl rfl)
theorem dX10_clause_218 : decode cX10_clause 218 = .ok (.iload 4, 2) := dk_21 4 (dk_at dksX10_clause_9 4 rfl rfl)
theorem dX10_clause_220 : decode cX10_clause 220 = .ok (.invokespecial 52, 3) := dk_183 0 52 (dk_at dksX10_clause_9 6 rfl rfl)
theorem dX10_clause_223 : decode cX10_clause 223 = .ok (.athrow, 1) := dk_191 (dk_at dksX10_clause_9 9 rfl rfl)
theorem dX10_clause_224 : decode cX10_clause 224 = .ok (.iload 6, 2) := dk_21 6 (dk_at dksX10_clause_9 10 rfl rfl)
theorem dX10_clause_226 : decode cX10_clause 226 = .ok (.iconst 1, 1) := dk_4 (dk_at dksX10_clause_9 12 rfl rfl)
theorem dX10_clause_227 : decode cX10_clause 227 = .ok (.if_icmp .ne 14, 3) := dk_160 0 14 (dk_at dksX10_clause_9 13 rfl rfl)
theorem dX10_clause_230 : decode cX10_clause 230 = .ok (.aload_n 0, 1) := dk_42 (dk_at dksX10_clause_9 16 rfl rfl)
theorem dX10_clause_231 : decode cX10_clause 231 = .ok (.aload_n 1, 1) := dk_43 (dk_at dksX10_clause_9 17 rfl rfl)
theorem dX10_clause_232 : decode cX10_clause 232 = .ok (.getfield 115, 3) := dk_180 0 115 (dk_at dksX10_clause_9 18 rfl rfl)
theorem dX10_clause_235 : decode cX10_clause 235 = .ok (.invokevirtual 119, 3) := dk_182 0 119 (dk_at dksX10_clause_9 21 rfl rfl)
theorem dX10_clause_238 : decode cX10_clause 238 = .ok (.goto 49, 3) := dk_167 0 49 (dk_at dksX10_clause_10 0 rfl rfl)
theorem dX10_clause_241 : decode cX10_clause 241 = .ok (.iload 6, 2) := dk_21 6 (dk_at dksX10_clause_10 3 rfl rfl)
theorem dX10_clause_243 : decode cX10_clause 243 = .ok (.iconst 2, 1) := dk_5 (dk_at dksX10_clause_10 5 rfl rfl)
theorem dX10_clause_244 : decode cX10_clause 244 = .ok (.if_icmp .ne 18, 3) := dk_160 0 18 (dk_at dksX10_clause_10 6 rfl rfl)
theorem dX10_clause_247 : decode cX10_clause 247 = .ok (.aload_n 1, 1) := dk_43 (dk_at dksX10_clause_10 9 rfl rfl)
theorem dX10_clause_248 : decode cX10_clause 248 = .ok (.aload_n 0, 1) := dk_42 (dk_at dksX10_clause_10 10 rfl rfl)
theorem dX10_clause_249 : decode cX10_clause 249 = .ok (.iconst 0, 1) := dk_3 (dk_at dksX10_clause_10 11 rfl rfl)
theorem dX10_clause_250 : decode cX10_clause 250 = .ok (.sipush 999, 3) := dk_17 3 231 (dk_at dksX10_clause_10 12 rfl rfl)
theorem dX10_clause_253 : decode cX10_clause 253 = .ok (.invokevirtual 55, 3) := dk_182 0 55 (dk_at dksX10_clause_10 15 rfl rfl)
theorem dX10_clause_256 : decode cX10_clause 256 = .ok (.putfield 122, 3) := dk_181 0 122 (dk_at dksX10_clause_10 18 rfl rfl)
theorem dX10_clause_259 : decode cX10_clause 259 = .ok (.goto 28, 3) := dk_167 0 28 (dk_at dksX10_clause_10 21 rfl rfl)
theorem dX10_clause_262 : decode cX10_clause 262 = .ok (.iload 6, 2) := dk_21 6 (dk_at dksX10_clause_11 0 rfl rfl)
theorem dX10_clause_264 : decode cX10_clause 264 = .ok (.iconst 4, 1) := dk_7 (dk_at dksX10_clause_11 2 rfl rfl)
theorem dX10_clause_265 : decode cX10_clause 265 = .ok (.if_icmp .ne 17, 3) := dk_160 0 17 (dk_at dksX10_clause_11 3 rfl rfl)
theorem dX10_clause_268 : decode cX10_clause 268 = .ok (.aload_n 1, 1) := dk_43 (dk_at dksX10_clause_11 6 rfl rfl)
theorem dX10_clause_269 : decode cX10_clause 269 = .ok (.aload_n 0, 1) := dk_42 (dk_at dksX10_clause_11 7 rfl rfl)
theorem dX10_clause_270 : decode cX10_clause 270 = .ok (.iconst 0, 1) := dk_3 (dk_at dksX10_clause_11 8 rfl rfl)
theorem dX10_clause_271 : decode cX10_clause 271 = .ok (.bipush 9, 2) := dk_16 9 (dk_at dksX10_clause_11 9 rfl rfl)
theorem dX10_clause_273 : decode cX10_clause 273 = .ok (.invokevirtual 55, 3) := dk_182 0 55 (dk_at dksX10_clause_11 11 rfl rfl)
theorem dX10_clause_276 : decode cX10_clause 276 = .ok (.putfield 124, 3) := dk_181 0 124 (dk_at dksX10_clause_11 14 rfl rfl)
theorem dX10_clause_279 : decode cX10_clause 279 = .ok (.goto 8, 3) := dk_167 0 8 (dk_at dksX10_clause_11 17 rfl rfl)
theorem dX10_clause_282 : decode cX10_clause 282 = .ok (.aload_n 0, 1) := dk_42 (dk_at dksX10_clause_11 20 rfl rfl)
theorem dX10_clause_283 : decode cX10_clause 283 = .ok (.aload_n 1, 1) := dk_43 (dk_at dksX10_clause_11 21 rfl rfl)
theorem dX10_clause_284 : decode cX10_clause 284 = .ok (.invokevirtual 126, 3) := dk_182 0 126 (dk_at dksX10_clause_12 0 rfl rfl)
theorem dX10_clause_287 : decode cX10_clause 287 = .ok (.iload_n 2, 1) := dk_28 (dk_at dksX10_clause_12 3 rfl rfl)
theorem dX10_clause_288 : decode cX10_clause 288 = .ok (.iload 6, 2) := dk_21 6 (dk_at dksX10_clause_12 4 rfl rfl)
theorem dX10_clause_290 : decode cX10_clause 290 = .ok (.ior, 1) := dk_128 (dk_at dksX10_clause_12 6 rfl rfl)
theorem dX10_clause_291 : decode cX10_clause 291 = .ok (.ireturn, 1) := dk_172 (dk_at dksX10_clause_12 7 rfl rfl)
def dkwX10_peek_3 : List UInt8 := [51, 17, 0, 255, 126, 167, 0, 4, 2, 172]
abbrev dktX10_peek_3 : List UInt8 := dkwX10_peek_3 ++ []
def dkwX10_peek_2 : List UInt8 := [180, 0, 15, 42, 180, 0, 3, 180, 0, 19, 162, 0, 22, 42, 180, 0, 3, 180, 0, 22, 42, 180, 0, 15]
abbrev dktX10_peek_2 : List UInt8 := dkwX10_peek_2 ++ dktX10_peek_3
def dkwX10_peek_1 : List UInt8 := [180, 0, 15, 51, 16, 32, 160, 0, 16, 42, 89, 180, 0, 15, 4, 96, 181, 0, 15, 167, 255, 215, 42]
abbrev dktX10_peek_1 : List UInt8 := dkwX10_peek_1 ++ dktX10_peek_2
def dkwX10_peek_0 : List UInt8 := [42, 180, 0, 15, 42, 180, 0, 3, 180, 0, 19, 162, 0, 33, 42, 180, 0, 3, 180, 0, 22, 42]
abbrev dktX10_peek_0 : List UInt8 := dkwX10_peek_0 ++ dktX10_peek_1
theorem dksX10_peek_0 : cX10_peek.data.toList.drop 0 = dktX10_peek_0 := by decide +kernel
theorem dksX10_peek_1 : cX10_peek.data.toList.drop 22 = dktX10_peek_1 := dk_seg dksX10_peek_0 22 rfl rfl
theorem dksX10_peek_2 : cX10_peek.data.toList.drop 45 = dktX10_peek_2 := dk_seg dksX10_peek_1 23 rfl rfl
theorem dksX10_peek_3 : cX10_peek.data.toList.drop 69 = dktX10_peek_3 := dk_seg dksX10_peek_2 24 rfl rfl
theorem dX10_peek_0 : decode cX10_peek 0 = .ok (.aload_n 0, 1) := dk_42 (dk_at dksX10_peek_0 0 rfl rfl)
theorem dX10_peek_1 : decode cX10_peek 1 = .ok (.getfield 15, 3) := dk_180 0 15 (dk_at dksX10_peek_0 1 rfl rfl)
theorem dX10_peek_4 : decode cX10_peek 4 = .ok (.aload_n 0, 1) := dk_42 (dk_at dksX10_peek_0 4 rfl rfl)
theorem dX10_peek_5 : decode cX10_peek 5 = .ok (.getfield 3, 3) := dk_180 0 3 (dk_at dksX10_peek_0 5 rfl rfl)
theorem dX10_peek_8 : decode cX10_peek 8 = .ok (.getfield 19, 3) := dk_180 0 19 (dk_at dksX10_peek_0 8 rfl rfl)
theorem dX10_peek_11 : decode cX10_peek 11 = .ok (.if_icmp .ge 33, 3) := dk_162 0 33 (dk_at dksX10_peek_0 11 rfl rfl)
theorem dX10_peek_14 : decode cX10_peek 14 = .ok (.aload_n 0, 1) := dk_42 (dk_at dksX10_peek_0 14 rfl rfl)
theorem dX10_peek_15 : decode cX10_peek 15 = .ok (.getfield 3, 3) := dk_180 0 3 (dk_at dksX10_peek_0 15 rfl rfl)
theorem dX10_peek_18 : decode cX10_peek 18 = .ok (.getfield 22, 3) := dk_180 0 22 (dk_at dksX10_peek_0 18 rfl rfl)
theorem dX10_peek_21 : decode cX10_peek 21 = .ok (.aload_n 0, 1) := dk_42 (dk_at dksX10_peek_0 21 rfl rfl)
theorem dX10_peek_22 : decode cX10_peek 22 = .ok (.getfield 15, 3) := dk_180 0 15 (dk_at dksX10_peek_1 0 rfl rfl)
theorem dX10_peek_25 : decode cX10_peek 25 = .ok (.baload, 1) := dk_51 (dk_at dksX10_peek_1 3 rfl rfl)
theorem dX10_peek_26 : decode cX10_peek 26 = .ok (.bipush 32, 2) := dk_16 32 (dk_at dksX10_peek_1 4 rfl rfl)
theorem dX10_peek_28 : decode cX10_peek 28 = .ok (.if_icmp .ne 16, 3) := dk_160 0 16 (dk_at dksX10_peek_1 6 rfl rfl)
theorem dX10_peek_31 : decode cX10_peek 31 = .ok (.aload_n 0, 1) := dk_42 (dk_at dksX10_peek_1 9 rfl rfl)
theorem dX10_peek_32 : decode cX10_peek 32 = .ok (.dup, 1) := dk_89 (dk_at dksX10_peek_1 10 rfl rfl)
theorem dX10_peek_33 : decode cX10_peek 33 = .ok (.getfield 15, 3) := dk_180 0 15 (dk_at dksX10_peek_1 11 rfl rfl)
theorem dX10_peek_36 : decode cX10_peek 36 = .ok (.iconst 1, 1) := dk_4 (dk_at dksX10_peek_1 14 rfl rfl)
theorem dX10_peek_37 : decode cX10_peek 37 = .ok (.iadd, 1) := dk_96 (dk_at dksX10_peek_1 15 rfl rfl)
theorem dX10_peek_38 : decode cX10_peek 38 = .ok (.putfield 15, 3) := dk_181 0 15 (dk_at dksX10_peek_1 16 rfl rfl)
theorem dX10_peek_41 : decode cX10_peek 41 = .ok (.goto (-41), 3) := dk_167 255 215 (dk_at dksX10_peek_1 19 rfl rfl)
theorem dX10_peek_44 : decode cX10_peek 44 = .ok (.aload_n 0, 1) := dk_42 (dk_at dksX10_peek_1 22 rfl rfl)
theorem dX10_peek_45 : decode cX10_peek 45 = .ok (.getfield 15, 3) := dk_180 0 15 (dk_at dksX10_peek_2 0 rfl rfl)
theorem dX10_peek_48 : decode cX10_peek 48 = .ok (.aload_n 0, 1) := dk_42 (dk_at dksX10_peek_2 3 rfl rfl)
theorem dX10_peek_49 : decode cX10_peek 49 = .ok (.getfield 3, 3) := dk_180 0 3 (dk_at dksX10_peek_2 4 rfl rfl)
theorem dX10_peek_52 : decode cX10_peek 52 = .ok (.getfield 19, 3) := dk_180 0 19 (dk_at dksX10_peek_2 7 rfl rfl)
theorem dX10_peek_55 : decode cX10_peek 55 = .ok (.if_icmp .ge 22, 3) := dk_162 0 22 (dk_at dksX10_peek_2 10 rfl rfl)
theorem dX10_peek_58 : decode cX10_peek 58 = .ok (.aload_n 0, 1) := dk_42 (dk_at dksX10_peek_2 13 rfl rfl)
theorem dX10_peek_59 : decode cX10_peek 59 = .ok (.getfield 3, 3) := dk_180 0 3 (dk_at dksX10_peek_2 14 rfl rfl)
theorem dX10_peek_62 : decode cX10_peek 62 = .ok (.getfield 22, 3) := dk_180 0 22 (dk_at dksX10_peek_2 17 rfl rfl)
theorem dX10_peek_65 : decode cX10_peek 65 = .ok (.aload_n 0, 1) := dk_42 (dk_at dksX10_peek_2 20 rfl rfl)
theorem dX10_peek_66 : decode cX10_peek 66 = .ok (.getfield 15, 3) := dk_180 0 15 (dk_at dksX10_peek_2 21 rfl rfl)
theorem dX10_peek_69 : decode cX10_peek 69 = .ok (.baload, 1) := dk_51 (dk_at dksX10_peek_3 0 rfl rfl)
theorem dX10_peek_70 : decode cX10_peek 70 = .ok (.sipush 255, 3) := dk_17 0 255 (dk_at dksX10_peek_3 1 rfl rfl)
theorem dX10_peek_73 : decode cX10_peek 73 = .ok (.iand, 1) := dk_126 (dk_at dksX10_peek_3 4 rfl rfl)
theorem dX10_peek_74 : decode cX10_peek 74 = .ok (.goto 4, 3) := dk_167 0 4 (dk_at dksX10_peek_3 5 rfl rfl)
theorem dX10_peek_77 : decode cX10_peek 77 = .ok (.iconst (-1), 1) := dk_2 (dk_at dksX10_peek_3 8 rfl rfl)
theorem dX10_peek_78 : decode cX10_peek 78 = .ok (.ireturn, 1) := dk_172 (dk_at dksX10_peek_3 9 rfl rfl)
def dkwX10_word_2 : List UInt8 := [181, 0, 15, 167, 255, 221, 44, 176]
abbrev dktX10_word_2 : List UInt8 := dkwX10_word_2 ++ []
def dkwX10_word_1 : List UInt8 := [180, 0, 3, 180, 0, 22, 42, 180, 0, 15, 51, 146, 182, 0, 37, 87, 42, 89, 180, 0, 15, 4, 96]
abbrev dktX10_word_1 : List UInt8 := dkwX10_word_1 ++ dktX10_word_2
def dkwX10_word_0 : List UInt8 := [42, 182, 0, 26, 60, 187, 0, 30, 89, 183, 0, 32, 77, 42, 182, 0, 33, 153, 0, 34, 44, 42]
abbrev dktX10_word_0 : List UInt8 := dkwX10_word_0 ++ dktX10_word_1
theorem dksX10_word_0 : cX10_word.data.toList.drop 0 = dktX10_word_0 := by decide +kernel
theorem dksX10_word_1 : cX10_word.data.toList.drop 22 = dktX10_word_1 := dk_seg dksX10_word_0 22 rfl rfl
theorem dksX10_word_2 : cX10_word.data.toList.drop 45 = dktX10_word_2 := dk_seg dksX10_word_1 23 rfl rfl
theorem dX10_word_0 : decode cX10_word 0 = .ok (.aload_n 0, 1) := dk_42 (dk_at dksX10_word_0 0 rfl rfl)
theorem dX10_word_1 : decode cX10_word 1 = .ok (.invokevirtual 26, 3) := dk_182 0 26 (dk_at dksX10_word_0 1 rfl rfl)
theorem dX10_word_4 : decode cX10_word 4 = .ok (.istore_n 1, 1) := dk_60 (dk_at dksX10_word_0 4 rfl rfl)
theorem dX10_word_5 : decode cX10_word 5 = .ok (.new 30, 3) := dk_187 0 30 (dk_at dksX10_word_0 5 rfl rfl)
theorem dX10_word_8 : decode cX10_word 8 = .ok (.dup, 1) := dk_89 (dk_at dksX10_word_0 8 rfl rfl)
theorem dX10_word_9 : decode cX10_word 9 = .ok (.invokespecial 32, 3) := dk_183 0 32 (dk_at dksX10_word_0 9 rfl rfl)
theorem dX10_word_12 : decode cX10_word 12 = .ok (.astore_n 2, 1) := dk_77 (dk_at dksX10_word_0 12 rfl rfl)
theorem dX10_word_13 : decode cX10_word 13 = .ok (.aload_n 0, 1) := dk_42 (dk_at dksX10_word_0 13 rfl rfl)
theorem dX10_word_14 : decode cX10_word 14 = .ok (.invokevirtual 33, 3) := dk_182 0 33 (dk_at dksX10_word_0 14 rfl rfl)
theorem dX10_word_17 : decode cX10_word 17 = .ok (.ifCond .eq 34, 3) := dk_153 0 34 (dk_at dksX10_word_0 17 rfl rfl)
theorem dX10_word_20 : decode cX10_word 20 = .ok (.aload_n 2, 1) := dk_44 (dk_at dksX10_word_0 20 rfl rfl)
theorem dX10_word_21 : decode cX10_word 21 = .ok (.aload_n 0, 1) := dk_42 (dk_at dksX10_word_0 21 rfl rfl)
theorem dX10_word_22 : decode cX10_word 22 = .ok (.getfield 3, 3) := dk_180 0 3 (dk_at dksX10_word_1 0 rfl rfl)
theorem dX10_word_25 : decode cX10_word 25 = .ok (.getfield 22, 3) := dk_180 0 22 (dk_at dksX10_word_1 3 rfl rfl)
theorem dX10_word_28 : decode cX10_word 28 = .ok (.aload_n 0, 1) := dk_42 (dk_at dksX10_word_1 6 rfl rfl)
theorem dX10_word_29 : decode cX10_word 29 = .ok (.getfield 15, 3) := dk_180 0 15 (dk_at dksX10_word_1 7 rfl rfl)
theorem dX10_word_32 : decode cX10_word 32 = .ok (.baload, 1) := dk_51 (dk_at dksX10_word_1 10 rfl rfl)
theorem dX10_word_33 : decode cX10_word 33 = .ok (.i2c, 1) := dk_146 (dk_at dksX10_word_1 11 rfl rfl)
theorem dX10_word_34 : decode cX10_word 34 = .ok (.invokevirtual 37, 3) := dk_182 0 37 (dk_at dksX10_word_1 12 rfl rfl)
theorem dX10_word_37 : decode cX10_word 37 = .ok (.pop, 1) := dk_87 (dk_at dksX10_word_1 15 rfl rfl)
theorem dX10_word_38 : decode cX10_word 38 = .ok (.aload_n 0, 1) := dk_42 (dk_at dksX10_word_1 16 rfl rfl)
theorem dX10_word_39 : decode cX10_word 39 = .ok (.dup, 1) := dk_89 (dk_at dksX10_word_1 17 rfl rfl)
theorem dX10_word_40 : decode cX10_word 40 = .ok (.getfield 15, 3) := dk_180 0 15 (dk_at dksX10_word_1 18 rfl rfl)
theorem dX10_word_43 : decode cX10_word 43 = .ok (.iconst 1, 1) := dk_4 (dk_at dksX10_word_1 21 rfl rfl)
theorem dX10_word_44 : decode cX10_word 44 = .ok (.iadd, 1) := dk_96 (dk_at dksX10_word_1 22 rfl rfl)
theorem dX10_word_45 : decode cX10_word 45 = .ok (.putfield 15, 3) := dk_181 0 15 (dk_at dksX10_word_2 0 rfl rfl)
theorem dX10_word_48 : decode cX10_word 48 = .ok (.goto (-35), 3) := dk_167 255 221 (dk_at dksX10_word_2 3 rfl rfl)
theorem dX10_word_51 : decode cX10_word 51 = .ok (.aload_n 2, 1) := dk_44 (dk_at dksX10_word_2 6 rfl rfl)
theorem dX10_word_52 : decode cX10_word 52 = .ok (.areturn, 1) := dk_176 (dk_at dksX10_word_2 7 rfl rfl)
def dkwX10_isLetter_2 : List UInt8 := [163, 0, 7, 4, 167, 0, 4, 3, 172]
abbrev dktX10_isLetter_2 : List UInt8 := dkwX10_isLetter_2 ++ []
def dkwX10_isLetter_1 : List UInt8 := [180, 0, 15, 51, 16, 97, 161, 0, 24, 42, 180, 0, 3, 180, 0, 22, 42, 180, 0, 15, 51, 16, 122]
abbrev dktX10_isLetter_1 : List UInt8 := dkwX10_isLetter_1 ++ dktX10_isLetter_2
def dkwX10_isLetter_0 : List UInt8 := [42, 180, 0, 15, 42, 180, 0, 3, 180, 0, 19, 162, 0, 41, 42, 180, 0, 3, 180, 0, 22, 42]
abbrev dktX10_isLetter_0 : List UInt8 := dkwX10_isLetter_0 ++ dktX10_isLetter_1
theorem dksX10_isLetter_0 : cX10_isLetter.data.toList.drop 0 = dktX10_isLetter_0 := by decide +kernel
theorem dksX10_isLetter_1 : cX10_isLetter.data.toList.drop 22 = dktX10_isLetter_1 := dk_seg dksX10_isLetter_0 22 rfl rfl
theorem dksX10_isLetter_2 : cX10_isLetter.data.toList.drop 45 = dktX10_isLetter_2 := dk_seg dksX10_isLetter_1 23 rfl rfl
theorem dX10_isLetter_0 : decode cX10_isLetter 0 = .ok (.aload_n 0, 1) := dk_42 (dk_at dksX10_isLetter_0 0 rfl rfl)
theorem dX10_isLetter_1 : decode cX10_isLetter 1 = .ok (.getfield 15, 3) := dk_180 0 15 (dk_at dksX10_isLetter_0 1 rfl rfl)
theorem dX10_isLetter_4 : decode cX10_isLetter 4 = .ok (.aload_n 0, 1) := dk_42 (dk_at dksX10_isLetter_0 4 rfl rfl)
theorem dX10_isLetter_5 : decode cX10_isLetter 5 = .ok (.getfield 3, 3) := dk_180 0 3 (dk_at dksX10_isLetter_0 5 rfl rfl)
theorem dX10_isLetter_8 : decode cX10_isLetter 8 = .ok (.getfield 19, 3) := dk_180 0 19 (dk_at dksX10_isLetter_0 8 rfl rfl)
theorem dX10_isLetter_11 : decode cX10_isLetter 11 = .ok (.if_icmp .ge 41, 3) := dk_162 0 41 (dk_at dksX10_isLetter_0 11 rfl rfl)
theorem dX10_isLetter_14 : decode cX10_isLetter 14 = .ok (.aload_n 0, 1) := dk_42 (dk_at dksX10_isLetter_0 14 rfl rfl)
theorem dX10_isLetter_15 : decode cX10_isLetter 15 = .ok (.getfield 3, 3) := dk_180 0 3 (dk_at dksX10_isLetter_0 15 rfl rfl)
theorem dX10_isLetter_18 : decode cX10_isLetter 18 = .ok (.getfield 22, 3) := dk_180 0 22 (dk_at dksX10_isLetter_0 18 rfl rfl)
theorem dX10_isLetter_21 : decode cX10_isLetter 21 = .ok (.aload_n 0, 1) := dk_42 (dk_at dksX10_isLetter_0 21 rfl rfl)
theorem dX10_isLetter_22 : decode cX10_isLetter 22 = .ok (.getfield 15, 3) := dk_180 0 15 (dk_at dksX10_isLetter_1 0 rfl rfl)
theorem dX10_isLetter_25 : decode cX10_isLetter 25 = .ok (.baload, 1) := dk_51 (dk_at dksX10_isLetter_1 3 rfl rfl)
theorem dX10_isLetter_26 : decode cX10_isLetter 26 = .ok (.bipush 97, 2) := dk_16 97 (dk_at dksX10_isLetter_1 4 rfl rfl)
theorem dX10_isLetter_28 : decode cX10_isLetter 28 = .ok (.if_icmp .lt 24, 3) := dk_161 0 24 (dk_at dksX10_isLetter_1 6 rfl rfl)
theorem dX10_isLetter_31 : decode cX10_isLetter 31 = .ok (.aload_n 0, 1) := dk_42 (dk_at dksX10_isLetter_1 9 rfl rfl)
theorem dX10_isLetter_32 : decode cX10_isLetter 32 = .ok (.getfield 3, 3) := dk_180 0 3 (dk_at dksX10_isLetter_1 10 rfl rfl)
theorem dX10_isLetter_35 : decode cX10_isLetter 35 = .ok (.getfield 22, 3) := dk_180 0 22 (dk_at dksX10_isLetter_1 13 rfl rfl)
theorem dX10_isLetter_38 : decode cX10_isLetter 38 = .ok (.aload_n 0, 1) := dk_42 (dk_at dksX10_isLetter_1 16 rfl rfl)
theorem dX10_isLetter_39 : decode cX10_isLetter 39 = .ok (.getfield 15, 3) := dk_180 0 15 (dk_at dksX10_isLetter_1 17 rfl rfl)
theorem dX10_isLetter_42 : decode cX10_isLetter 42 = .ok (.baload, 1) := dk_51 (dk_at dksX10_isLetter_1 20 rfl rfl)
theorem dX10_isLetter_43 : decode cX10_isLetter 43 = .ok (.bipush 122, 2) := dk_16 122 (dk_at dksX10_isLetter_1 21 rfl rfl)
theorem dX10_isLetter_45 : decode cX10_isLetter 45 = .ok (.if_icmp .gt 7, 3) := dk_163 0 7 (dk_at dksX10_isLetter_2 0 rfl rfl)
theorem dX10_isLetter_48 : decode cX10_isLetter 48 = .ok (.iconst 1, 1) := dk_4 (dk_at dksX10_isLetter_2 3 rfl rfl)
theorem dX10_isLetter_49 : decode cX10_isLetter 49 = .ok (.goto 4, 3) := dk_167 0 4 (dk_at dksX10_isLetter_2 4 rfl rfl)
theorem dX10_isLetter_52 : decode cX10_isLetter 52 = .ok (.iconst 0, 1) := dk_3 (dk_at dksX10_isLetter_2 7 rfl rfl)
theorem dX10_isLetter_53 : decode cX10_isLetter 53 = .ok (.ireturn, 1) := dk_172 (dk_at dksX10_isLetter_2 8 rfl rfl)
def dkwX10_samples_2 : List UInt8 := [17, 3, 231, 182, 0, 55, 182, 0, 59, 42, 182, 0, 26, 61, 167, 255, 211, 177]
abbrev dktX10_samples_2 : List UInt8 := dkwX10_samples_2 ++ []
def dkwX10_samples_1 : List UInt8 := [43, 180, 0, 64, 16, 48, 160, 0, 15, 187, 0, 50, 89, 42, 180, 0, 15, 183, 0, 52, 191, 43, 42, 3]
abbrev dktX10_samples_1 : List UInt8 := dkwX10_samples_1 ++ dktX10_samples_2
def dkwX10_samples_0 : List UInt8 := [43, 42, 3, 17, 3, 231, 182, 0, 55, 182, 0, 59, 42, 182, 0, 26, 61, 42, 182, 0, 41, 153, 0, 44]
abbrev dktX10_samples_0 : List UInt8 := dkwX10_samples_0 ++ dktX10_samples_1
theorem dksX10_samples_0 : cX10_samples.data.toList.drop 0 = dktX10_samples_0 := by decide +kernel
theorem dksX10_samples_1 : cX10_samples.data.toList.drop 24 = dktX10_samples_1 := dk_seg dksX10_samples_0 24 rfl rfl
theorem dksX10_samples_2 : cX10_samples.data.toList.drop 48 = dktX10_samples_2 := dk_seg dksX10_samples_1 24 rfl rfl
theorem dX10_samples_0 : decode cX10_samples 0 = .ok (.aload_n 1, 1) := dk_43 (dk_at dksX10_samples_0 0 rfl rfl)
theorem dX10_samples_1 : decode cX10_samples 1 = .ok (.aload_n 0, 1) := dk_42 (dk_at dksX10_samples_0 1 rfl rfl)
theorem dX10_samples_2 : decode cX10_samples 2 = .ok (.iconst 0, 1) := dk_3 (dk_at dksX10_samples_0 2 rfl rfl)
theorem dX10_samples_3 : decode cX10_samples 3 = .ok (.sipush 999, 3) := dk_17 3 231 (dk_at dksX10_samples_0 3 rfl rfl)
theorem dX10_samples_6 : decode cX10_samples 6 = .ok (.invokevirtual 55, 3) := dk_182 0 55 (dk_at dksX10_samples_0 6 rfl rfl)
theorem dX10_samples_9 : decode cX10_samples 9 = .ok (.invokevirtual 59, 3) := dk_182 0 59 (dk_at dksX10_samples_0 9 rfl rfl)
theorem dX10_samples_12 : decode cX10_samples 12 = .ok (.aload_n 0, 1) := dk_42 (dk_at dksX10_samples_0 12 rfl rfl)
theorem dX10_samples_13 : decode cX10_samples 13 = .ok (.invokevirtual 26, 3) := dk_182 0 26 (dk_at dksX10_samples_0 13 rfl rfl)
theorem dX10_samples_16 : decode cX10_samples 16 = .ok (.istore_n 2, 1) := dk_61 (dk_at dksX10_samples_0 16 rfl rfl)
theorem dX10_samples_17 : decode cX10_samples 17 = .ok (.aload_n 0, 1) := dk_42 (dk_at dksX10_samples_0 17 rfl rfl)
theorem dX10_samples_18 : decode cX10_samples 18 = .ok (.invokevirtual 41, 3) := dk_182 0 41 (dk_at dksX10_samples_0 18 rfl rfl)
theorem dX10_samples_21 : decode cX10_samples 21 = .ok (.ifCond .eq 44, 3) := dk_153 0 44 (dk_at dksX10_samples_0 21 rfl rfl)
theorem dX10_samples_24 : decode cX10_samples 24 = .ok (.aload_n 1, 1) := dk_43 (dk_at dksX10_samples_1 0 rfl rfl)
theorem dX10_samples_25 : decode cX10_samples 25 = .ok (.getfield 64, 3) := dk_180 0 64 (dk_at dksX10_samples_1 1 rfl rfl)
theorem dX10_samples_28 : decode cX10_samples 28 = .ok (.bipush 48, 2) := dk_16 48 (dk_at dksX10_samples_1 4 rfl rfl)
theorem dX10_samples_30 : decode cX10_samples 30 = .ok (.if_icmp .ne 15, 3) := dk_160 0 15 (dk_at dksX10_samples_1 6 rfl rfl)
theorem dX10_samples_33 : decode cX10_samples 33 = .ok (.new 50, 3) := dk_187 0 50 (dk_at dksX10_samples_1 9 rfl rfl)
theorem dX10_samples_36 : decode cX10_samples 36 = .ok (.dup, 1) := dk_89 (dk_at dksX10_samples_1 12 rfl rfl)
theorem dX10_samples_37 : decode cX10_samples 37 = .ok (.aload_n 0, 1) := dk_42 (dk_at dksX10_samples_1 13 rfl rfl)
theorem dX10_samples_38 : decode cX10_samples 38 = .ok (.getfield 15, 3) := dk_180 0 15 (dk_at dksX10_samples_1 14 rfl rfl)
theorem dX10_samples_41 : decode cX10_samples 41 = .ok (.invokespecial 52, 3) := dk_183 0 52 (dk_at dksX10_samples_1 17 rfl rfl)
theorem dX10_samples_44 : decode cX10_samples 44 = .ok (.athrow, 1) := dk_191 (dk_at dksX10_samples_1 20 rfl rfl)
theorem dX10_samples_45 : decode cX10_samples 45 = .ok (.aload_n 1, 1) := dk_43 (dk_at dksX10_samples_1 21 rfl rfl)
theorem dX10_samples_46 : decode cX10_samples 46 = .ok (.aload_n 0, 1) := dk_42 (dk_at dksX10_samples_1 22 rfl rfl)
theorem dX10_samples_47 : decode cX10_samples 47 = .ok (.iconst 0, 1) := dk_3 (dk_at dksX10_samples_1 23 rfl rfl)
theorem dX10_samples_48 : decode cX10_samples 48 = .ok (.sipush 999, 3) := dk_17 3 231 (dk_at dksX10_samples_2 0 rfl rfl)
theorem dX10_samples_51 : decode cX10_samples 51 = .ok (.invokevirtual 55, 3) := dk_182 0 55 (dk_at dksX10_samples_2 3 rfl rfl)
theorem dX10_samples_54 : decode cX10_samples 54 = .ok (.invokevirtual 59, 3) := dk_182 0 59 (dk_at dksX10_samples_2 6 rfl rfl)
theorem dX10_samples_57 : decode cX10_samples 57 = .ok (.aload_n 0, 1) := dk_42 (dk_at dksX10_samples_2 9 rfl rfl)
theorem dX10_samples_58 : decode cX10_samples 58 = .ok (.invokevirtual 26, 3) := dk_182 0 26 (dk_at dksX10_samples_2 10 rfl rfl)
theorem dX10_samples_61 : decode cX10_samples 61 = .ok (.istore_n 2, 1) := dk_61 (dk_at dksX10_samples_2 13 rfl rfl)
theorem dX10_samples_62 : decode cX10_samples 62 = .ok (.goto (-45), 3) := dk_167 255 211 (dk_at dksX10_samples_2 14 rfl rfl)
theorem dX10_samples_65 : decode cX10_samples 65 = .ok (.return_, 1) := dk_177 (dk_at dksX10_samples_2 17 rfl rfl)
def dkwX10_number_6 : List UInt8 := [21, 4, 183, 0, 52, 191, 21, 5, 153, 0, 9, 21, 7, 116, 167, 0, 5, 21, 7, 172]
abbrev dktX10_number_6 : List UInt8 := dkwX10_number_6 ++ []
def dkwX10_number_5 : List UInt8 := [21, 6, 100, 133, 10, 20, 0, 44, 184, 0, 46, 153, 0, 9, 21, 7, 28, 164, 0, 13, 187, 0, 50, 89]
abbrev dktX10_number_5 : List UInt8 := dkwX10_number_5 ++ dktX10_number_6
def dkwX10_number_4 : List UInt8 := [167, 0, 5, 21, 7, 54, 7, 42, 89, 180, 0, 15, 4, 96, 181, 0, 15, 167, 255, 200, 42, 180, 0, 15]
abbrev dktX10_number_4 : List UInt8 := dkwX10_number_4 ++ dktX10_number_5
def dkwX10_number_3 : List UInt8 := [162, 0, 27, 16, 10, 21, 7, 104, 42, 180, 0, 3, 180, 0, 22, 42, 180, 0, 15, 51, 96, 16, 48, 100]
abbrev dktX10_number_3 : List UInt8 := dkwX10_number_3 ++ dktX10_number_4
def dkwX10_number_2 : List UInt8 := [180, 0, 15, 54, 6, 3, 54, 7, 42, 182, 0, 41, 153, 0, 55, 42, 180, 0, 15, 21, 6, 100, 6]
abbrev dktX10_number_2 : List UInt8 := dkwX10_number_2 ++ dktX10_number_3
def dkwX10_number_1 : List UInt8 := [167, 0, 4, 3, 54, 5, 21, 5, 153, 0, 13, 42, 89, 180, 0, 15, 4, 96, 181, 0, 15, 42]
abbrev dktX10_number_1 : List UInt8 := dkwX10_number_1 ++ dktX10_number_2
def dkwX10_number_0 : List UInt8 := [42, 182, 0, 26, 62, 42, 180, 0, 15, 54, 4, 27, 153, 0, 13, 29, 16, 45, 160, 0, 7, 4]
abbrev dktX10_number_0 : List UInt8 := dkwX10_number_0 ++ dktX10_number_1
theorem dksX10_number_0 : cX10_number.data.toList.drop 0 = dktX10_number_0 := by decide +kernel
theorem dksX10_number_1 : cX10_number.data.toList.drop 22 = dktX10_number_1 := dk_seg dksX10_number_0 22 rfl rfl
theorem dksX10_number_2 : cX10_number.data.toList.drop 44 = dktX10_number_2 := dk_seg dksX10_number_1 22 rfl rfl
theorem dksX10_number_3 : cX10_number.data.toList.drop 67 = dktX10_number_3 := dk_seg dksX10_number_2 23 rfl rfl
theorem dksX10_number_4 : cX10_number.data.toList.drop 91 = dktX10_number_4 := dk_seg dksX10_number_3 24 rfl rfl
theorem dksX10_number_5 : cX10_number.data.toList.drop 115 = dktX10_number_5 := dk_seg dksX10_number_4 24 rfl rfl
theorem dksX10_number_6 : cX10_number.data.toList.drop 139 = dktX10_number_6 := dk_seg dksX10_number_5 24 rfl rfl
theorem dX10_number_0 : decode cX10_number 0 = .ok (.aload_n 0, 1) := dk_42 (dk_at dksX10_number_0 0 rfl rfl)
theorem dX10_number_1 : decode cX10_number 1 = .ok (.invokevirtual 26, 3) := dk_182 0 26 (dk_at dksX10_number_0 1 rfl rfl)
theorem dX10_number_4 : decode cX10_number 4 = .ok (.istore_n 3, 1) := dk_62 (dk_at dksX10_number_0 4 rfl rfl)
theorem dX10_number_5 : decode cX10_number 5 = .ok (.aload_n 0, 1) := dk_42 (dk_at dksX10_number_0 5 rfl rfl)
theorem dX10_number_6 : decode cX10_number 6 = .ok (.getfield 15, 3) := dk_180 0 15 (dk_at dksX10_number_0 6 rfl rfl)
theorem dX10_number_9 : decode cX10_number 9 = .ok (.istore 4, 2) := dk_54 4 (dk_at dksX10_number_0 9 rfl rfl)
theorem dX10_number_11 : decode cX10_number 11 = .ok (.iload_n 1, 1) := dk_27 (dk_at dksX10_number_0 11 rfl rfl)
theorem dX10_number_12 : decode cX10_number 12 = .ok (.ifCond .eq 13, 3) := dk_153 0 13 (dk_at dksX10_number_0 12 rfl rfl)
theorem dX10_number_15 : decode cX10_number 15 = .ok (.iload_n 3, 1) := dk_29 (dk_at dksX10_number_0 15 rfl rfl)
theorem dX10_number_16 : decode cX10_number 16 = .ok (.bipush 45, 2) := dk_16 45 (dk_at dksX10_number_0 16 rfl rfl)
theorem dX10_number_18 : decode cX10_number 18 = .ok (.if_icmp .ne 7, 3) := dk_160 0 7 (dk_at dksX10_number_0 18 rfl rfl)
theorem dX10_number_21 : decode cX10_number 21 = .ok (.iconst 1, 1) := dk_4 (dk_at dksX10_number_0 21 rfl rfl)
theorem dX10_number_22 : decode cX10_number 22 = .ok (.goto 4, 3) := dk_167 0 4 (dk_at dksX10_number_1 0 rfl rfl)
theorem dX10_number_25 : decode cX10_number 25 = .ok (.iconst 0, 1) := dk_3 (dk_at dksX10_number_1 3 rfl rfl)
theorem dX10_number_26 : decode cX10_number 26 = .ok (.istore 5, 2) := dk_54 5 (dk_at dksX10_number_1 4 rfl rfl)
theorem dX10_number_28 : decode cX10_number 28 = .ok (.iload 5, 2) := dk_21 5 (dk_at dksX10_number_1 6 rfl rfl)
theorem dX10_number_30 : decode cX10_number 30 = .ok (.ifCond .eq 13, 3) := dk_153 0 13 (dk_at dksX10_number_1 8 rfl rfl)
theorem dX10_number_33 : decode cX10_number 33 = .ok (.aload_n 0, 1) := dk_42 (dk_at dksX10_number_1 11 rfl rfl)
theorem dX10_number_34 : decode cX10_number 34 = .ok (.dup, 1) := dk_89 (dk_at dksX10_number_1 12 rfl rfl)
theorem dX10_number_35 : decode cX10_number 35 = .ok (.getfield 15, 3) := dk_180 0 15 (dk_at dksX10_number_1 13 rfl rfl)
theorem dX10_number_38 : decode cX10_number 38 = .ok (.iconst 1, 1) := dk_4 (dk_at dksX10_number_1 16 rfl rfl)
theorem dX10_number_39 : decode cX10_number 39 = .ok (.iadd, 1) := dk_96 (dk_at dksX10_number_1 17 rfl rfl)
theorem dX10_number_40 : decode cX10_number 40 = .ok (.putfield 15, 3) := dk_181 0 15 (dk_at dksX10_number_1 18 rfl rfl)
theorem dX10_number_43 : decode cX10_number 43 = .ok (.aload_n 0, 1) := dk_42 (dk_at dksX10_number_1 21 rfl rfl)
theorem dX10_number_44 : decode cX10_number 44 = .ok (.getfield 15, 3) := dk_180 0 15 (dk_at dksX10_number_2 0 rfl rfl)
theorem dX10_number_47 : decode cX10_number 47 = .ok (.istore 6, 2) := dk_54 6 (dk_at dksX10_number_2 3 rfl rfl)
theorem dX10_number_49 : decode cX10_number 49 = .ok (.iconst 0, 1) := dk_3 (dk_at dksX10_number_2 5 rfl rfl)
theorem dX10_number_50 : decode cX10_number 50 = .ok (.istore 7, 2) := dk_54 7 (dk_at dksX10_number_2 6 rfl rfl)
theorem dX10_number_52 : decode cX10_number 52 = .ok (.aload_n 0, 1) := dk_42 (dk_at dksX10_number_2 8 rfl rfl)
theorem dX10_number_53 : decode cX10_number 53 = .ok (.invokevirtual 41, 3) := dk_182 0 41 (dk_at dksX10_number_2 9 rfl rfl)
theorem dX10_number_56 : decode cX10_number 56 = .ok (.ifCond .eq 55, 3) := dk_153 0 55 (dk_at dksX10_number_2 12 rfl rfl)
theorem dX10_number_59 : decode cX10_number 59 = .ok (.aload_n 0, 1) := dk_42 (dk_at dksX10_number_2 15 rfl rfl)
theorem dX10_number_60 : decode cX10_number 60 = .ok (.getfield 15, 3) := dk_180 0 15 (dk_at dksX10_number_2 16 rfl rfl)
theorem dX10_number_63 : decode cX10_number 63 = .ok (.iload 6, 2) := dk_21 6 (dk_at dksX10_number_2 19 rfl rfl)
theorem dX10_number_65 : decode cX10_number 65 = .ok (.isub, 1) := dk_100 (dk_at dksX10_number_2 21 rfl rfl)
theorem dX10_number_66 : decode cX10_number 66 = .ok (.iconst 3, 1) := dk_6 (dk_at dksX10_number_2 22 rfl rfl)
theorem dX10_number_67 : decode cX10_number 67 = .ok (.if_icmp .ge 27, 3) := dk_162 0 27 (dk_at dksX10_number_3 0 rfl rfl)
theorem dX10_number_70 : decode cX10_number 70 = .ok (.bipush 10, 2) := dk_16 10 (dk_at dksX10_number_3 3 rfl rfl)
theorem dX10_number_72 : decode cX10_number 72 = .ok (.iload 7, 2) := dk_21 7 (dk_at dksX10_number_3 5 rfl rfl)
theorem dX10_number_74 : decode cX10_number 74 = .ok (.imul, 1) := dk_104 (dk_at dksX10_number_3 7 rfl rfl)
theorem dX10_number_75 : decode cX10_number 75 = .ok (.aload_n 0, 1) := dk_42 (dk_at dksX10_number_3 8 rfl rfl)
theorem dX10_number_76 : decode cX10_number 76 = .ok (.getfield 3, 3) := dk_180 0 3 (dk_at dksX10_number_3 9 rfl rfl)
theorem dX10_number_79 : decode cX10_number 79 = .ok (.getfield 22, 3) := dk_180 0 22 (dk_at dksX10_number_3 12 rfl rfl)
theorem dX10_number_82 : decode cX10_number 82 = .ok (.aload_n 0, 1) := dk_42 (dk_at dksX10_number_3 15 rfl rfl)
theorem dX10_number_83 : decode cX10_number 83 = .ok (.getfield 15, 3) := dk_180 0 15 (dk_at dksX10_number_3 16 rfl rfl)
theorem dX10_number_86 : decode cX10_number 86 = .ok (.baload, 1) := dk_51 (dk_at dksX10_number_3 19 rfl rfl)
theorem dX10_number_87 : decode cX10_number 87 = .ok (.iadd, 1) := dk_96 (dk_at dksX10_number_3 20 rfl rfl)
theorem dX10_number_88 : decode cX10_number 88 = .ok (.bipush 48, 2) := dk_16 48 (dk_at dksX10_number_3 21 rfl rfl)
theorem dX10_number_90 : decode cX10_number 90 = .ok (.isub, 1) := dk_100 (dk_at dksX10_number_3 23 rfl rfl)
theorem dX10_number_91 : decode cX10_number 91 = .ok (.goto 5, 3) := dk_167 0 5 (dk_at dksX10_number_4 0 rfl rfl)
theorem dX10_number_94 : decode cX10_number 94 = .ok (.iload 7, 2) := dk_21 7 (dk_at dksX10_number_4 3 rfl rfl)
theorem dX10_number_96 : decode cX10_number 96 = .ok (.istore 7, 2) := dk_54 7 (dk_at dksX10_number_4 5 rfl rfl)
theorem dX10_number_98 : decode cX10_number 98 = .ok (.aload_n 0, 1) := dk_42 (dk_at dksX10_number_4 7 rfl rfl)
theorem dX10_number_99 : decode cX10_number 99 = .ok (.dup, 1) := dk_89 (dk_at dksX10_number_4 8 rfl rfl)
theorem dX10_number_100 : decode cX10_number 100 = .ok (.getfield 15, 3) := dk_180 0 15 (dk_at dksX10_number_4 9 rfl rfl)
theorem dX10_number_103 : decode cX10_number 103 = .ok (.iconst 1, 1) := dk_4 (dk_at dksX10_number_4 12 rfl rfl)
theorem dX10_number_104 : decode cX10_number 104 = .ok (.iadd, 1) := dk_96 (dk_at dksX10_number_4 13 rfl rfl)
theorem dX10_number_105 : decode cX10_number 105 = .ok (.putfield 15, 3) := dk_181 0 15 (dk_at dksX10_number_4 14 rfl rfl)
theorem dX10_number_108 : decode cX10_number 108 = .ok (.goto (-56), 3) := dk_167 255 200 (dk_at dksX10_number_4 17 rfl rfl)
theorem dX10_number_111 : decode cX10_number 111 = .ok (.aload_n 0, 1) := dk_42 (dk_at dksX10_number_4 20 rfl rfl)
theorem dX10_number_112 : decode cX10_number 112 = .ok (.getfield 15, 3) := dk_180 0 15 (dk_at dksX10_number_4 21 rfl rfl)
theorem dX10_number_115 : decode cX10_number 115 = .ok (.iload 6, 2) := dk_21 6 (dk_at dksX10_number_5 0 rfl rfl)
theorem dX10_number_117 : decode cX10_number 117 = .ok (.isub, 1) := dk_100 (dk_at dksX10_number_5 2 rfl rfl)
theorem dX10_number_118 : decode cX10_number 118 = .ok (.i2l, 1) := dk_133 (dk_at dksX10_number_5 3 rfl rfl)
theorem dX10_number_119 : decode cX10_number 119 = .ok (.lconst 1, 1) := dk_10 (dk_at dksX10_number_5 4 rfl rfl)
theorem dX10_number_120 : decode cX10_number 120 = .ok (.ldc2_w 44, 3) := dk_20 0 44 (dk_at dksX10_number_5 5 rfl rfl)
theorem dX10_number_123 : decode cX10_number 123 = .ok (.invokestatic 46, 3) := dk_184 0 46 (dk_at dksX10_number_5 8 rfl rfl)
theorem dX10_number_126 : decode cX10_number 126 = .ok (.ifCond .eq 9, 3) := dk_153 0 9 (dk_at dksX10_number_5 11 rfl rfl)
theorem dX10_number_129 : decode cX10_number 129 = .ok (.iload 7, 2) := dk_21 7 (dk_at dksX10_number_5 14 rfl rfl)
theorem dX10_number_131 : decode cX10_number 131 = .ok (.iload_n 2, 1) := dk_28 (dk_at dksX10_number_5 16 rfl rfl)
theorem dX10_number_132 : decode cX10_number 132 = .ok (.if_icmp .le 13, 3) := dk_164 0 13 (dk_at dksX10_number_5 17 rfl rfl)
theorem dX10_number_135 : decode cX10_number 135 = .ok (.new 50, 3) := dk_187 0 50 (dk_at dksX10_number_5 20 rfl rfl)
theorem dX10_number_138 : decode cX10_number 138 = .ok (.dup, 1) := dk_89 (dk_at dksX10_number_5 23 rfl rfl)
theorem dX10_number_139 : decode cX10_number 139 = .ok (.iload 4, 2) := dk_21 4 (dk_at dksX10_number_6 0 rfl rfl)
theorem dX10_number_141 : decode cX10_number 141 = .ok (.invokespecial 52, 3) := dk_183 0 52 (dk_at dksX10_number_6 2 rfl rfl)
theorem dX10_number_144 : decode cX10_number 144 = .ok (.athrow, 1) := dk_191 (dk_at dksX10_number_6 5 rfl rfl)
theorem dX10_number_145 : decode cX10_number 145 = .ok (.iload 5, 2) := dk_21 5 (dk_at dksX10_number_6 6 rfl rfl)
theorem dX10_number_147 : decode cX10_number 147 = .ok (.ifCond .eq 9, 3) := dk_153 0 9 (dk_at dksX10_number_6 8 rfl rfl)
theorem dX10_number_150 : decode cX10_number 150 = .ok (.iload 7, 2) := dk_21 7 (dk_at dksX10_number_6 11 rfl rfl)
theorem dX10_number_152 : decode cX10_number 152 = .ok (.ineg, 1) := dk_116 (dk_at dksX10_number_6 13 rfl rfl)
theorem dX10_number_153 : decode cX10_number 153 = .ok (.goto 5, 3) := dk_167 0 5 (dk_at dksX10_number_6 14 rfl rfl)
theorem dX10_number_156 : decode cX10_number 156 = .ok (.iload 7, 2) := dk_21 7 (dk_at dksX10_number_6 17 rfl rfl)
theorem dX10_number_158 : decode cX10_number 158 = .ok (.ireturn, 1) := dk_172 (dk_at dksX10_number_6 19 rfl rfl)
def dkwX10_isDigit_2 : List UInt8 := [163, 0, 7, 4, 167, 0, 4, 3, 172]
abbrev dktX10_isDigit_2 : List UInt8 := dkwX10_isDigit_2 ++ []
def dkwX10_isDigit_1 : List UInt8 := [180, 0, 15, 51, 16, 48, 161, 0, 24, 42, 180, 0, 3, 180, 0, 22, 42, 180, 0, 15, 51, 16, 57]
abbrev dktX10_isDigit_1 : List UInt8 := dkwX10_isDigit_1 ++ dktX10_isDigit_2
def dkwX10_isDigit_0 : List UInt8 := [42, 180, 0, 15, 42, 180, 0, 3, 180, 0, 19, 162, 0, 41, 42, 180, 0, 3, 180, 0, 22, 42]
abbrev dktX10_isDigit_0 : List UInt8 := dkwX10_isDigit_0 ++ dktX10_isDigit_1
theorem dksX10_isDigit_0 : cX10_isDigit.data.toList.drop 0 = dktX10_isDigit_0 := by decide +kernel
theorem dksX10_isDigit_1 : cX10_isDigit.data.toList.drop 22 = dktX10_isDigit_1 := dk_seg dksX10_isDigit_0 22 rfl rfl
theorem dksX10_isDigit_2 : cX10_isDigit.data.toList.drop 45 = dktX10_isDigit_2 := dk_seg dksX10_isDigit_1 23 rfl rfl
theorem dX10_isDigit_0 : decode cX10_isDigit 0 = .ok (.aload_n 0, 1) := dk_42 (dk_at dksX10_isDigit_0 0 rfl rfl)
theorem dX10_isDigit_1 : decode cX10_isDigit 1 = .ok (.getfield 15, 3) := dk_180 0 15 (dk_at dksX10_isDigit_0 1 rfl rfl)
theorem dX10_isDigit_4 : decode cX10_isDigit 4 = .ok (.aload_n 0, 1) := dk_42 (dk_at dksX10_isDigit_0 4 rfl rfl)
theorem dX10_isDigit_5 : decode cX10_isDigit 5 = .ok (.getfield 3, 3) := dk_180 0 3 (dk_at dksX10_isDigit_0 5 rfl rfl)
theorem dX10_isDigit_8 : decode cX10_isDigit 8 = .ok (.getfield 19, 3) := dk_180 0 19 (dk_at dksX10_isDigit_0 8 rfl rfl)
theorem dX10_isDigit_11 : decode cX10_isDigit 11 = .ok (.if_icmp .ge 41, 3) := dk_162 0 41 (dk_at dksX10_isDigit_0 11 rfl rfl)
theorem dX10_isDigit_14 : decode cX10_isDigit 14 = .ok (.aload_n 0, 1) := dk_42 (dk_at dksX10_isDigit_0 14 rfl rfl)
theorem dX10_isDigit_15 : decode cX10_isDigit 15 = .ok (.getfield 3, 3) := dk_180 0 3 (dk_at dksX10_isDigit_0 15 rfl rfl)
theorem dX10_isDigit_18 : decode cX10_isDigit 18 = .ok (.getfield 22, 3) := dk_180 0 22 (dk_at dksX10_isDigit_0 18 rfl rfl)
theorem dX10_isDigit_21 : decode cX10_isDigit 21 = .ok (.aload_n 0, 1) := dk_42 (dk_at dksX10_isDigit_0 21 rfl rfl)
theorem dX10_isDigit_22 : decode cX10_isDigit 22 = .ok (.getfield 15, 3) := dk_180 0 15 (dk_at dksX10_isDigit_1 0 rfl rfl)
theorem dX10_isDigit_25 : decode cX10_isDigit 25 = .ok (.baload, 1) := dk_51 (dk_at dksX10_isDigit_1 3 rfl rfl)
theorem dX10_isDigit_26 : decode cX10_isDigit 26 = .ok (.bipush 48, 2) := dk_16 48 (dk_at dksX10_isDigit_1 4 rfl rfl)
theorem dX10_isDigit_28 : decode cX10_isDigit 28 = .ok (.if_icmp .lt 24, 3) := dk_161 0 24 (dk_at dksX10_isDigit_1 6 rfl rfl)
theorem dX10_isDigit_31 : decode cX10_isDigit 31 = .ok (.aload_n 0, 1) := dk_42 (dk_at dksX10_isDigit_1 9 rfl rfl)
theorem dX10_isDigit_32 : decode cX10_isDigit 32 = .ok (.getfield 3, 3) := dk_180 0 3 (dk_at dksX10_isDigit_1 10 rfl rfl)
theorem dX10_isDigit_35 : decode cX10_isDigit 35 = .ok (.getfield 22, 3) := dk_180 0 22 (dk_at dksX10_isDigit_1 13 rfl rfl)
theorem dX10_isDigit_38 : decode cX10_isDigit 38 = .ok (.aload_n 0, 1) := dk_42 (dk_at dksX10_isDigit_1 16 rfl rfl)
theorem dX10_isDigit_39 : decode cX10_isDigit 39 = .ok (.getfield 15, 3) := dk_180 0 15 (dk_at dksX10_isDigit_1 17 rfl rfl)
theorem dX10_isDigit_42 : decode cX10_isDigit 42 = .ok (.baload, 1) := dk_51 (dk_at dksX10_isDigit_1 20 rfl rfl)
theorem dX10_isDigit_43 : decode cX10_isDigit 43 = .ok (.bipush 57, 2) := dk_16 57 (dk_at dksX10_isDigit_1 21 rfl rfl)
theorem dX10_isDigit_45 : decode cX10_isDigit 45 = .ok (.if_icmp .gt 7, 3) := dk_163 0 7 (dk_at dksX10_isDigit_2 0 rfl rfl)
theorem dX10_isDigit_48 : decode cX10_isDigit 48 = .ok (.iconst 1, 1) := dk_4 (dk_at dksX10_isDigit_2 3 rfl rfl)
theorem dX10_isDigit_49 : decode cX10_isDigit 49 = .ok (.goto 4, 3) := dk_167 0 4 (dk_at dksX10_isDigit_2 4 rfl rfl)
theorem dX10_isDigit_52 : decode cX10_isDigit 52 = .ok (.iconst 0, 1) := dk_3 (dk_at dksX10_isDigit_2 7 rfl rfl)
theorem dX10_isDigit_53 : decode cX10_isDigit 53 = .ok (.ireturn, 1) := dk_172 (dk_at dksX10_isDigit_2 8 rfl rfl)
def dkwX10_line_3 : List UInt8 := [43, 180, 0, 87, 42, 3, 16, 47, 182, 0, 55, 79, 43, 89, 180, 0, 87, 4, 96, 181, 0, 87, 177]
abbrev dktX10_line_3 : List UInt8 := dkwX10_line_3 ++ []
def dkwX10_line_2 : List UInt8 := [183, 0, 52, 191, 43, 180, 0, 83, 43, 180, 0, 87, 25, 4, 185, 0, 90, 1, 0, 83, 43, 180, 0, 94]
abbrev dktX10_line_2 : List UInt8 := dkwX10_line_2 ++ dktX10_line_3
def dkwX10_line_1 : List UInt8 := [10, 20, 0, 75, 184, 0, 46, 153, 0, 12, 43, 25, 4, 182, 0, 77, 153, 0, 12, 187, 0, 50, 89, 29]
abbrev dktX10_line_1 : List UInt8 := dkwX10_line_1 ++ dktX10_line_2
def dkwX10_line_0 : List UInt8 := [42, 182, 0, 26, 61, 42, 180, 0, 15, 62, 42, 182, 0, 67, 58, 4, 25, 4, 185, 0, 71, 1, 0, 133]
abbrev dktX10_line_0 : List UInt8 := dkwX10_line_0 ++ dktX10_line_1
theorem dksX10_line_0 : cX10_line.data.toList.drop 0 = dktX10_line_0 := by decide +kernel
theorem dksX10_line_1 : cX10_line.data.toList.drop 24 = dktX10_line_1 := dk_seg dksX10_line_0 24 rfl rfl
theorem dksX10_line_2 : cX10_line.data.toList.drop 48 = dktX10_line_2 := dk_seg dksX10_line_1 24 rfl rfl
theorem dksX10_line_3 : cX10_line.data.toList.drop 72 = dktX10_line_3 := dk_seg dksX10_line_2 24 rfl rfl
theorem dX10_line_0 : decode cX10_line 0 = .ok (.aload_n 0, 1) := dk_42 (dk_at dksX10_line_0 0 rfl rfl)
theorem dX10_line_1 : decode cX10_line 1 = .ok (.invokevirtual 26, 3) := dk_182 0 26 (dk_at dksX10_line_0 1 rfl rfl)
theorem dX10_line_4 : decode cX10_line 4 = .ok (.istore_n 2, 1) := dk_61 (dk_at dksX10_line_0 4 rfl rfl)
theorem dX10_line_5 : decode cX10_line 5 = .ok (.aload_n 0, 1) := dk_42 (dk_at dksX10_line_0 5 rfl rfl)
theorem dX10_line_6 : decode cX10_line 6 = .ok (.getfield 15, 3) := dk_180 0 15 (dk_at dksX10_line_0 6 rfl rfl)
theorem dX10_line_9 : decode cX10_line 9 = .ok (.istore_n 3, 1) := dk_62 (dk_at dksX10_line_0 9 rfl rfl)
theorem dX10_line_10 : decode cX10_line 10 = .ok (.aload_n 0, 1) := dk_42 (dk_at dksX10_line_0 10 rfl rfl)
theorem dX10_line_11 : decode cX10_line 11 = .ok (.invokevirtual 67, 3) := dk_182 0 67 (dk_at dksX10_line_0 11 rfl rfl)
theorem dX10_line_14 : decode cX10_line 14 = .ok (.astore 4, 2) := dk_58 4 (dk_at dksX10_line_0 14 rfl rfl)
theorem dX10_line_16 : decode cX10_line 16 = .ok (.aload 4, 2) := dk_25 4 (dk_at dksX10_line_0 16 rfl rfl)
theorem dX10_line_18 : decode cX10_line 18 = .ok (.invokeinterface 71 1, 5) := by decide +kernel
theorem dX10_line_23 : decode cX10_line 23 = .ok (.i2l, 1) := dk_133 (dk_at dksX10_line_0 23 rfl rfl)
theorem dX10_line_24 : decode cX10_line 24 = .ok (.lconst 1, 1) := dk_10 (dk_at dksX10_line_1 0 rfl rfl)
theorem dX10_line_25 : decode cX10_line 25 = .ok (.ldc2_w 75, 3) := dk_20 0 75 (dk_at dksX10_line_1 1 rfl rfl)
theorem dX10_line_28 : decode cX10_line 28 = .ok (.invokestatic 46, 3) := dk_184 0 46 (dk_at dksX10_line_1 4 rfl rfl)
theorem dX10_line_31 : decode cX10_line 31 = .ok (.ifCond .eq 12, 3) := dk_153 0 12 (dk_at dksX10_line_1 7 rfl rfl)
theorem dX10_line_34 : decode cX10_line 34 = .ok (.aload_n 1, 1) := dk_43 (dk_at dksX10_line_1 10 rfl rfl)
theorem dX10_line_35 : decode cX10_line 35 = .ok (.aload 4, 2) := dk_25 4 (dk_at dksX10_line_1 11 rfl rfl)
theorem dX10_line_37 : decode cX10_line 37 = .ok (.invokevirtual 77, 3) := dk_182 0 77 (dk_at dksX10_line_1 13 rfl rfl)
theorem dX10_line_40 : decode cX10_line 40 = .ok (.ifCond .eq 12, 3) := dk_153 0 12 (dk_at dksX10_line_1 16 rfl rfl)
theorem dX10_line_43 : decode cX10_line 43 = .ok (.new 50, 3) := dk_187 0 50 (dk_at dksX10_line_1 19 rfl rfl)
theorem dX10_line_46 : decode cX10_line 46 = .ok (.dup, 1) := dk_89 (dk_at dksX10_line_1 22 rfl rfl)
theorem dX10_line_47 : decode cX10_line 47 = .ok (.iload_n 3, 1) := dk_29 (dk_at dksX10_line_1 23 rfl rfl)
theorem dX10_line_48 : decode cX10_line 48 = .ok (.invokespecial 52, 3) := dk_183 0 52 (dk_at dksX10_line_2 0 rfl rfl)
theorem dX10_line_51 : decode cX10_line 51 = .ok (.athrow, 1) := dk_191 (dk_at dksX10_line_2 3 rfl rfl)
theorem dX10_line_52 : decode cX10_line 52 = .ok (.aload_n 1, 1) := dk_43 (dk_at dksX10_line_2 4 rfl rfl)
theorem dX10_line_53 : decode cX10_line 53 = .ok (.getfield 83, 3) := dk_180 0 83 (dk_at dksX10_line_2 5 rfl rfl)
theorem dX10_line_56 : decode cX10_line 56 = .ok (.aload_n 1, 1) := dk_43 (dk_at dksX10_line_2 8 rfl rfl)
theorem dX10_line_57 : decode cX10_line 57 = .ok (.getfield 87, 3) := dk_180 0 87 (dk_at dksX10_line_2 9 rfl rfl)
theorem dX10_line_60 : decode cX10_line 60 = .ok (.aload 4, 2) := dk_25 4 (dk_at dksX10_line_2 12 rfl rfl)
theorem dX10_line_62 : decode cX10_line 62 = .ok (.invokeinterface 90 1, 5) := by decide +kernel
theorem dX10_line_67 : decode cX10_line 67 = .ok (.aastore, 1) := dk_83 (dk_at dksX10_line_2 19 rfl rfl)
theorem dX10_line_68 : decode cX10_line 68 = .ok (.aload_n 1, 1) := dk_43 (dk_at dksX10_line_2 20 rfl rfl)
theorem dX10_line_69 : decode cX10_line 69 = .ok (.getfield 94, 3) := dk_180 0 94 (dk_at dksX10_line_2 21 rfl rfl)
theorem dX10_line_72 : decode cX10_line 72 = .ok (.aload_n 1, 1) := dk_43 (dk_at dksX10_line_3 0 rfl rfl)
theorem dX10_line_73 : decode cX10_line 73 = .ok (.getfield 87, 3) := dk_180 0 87 (dk_at dksX10_line_3 1 rfl rfl)
theorem dX10_line_76 : decode cX10_line 76 = .ok (.aload_n 0, 1) := dk_42 (dk_at dksX10_line_3 4 rfl rfl)
theorem dX10_line_77 : decode cX10_line 77 = .ok (.iconst 0, 1) := dk_3 (dk_at dksX10_line_3 5 rfl rfl)
theorem dX10_line_78 : decode cX10_line 78 = .ok (.bipush 47, 2) := dk_16 47 (dk_at dksX10_line_3 6 rfl rfl)
theorem dX10_line_80 : decode cX10_line 80 = .ok (.invokevirtual 55, 3) := dk_182 0 55 (dk_at dksX10_line_3 8 rfl rfl)
theorem dX10_line_83 : decode cX10_line 83 = .ok (.iastore, 1) := dk_79 (dk_at dksX10_line_3 11 rfl rfl)
theorem dX10_line_84 : decode cX10_line 84 = .ok (.aload_n 1, 1) := dk_43 (dk_at dksX10_line_3 12 rfl rfl)
theorem dX10_line_85 : decode cX10_line 85 = .ok (.dup, 1) := dk_89 (dk_at dksX10_line_3 13 rfl rfl)
theorem dX10_line_86 : decode cX10_line 86 = .ok (.getfield 87, 3) := dk_180 0 87 (dk_at dksX10_line_3 14 rfl rfl)
theorem dX10_line_89 : decode cX10_line 89 = .ok (.iconst 1, 1) := dk_4 (dk_at dksX10_line_3 17 rfl rfl)
theorem dX10_line_90 : decode cX10_line 90 = .ok (.iadd, 1) := dk_96 (dk_at dksX10_line_3 18 rfl rfl)
theorem dX10_line_91 : decode cX10_line 91 = .ok (.putfield 87, 3) := dk_181 0 87 (dk_at dksX10_line_3 19 rfl rfl)
theorem dX10_line_94 : decode cX10_line 94 = .ok (.return_, 1) := dk_177 (dk_at dksX10_line_3 22 rfl rfl)
def dkwX10_goesOn_2 : List UInt8 := [160, 0, 7, 4, 167, 0, 4, 3, 172]
abbrev dktX10_goesOn_2 : List UInt8 := dkwX10_goesOn_2 ++ []
def dkwX10_goesOn_1 : List UInt8 := [183, 0, 52, 191, 27, 16, 59, 160, 0, 13, 42, 89, 180, 0, 15, 4, 96, 181, 0, 15, 27, 16, 59]
abbrev dktX10_goesOn_1 : List UInt8 := dkwX10_goesOn_1 ++ dktX10_goesOn_2
def dkwX10_goesOn_0 : List UInt8 := [42, 182, 0, 26, 60, 27, 2, 159, 0, 21, 27, 16, 59, 159, 0, 15, 187, 0, 50, 89, 42, 180, 0, 15]
abbrev dktX10_goesOn_0 : List UInt8 := dkwX10_goesOn_0 ++ dktX10_goesOn_1
theorem dksX10_goesOn_0 : cX10_goesOn.data.toList.drop 0 = dktX10_goesOn_0 := by decide +kernel
theorem dksX10_goesOn_1 : cX10_goesOn.data.toList.drop 24 = dktX10_goesOn_1 := dk_seg dksX10_goesOn_0 24 rfl rfl
theorem dksX10_goesOn_2 : cX10_goesOn.data.toList.drop 47 = dktX10_goesOn_2 := dk_seg dksX10_goesOn_1 23 rfl rfl
theorem dX10_goesOn_0 : decode cX10_goesOn 0 = .ok (.aload_n 0, 1) := dk_42 (dk_at dksX10_goesOn_0 0 rfl rfl)
theorem dX10_goesOn_1 : decode cX10_goesOn 1 = .ok (.invokevirtual 26, 3) := dk_182 0 26 (dk_at dksX10_goesOn_0 1 rfl rfl)
theorem dX10_goesOn_4 : decode cX10_goesOn 4 = .ok (.istore_n 1, 1) := dk_60 (dk_at dksX10_goesOn_0 4 rfl rfl)
theorem dX10_goesOn_5 : decode cX10_goesOn 5 = .ok (.iload_n 1, 1) := dk_27 (dk_at dksX10_goesOn_0 5 rfl rfl)
theorem dX10_goesOn_6 : decode cX10_goesOn 6 = .ok (.iconst (-1), 1) := dk_2 (dk_at dksX10_goesOn_0 6 rfl rfl)
theorem dX10_goesOn_7 : decode cX10_goesOn 7 = .ok (.if_icmp .eq 21, 3) := dk_159 0 21 (dk_at dksX10_goesOn_0 7 rfl rfl)
theorem dX10_goesOn_10 : decode cX10_goesOn 10 = .ok (.iload_n 1, 1) := dk_27 (dk_at dksX10_goesOn_0 10 rfl rfl)
theorem dX10_goesOn_11 : decode cX10_goesOn 11 = .ok (.bipush 59, 2) := dk_16 59 (dk_at dksX10_goesOn_0 11 rfl rfl)
theorem dX10_goesOn_13 : decode cX10_goesOn 13 = .ok (.if_icmp .eq 15, 3) := dk_159 0 15 (dk_at dksX10_goesOn_0 13 rfl rfl)
theorem dX10_goesOn_16 : decode cX10_goesOn 16 = .ok (.new 50, 3) := dk_187 0 50 (dk_at dksX10_goesOn_0 16 rfl rfl)
theorem dX10_goesOn_19 : decode cX10_goesOn 19 = .ok (.dup, 1) := dk_89 (dk_at dksX10_goesOn_0 19 rfl rfl)
theorem dX10_goesOn_20 : decode cX10_goesOn 20 = .ok (.aload_n 0, 1) := dk_42 (dk_at dksX10_goesOn_0 20 rfl rfl)
theorem dX10_goesOn_21 : decode cX10_goesOn 21 = .ok (.getfield 15, 3) := dk_180 0 15 (dk_at dksX10_goesOn_0 21 rfl rfl)
theorem dX10_goesOn_24 : decode cX10_goesOn 24 = .ok (.invokespecial 52, 3) := dk_183 0 52 (dk_at dksX10_goesOn_1 0 rfl rfl)
theorem dX10_goesOn_27 : decode cX10_goesOn 27 = .ok (.athrow, 1) := dk_191 (dk_at dksX10_goesOn_1 3 rfl rfl)
theorem dX10_goesOn_28 : decode cX10_goesOn 28 = .ok (.iload_n 1, 1) := dk_27 (dk_at dksX10_goesOn_1 4 rfl rfl)
theorem dX10_goesOn_29 : decode cX10_goesOn 29 = .ok (.bipush 59, 2) := dk_16 59 (dk_at dksX10_goesOn_1 5 rfl rfl)
theorem dX10_goesOn_31 : decode cX10_goesOn 31 = .ok (.if_icmp .ne 13, 3) := dk_160 0 13 (dk_at dksX10_goesOn_1 7 rfl rfl)
theorem dX10_goesOn_34 : decode cX10_goesOn 34 = .ok (.aload_n 0, 1) := dk_42 (dk_at dksX10_goesOn_1 10 rfl rfl)
theorem dX10_goesOn_35 : decode cX10_goesOn 35 = .ok (.dup, 1) := dk_89 (dk_at dksX10_goesOn_1 11 rfl rfl)
theorem dX10_goesOn_36 : decode cX10_goesOn 36 = .ok (.getfield 15, 3) := dk_180 0 15 (dk_at dksX10_goesOn_1 12 rfl rfl)
theorem dX10_goesOn_39 : decode cX10_goesOn 39 = .ok (.iconst 1, 1) := dk_4 (dk_at dksX10_goesOn_1 15 rfl rfl)
theorem dX10_goesOn_40 : decode cX10_goesOn 40 = .ok (.iadd, 1) := dk_96 (dk_at dksX10_goesOn_1 16 rfl rfl)
theorem dX10_goesOn_41 : decode cX10_goesOn 41 = .ok (.putfield 15, 3) := dk_181 0 15 (dk_at dksX10_goesOn_1 17 rfl rfl)
theorem dX10_goesOn_44 : decode cX10_goesOn 44 = .ok (.iload_n 1, 1) := dk_27 (dk_at dksX10_goesOn_1 20 rfl rfl)
theorem dX10_goesOn_45 : decode cX10_goesOn 45 = .ok (.bipush 59, 2) := dk_16 59 (dk_at dksX10_goesOn_1 21 rfl rfl)
theorem dX10_goesOn_47 : decode cX10_goesOn 47 = .ok (.if_icmp .ne 7, 3) := dk_160 0 7 (dk_at dksX10_goesOn_2 0 rfl rfl)
theorem dX10_goesOn_50 : decode cX10_goesOn 50 = .ok (.iconst 1, 1) := dk_4 (dk_at dksX10_goesOn_2 3 rfl rfl)
theorem dX10_goesOn_51 : decode cX10_goesOn 51 = .ok (.goto 4, 3) := dk_167 0 4 (dk_at dksX10_goesOn_2 4 rfl rfl)
theorem dX10_goesOn_54 : decode cX10_goesOn 54 = .ok (.iconst 0, 1) := dk_3 (dk_at dksX10_goesOn_2 7 rfl rfl)
theorem dX10_goesOn_55 : decode cX10_goesOn 55 = .ok (.ireturn, 1) := dk_172 (dk_at dksX10_goesOn_2 8 rfl rfl)
def dkwX10_script_2 : List UInt8 := [183, 0, 52, 191, 42, 182, 0, 134, 61, 167, 255, 212, 43, 176]
abbrev dktX10_script_2 : List UInt8 := dkwX10_script_2 ++ []
def dkwX10_script_1 : List UInt8 := [16, 59, 160, 0, 24, 43, 180, 0, 146, 16, 12, 160, 0, 15, 187, 0, 50, 89, 42, 180, 0, 15]
abbrev dktX10_script_1 : List UInt8 := dkwX10_script_1 ++ dktX10_script_2
def dkwX10_script_0 : List UInt8 := [187, 0, 142, 89, 183, 0, 155, 76, 4, 61, 28, 153, 0, 46, 42, 43, 182, 0, 156, 42, 182, 0, 26]
abbrev dktX10_script_0 : List UInt8 := dkwX10_script_0 ++ dktX10_script_1
theorem dksX10_script_0 : cX10_script.data.toList.drop 0 = dktX10_script_0 := by decide +kernel
theorem dksX10_script_1 : cX10_script.data.toList.drop 23 = dktX10_script_1 := dk_seg dksX10_script_0 23 rfl rfl
theorem dksX10_script_2 : cX10_script.data.toList.drop 45 = dktX10_script_2 := dk_seg dksX10_script_1 22 rfl rfl
theorem dX10_script_0 : decode cX10_script 0 = .ok (.new 142, 3) := dk_187 0 142 (dk_at dksX10_script_0 0 rfl rfl)
theorem dX10_script_3 : decode cX10_script 3 = .ok (.dup, 1) := dk_89 (dk_at dksX10_script_0 3 rfl rfl)
theorem dX10_script_4 : decode cX10_script 4 = .ok (.invokespecial 155, 3) := dk_183 0 155 (dk_at dksX10_script_0 4 rfl rfl)
theorem dX10_script_7 : decode cX10_script 7 = .ok (.astore_n 1, 1) := dk_76 (dk_at dksX10_script_0 7 rfl rfl)
theorem dX10_script_8 : decode cX10_script 8 = .ok (.iconst 1, 1) := dk_4 (dk_at dksX10_script_0 8 rfl rfl)
theorem dX10_script_9 : decode cX10_script 9 = .ok (.istore_n 2, 1) := dk_61 (dk_at dksX10_script_0 9 rfl rfl)
theorem dX10_script_10 : decode cX10_script 10 = .ok (.iload_n 2, 1) := dk_28 (dk_at dksX10_script_0 10 rfl rfl)
theorem dX10_script_11 : decode cX10_script 11 = .ok (.ifCond .eq 46, 3) := dk_153 0 46 (dk_at dksX10_script_0 11 rfl rfl)
theorem dX10_script_14 : decode cX10_script 14 = .ok (.aload_n 0, 1) := dk_42 (dk_at dksX10_script_0 14 rfl rfl)
theorem dX10_script_15 : decode cX10_script 15 = .ok (.aload_n 1, 1) := dk_43 (dk_at dksX10_script_0 15 rfl rfl)
theorem dX10_script_16 : decode cX10_script 16 = .ok (.invokevirtual 156, 3) := dk_182 0 156 (dk_at dksX10_script_0 16 rfl rfl)
theorem dX10_script_19 : decode cX10_script 19 = .ok (.aload_n 0, 1) := dk_42 (dk_at dksX10_script_0 19 rfl rfl)
theorem dX10_script_20 : decode cX10_script 20 = .ok (.invokevirtual 26, 3) := dk_182 0 26 (dk_at dksX10_script_0 20 rfl rfl)
theorem dX10_script_23 : decode cX10_script 23 = .ok (.bipush 59, 2) := dk_16 59 (dk_at dksX10_script_1 0 rfl rfl)
theorem dX10_script_25 : decode cX10_script 25 = .ok (.if_icmp .ne 24, 3) := dk_160 0 24 (dk_at dksX10_script_1 2 rfl rfl)
theorem dX10_script_28 : decode cX10_script 28 = .ok (.aload_n 1, 1) := dk_43 (dk_at dksX10_script_1 5 rfl rfl)
theorem dX10_script_29 : decode cX10_script 29 = .ok (.getfield 146, 3) := dk_180 0 146 (dk_at dksX10_script_1 6 rfl rfl)
theorem dX10_script_32 : decode cX10_script 32 = .ok (.bipush 12, 2) := dk_16 12 (dk_at dksX10_script_1 9 rfl rfl)
theorem dX10_script_34 : decode cX10_script 34 = .ok (.if_icmp .ne 15, 3) := dk_160 0 15 (dk_at dksX10_script_1 11 rfl rfl)
theorem dX10_script_37 : decode cX10_script 37 = .ok (.new 50, 3) := dk_187 0 50 (dk_at dksX10_script_1 14 rfl rfl)
theorem dX10_script_40 : decode cX10_script 40 = .ok (.dup, 1) := dk_89 (dk_at dksX10_script_1 17 rfl rfl)
theorem dX10_script_41 : decode cX10_script 41 = .ok (.aload_n 0, 1) := dk_42 (dk_at dksX10_script_1 18 rfl rfl)
theorem dX10_script_42 : decode cX10_script 42 = .ok (.getfield 15, 3) := dk_180 0 15 (dk_at dksX10_script_1 19 rfl rfl)
theorem dX10_script_45 : decode cX10_script 45 = .ok (.invokespecial 52, 3) := dk_183 0 52 (dk_at dksX10_script_2 0 rfl rfl)
theorem dX10_script_48 : decode cX10_script 48 = .ok (.athrow, 1) := dk_191 (dk_at dksX10_script_2 3 rfl rfl)
theorem dX10_script_49 : decode cX10_script 49 = .ok (.aload_n 0, 1) := dk_42 (dk_at dksX10_script_2 4 rfl rfl)
theorem dX10_script_50 : decode cX10_script 50 = .ok (.invokevirtual 134, 3) := dk_182 0 134 (dk_at dksX10_script_2 5 rfl rfl)
theorem dX10_script_53 : decode cX10_script 53 = .ok (.istore_n 2, 1) := dk_61 (dk_at dksX10_script_2 8 rfl rfl)
theorem dX10_script_54 : decode cX10_script 54 = .ok (.goto (-44), 3) := dk_167 255 212 (dk_at dksX10_script_2 9 rfl rfl)
theorem dX10_script_57 : decode cX10_script 57 = .ok (.aload_n 1, 1) := dk_43 (dk_at dksX10_script_2 12 rfl rfl)
theorem dX10_script_58 : decode cX10_script 58 = .ok (.areturn, 1) := dk_176 (dk_at dksX10_script_2 13 rfl rfl)
def dkwX10_step_4 : List UInt8 := [132, 5, 1, 167, 255, 210, 43, 89, 180, 0, 146, 4, 96, 181, 0, 146, 177]
abbrev dktX10_step_4 : List UInt8 := dkwX10_step_4 ++ []
def dkwX10_step_3 : List UInt8 := [21, 4, 184, 0, 150, 162, 0, 14, 42, 4, 17, 3, 231, 182, 0, 55, 167, 0, 5, 18, 154, 79]
abbrev dktX10_step_3 : List UInt8 := dkwX10_step_3 ++ dktX10_step_4
def dkwX10_step_2 : List UInt8 := [54, 5, 21, 5, 5, 162, 0, 46, 43, 180, 0, 147, 5, 43, 180, 0, 146, 104, 21, 5, 96, 21, 5]
abbrev dktX10_step_2 : List UInt8 := dkwX10_step_2 ++ dktX10_step_3
def dkwX10_step_1 : List UInt8 := [160, 0, 12, 187, 0, 50, 89, 29, 183, 0, 52, 191, 43, 180, 0, 141, 43, 180, 0, 146, 21, 4, 79, 3]
abbrev dktX10_step_1 : List UInt8 := dkwX10_step_1 ++ dktX10_step_2
def dkwX10_step_0 : List UInt8 := [42, 182, 0, 26, 61, 42, 180, 0, 15, 62, 42, 182, 0, 67, 184, 0, 137, 54, 4, 21, 4, 2]
abbrev dktX10_step_0 : List UInt8 := dkwX10_step_0 ++ dktX10_step_1
theorem dksX10_step_0 : cX10_step.data.toList.drop 0 = dktX10_step_0 := by decide +kernel
theorem dksX10_step_1 : cX10_step.data.toList.drop 22 = dktX10_step_1 := dk_seg dksX10_step_0 22 rfl rfl
theorem dksX10_step_2 : cX10_step.data.toList.drop 46 = dktX10_step_2 := dk_seg dksX10_step_1 24 rfl rfl
theorem dksX10_step_3 : cX10_step.data.toList.drop 69 = dktX10_step_3 := dk_seg dksX10_step_2 23 rfl rfl
theorem dksX10_step_4 : cX10_step.data.toList.drop 91 = dktX10_step_4 := dk_seg dksX10_step_3 22 rfl rfl
theorem dX10_step_0 : decode cX10_step 0 = .ok (.aload_n 0, 1) := dk_42 (dk_at dksX10_step_0 0 rfl rfl)
theorem dX10_step_1 : decode cX10_step 1 = .ok (.invokevirtual 26, 3) := dk_182 0 26 (dk_at dksX10_step_0 1 rfl rfl)
theorem dX10_step_4 : decode cX10_step 4 = .ok (.istore_n 2, 1) := dk_61 (dk_at dksX10_step_0 4 rfl rfl)
theorem dX10_step_5 : decode cX10_step 5 = .ok (.aload_n 0, 1) := dk_42 (dk_at dksX10_step_0 5 rfl rfl)
theorem dX10_step_6 : decode cX10_step 6 = .ok (.getfield 15, 3) := dk_180 0 15 (dk_at dksX10_step_0 6 rfl rfl)
theorem dX10_step_9 : decode cX10_step 9 = .ok (.istore_n 3, 1) := dk_62 (dk_at dksX10_step_0 9 rfl rfl)
theorem dX10_step_10 : decode cX10_step 10 = .ok (.aload_n 0, 1) := dk_42 (dk_at dksX10_step_0 10 rfl rfl)
theorem dX10_step_11 : decode cX10_step 11 = .ok (.invokevirtual 67, 3) := dk_182 0 67 (dk_at dksX10_step_0 11 rfl rfl)
theorem dX10_step_14 : decode cX10_step 14 = .ok (.invokestatic 137, 3) := dk_184 0 137 (dk_at dksX10_step_0 14 rfl rfl)
theorem dX10_step_17 : decode cX10_step 17 = .ok (.istore 4, 2) := dk_54 4 (dk_at dksX10_step_0 17 rfl rfl)
theorem dX10_step_19 : decode cX10_step 19 = .ok (.iload 4, 2) := dk_21 4 (dk_at dksX10_step_0 19 rfl rfl)
theorem dX10_step_21 : decode cX10_step 21 = .ok (.iconst (-1), 1) := dk_2 (dk_at dksX10_step_0 21 rfl rfl)
theorem dX10_step_22 : decode cX10_step 22 = .ok (.if_icmp .ne 12, 3) := dk_160 0 12 (dk_at dksX10_step_1 0 rfl rfl)
theorem dX10_step_25 : decode cX10_step 25 = .ok (.new 50, 3) := dk_187 0 50 (dk_at dksX10_step_1 3 rfl rfl)
theorem dX10_step_28 : decode cX10_step 28 = .ok (.dup, 1) := dk_89 (dk_at dksX10_step_1 6 rfl rfl)
theorem dX10_step_29 : decode cX10_step 29 = .ok (.iload_n 3, 1) := dk_29 (dk_at dksX10_step_1 7 rfl rfl)
theorem dX10_step_30 : decode cX10_step 30 = .ok (.invokespecial 52, 3) := dk_183 0 52 (dk_at dksX10_step_1 8 rfl rfl)
theorem dX10_step_33 : decode cX10_step 33 = .ok (.athrow, 1) := dk_191 (dk_at dksX10_step_1 11 rfl rfl)
theorem dX10_step_34 : decode cX10_step 34 = .ok (.aload_n 1, 1) := dk_43 (dk_at dksX10_step_1 12 rfl rfl)
theorem dX10_step_35 : decode cX10_step 35 = .ok (.getfield 141, 3) := dk_180 0 141 (dk_at dksX10_step_1 13 rfl rfl)
theorem dX10_step_38 : decode cX10_step 38 = .ok (.aload_n 1, 1) := dk_43 (dk_at dksX10_step_1 16 rfl rfl)
theorem dX10_step_39 : decode cX10_step 39 = .ok (.getfield 146, 3) := dk_180 0 146 (dk_at dksX10_step_1 17 rfl rfl)
theorem dX10_step_42 : decode cX10_step 42 = .ok (.iload 4, 2) := dk_21 4 (dk_at dksX10_step_1 20 rfl rfl)
theorem dX10_step_44 : decode cX10_step 44 = .ok (.iastore, 1) := dk_79 (dk_at dksX10_step_1 22 rfl rfl)
theorem dX10_step_45 : decode cX10_step 45 = .ok (.iconst 0, 1) := dk_3 (dk_at dksX10_step_1 23 rfl rfl)
theorem dX10_step_46 : decode cX10_step 46 = .ok (.istore 5, 2) := dk_54 5 (dk_at dksX10_step_2 0 rfl rfl)
theorem dX10_step_48 : decode cX10_step 48 = .ok (.iload 5, 2) := dk_21 5 (dk_at dksX10_step_2 2 rfl rfl)
theorem dX10_step_50 : decode cX10_step 50 = .ok (.iconst 2, 1) := dk_5 (dk_at dksX10_step_2 4 rfl rfl)
theorem dX10_step_51 : decode cX10_step 51 = .ok (.if_icmp .ge 46, 3) := dk_162 0 46 (dk_at dksX10_step_2 5 rfl rfl)
theorem dX10_step_54 : decode cX10_step 54 = .ok (.aload_n 1, 1) := dk_43 (dk_at dksX10_step_2 8 rfl rfl)
theorem dX10_step_55 : decode cX10_step 55 = .ok (.getfield 147, 3) := dk_180 0 147 (dk_at dksX10_step_2 9 rfl rfl)
theorem dX10_step_58 : decode cX10_step 58 = .ok (.iconst 2, 1) := dk_5 (dk_at dksX10_step_2 12 rfl rfl)
theorem dX10_step_59 : decode cX10_step 59 = .ok (.aload_n 1, 1) := dk_43 (dk_at dksX10_step_2 13 rfl rfl)
theorem dX10_step_60 : decode cX10_step 60 = .ok (.getfield 146, 3) := dk_180 0 146 (dk_at dksX10_step_2 14 rfl rfl)
theorem dX10_step_63 : decode cX10_step 63 = .ok (.imul, 1) := dk_104 (dk_at dksX10_step_2 17 rfl rfl)
theorem dX10_step_64 : decode cX10_step 64 = .ok (.iload 5, 2) := dk_21 5 (dk_at dksX10_step_2 18 rfl rfl)
theorem dX10_step_66 : decode cX10_step 66 = .ok (.iadd, 1) := dk_96 (dk_at dksX10_step_2 20 rfl rfl)
theorem dX10_step_67 : decode cX10_step 67 = .ok (.iload 5, 2) := dk_21 5 (dk_at dksX10_step_2 21 rfl rfl)
theorem dX10_step_69 : decode cX10_step 69 = .ok (.iload 4, 2) := dk_21 4 (dk_at dksX10_step_3 0 rfl rfl)
theorem dX10_step_71 : decode cX10_step 71 = .ok (.invokestatic 150, 3) := dk_184 0 150 (dk_at dksX10_step_3 2 rfl rfl)
theorem dX10_step_74 : decode cX10_step 74 = .ok (.if_icmp .ge 14, 3) := dk_162 0 14 (dk_at dksX10_step_3 5 rfl rfl)
theorem dX10_step_77 : decode cX10_step 77 = .ok (.aload_n 0, 1) := dk_42 (dk_at dksX10_step_3 8 rfl rfl)
theorem dX10_step_78 : decode cX10_step 78 = .ok (.iconst 1, 1) := dk_4 (dk_at dksX10_step_3 9 rfl rfl)
theorem dX10_step_79 : decode cX10_step 79 = .ok (.sipush 999, 3) := dk_17 3 231 (dk_at dksX10_step_3 10 rfl rfl)
theorem dX10_step_82 : decode cX10_step 82 = .ok (.invokevirtual 55, 3) := dk_182 0 55 (dk_at dksX10_step_3 13 rfl rfl)
theorem dX10_step_85 : decode cX10_step 85 = .ok (.goto 5, 3) := dk_167 0 5 (dk_at dksX10_step_3 16 rfl rfl)
theorem dX10_step_88 : decode cX10_step 88 = .ok (.ldc 154, 2) := dk_18 154 (dk_at dksX10_step_3 19 rfl rfl)
theorem dX10_step_90 : decode cX10_step 90 = .ok (.iastore, 1) := dk_79 (dk_at dksX10_step_3 21 rfl rfl)
theorem dX10_step_91 : decode cX10_step 91 = .ok (.iinc 5 1, 3) := dk_132 5 1 (dk_at dksX10_step_4 0 rfl rfl)
theorem dX10_step_94 : decode cX10_step 94 = .ok (.goto (-46), 3) := dk_167 255 210 (dk_at dksX10_step_4 3 rfl rfl)
theorem dX10_step_97 : decode cX10_step 97 = .ok (.aload_n 1, 1) := dk_43 (dk_at dksX10_step_4 6 rfl rfl)
theorem dX10_step_98 : decode cX10_step 98 = .ok (.dup, 1) := dk_89 (dk_at dksX10_step_4 7 rfl rfl)
theorem dX10_step_99 : decode cX10_step 99 = .ok (.getfield 146, 3) := dk_180 0 146 (dk_at dksX10_step_4 8 rfl rfl)
theorem dX10_step_102 : decode cX10_step 102 = .ok (.iconst 1, 1) := dk_4 (dk_at dksX10_step_4 11 rfl rfl)
theorem dX10_step_103 : decode cX10_step 103 = .ok (.iadd, 1) := dk_96 (dk_at dksX10_step_4 12 rfl rfl)
theorem dX10_step_104 : decode cX10_step 104 = .ok (.putfield 146, 3) := dk_181 0 146 (dk_at dksX10_step_4 13 rfl rfl)
theorem dX10_step_107 : decode cX10_step 107 = .ok (.return_, 1) := dk_177 (dk_at dksX10_step_4 16 rfl rfl)
def dkwX11_init_1 : List UInt8 := [42, 16, 8, 188, 10, 181, 0, 24, 42, 4, 181, 0, 28, 177]
abbrev dktX11_init_1 : List UInt8 := dkwX11_init_1 ++ []
def dkwX11_init_0 : List UInt8 := [42, 183, 0, 3, 42, 187, 0, 9, 89, 183, 0, 11, 181, 0, 12, 42, 16, 8, 189, 0, 18, 181, 0, 20]
abbrev dktX11_init_0 : List UInt8 := dkwX11_init_0 ++ dktX11_init_1
theorem dksX11_init_0 : cX11_init.data.toList.drop 0 = dktX11_init_0 := by decide +kernel
theorem dksX11_init_1 : cX11_init.data.toList.drop 24 = dktX11_init_1 := dk_seg dksX11_init_0 24 rfl rfl
theorem dX11_init_0 : decode cX11_init 0 = .ok (.aload_n 0, 1) := dk_42 (dk_at dksX11_init_0 0 rfl rfl)
theorem dX11_init_1 : decode cX11_init 1 = .ok (.invokespecial 3, 3) := dk_183 0 3 (dk_at dksX11_init_0 1 rfl rfl)
theorem dX11_init_4 : decode cX11_init 4 = .ok (.aload_n 0, 1) := dk_42 (dk_at dksX11_init_0 4 rfl rfl)
theorem dX11_init_5 : decode cX11_init 5 = .ok (.new 9, 3) := dk_187 0 9 (dk_at dksX11_init_0 5 rfl rfl)
theorem dX11_init_8 : decode cX11_init 8 = .ok (.dup, 1) := dk_89 (dk_at dksX11_init_0 8 rfl rfl)
theorem dX11_init_9 : decode cX11_init 9 = .ok (.invokespecial 11, 3) := dk_183 0 11 (dk_at dksX11_init_0 9 rfl rfl)
theorem dX11_init_12 : decode cX11_init 12 = .ok (.putfield 12, 3) := dk_181 0 12 (dk_at dksX11_init_0 12 rfl rfl)
theorem dX11_init_15 : decode cX11_init 15 = .ok (.aload_n 0, 1) := dk_42 (dk_at dksX11_init_0 15 rfl rfl)
theorem dX11_init_16 : decode cX11_init 16 = .ok (.bipush 8, 2) := dk_16 8 (dk_at dksX11_init_0 16 rfl rfl)
theorem dX11_init_18 : decode cX11_init 18 = .ok (.anewarray 18, 3) := dk_189 0 18 (dk_at dksX11_init_0 18 rfl rfl)
theorem dX11_init_21 : decode cX11_init 21 = .ok (.putfield 20, 3) := dk_181 0 20 (dk_at dksX11_init_0 21 rfl rfl)
theorem dX11_init_24 : decode cX11_init 24 = .ok (.aload_n 0, 1) := dk_42 (dk_at dksX11_init_1 0 rfl rfl)
theorem dX11_init_25 : decode cX11_init 25 = .ok (.bipush 8, 2) := dk_16 8 (dk_at dksX11_init_1 1 rfl rfl)
theorem dX11_init_27 : decode cX11_init 27 = .ok (.newarray .int, 2) := dk_188_10 (dk_at dksX11_init_1 3 rfl rfl)
theorem dX11_init_29 : decode cX11_init 29 = .ok (.putfield 24, 3) := dk_181 0 24 (dk_at dksX11_init_1 5 rfl rfl)
theorem dX11_init_32 : decode cX11_init 32 = .ok (.aload_n 0, 1) := dk_42 (dk_at dksX11_init_1 8 rfl rfl)
theorem dX11_init_33 : decode cX11_init 33 = .ok (.iconst 1, 1) := dk_4 (dk_at dksX11_init_1 9 rfl rfl)
theorem dX11_init_34 : decode cX11_init 34 = .ok (.putfield 28, 3) := dk_181 0 28 (dk_at dksX11_init_1 10 rfl rfl)
theorem dX11_init_37 : decode cX11_init 37 = .ok (.return_, 1) := dk_177 (dk_at dksX11_init_1 13 rfl rfl)
def dkwX11_has_1 : List UInt8 := [182, 0, 41, 153, 0, 5, 4, 172, 132, 2, 1, 167, 255, 225, 3, 172]
abbrev dktX11_has_1 : List UInt8 := dkwX11_has_1 ++ []
def dkwX11_has_0 : List UInt8 := [3, 61, 28, 42, 180, 0, 32, 162, 0, 29, 42, 180, 0, 20, 28, 50, 43, 185, 0, 35, 1, 0]
abbrev dktX11_has_0 : List UInt8 := dkwX11_has_0 ++ dktX11_has_1
theorem dksX11_has_0 : cX11_has.data.toList.drop 0 = dktX11_has_0 := by decide +kernel
theorem dksX11_has_1 : cX11_has.data.toList.drop 22 = dktX11_has_1 := dk_seg dksX11_has_0 22 rfl rfl
theorem dX11_has_0 : decode cX11_has 0 = .ok (.iconst 0, 1) := dk_3 (dk_at dksX11_has_0 0 rfl rfl)
theorem dX11_has_1 : decode cX11_has 1 = .ok (.istore_n 2, 1) := dk_61 (dk_at dksX11_has_0 1 rfl rfl)
theorem dX11_has_2 : decode cX11_has 2 = .ok (.iload_n 2, 1) := dk_28 (dk_at dksX11_has_0 2 rfl rfl)
theorem dX11_has_3 : decode cX11_has 3 = .ok (.aload_n 0, 1) := dk_42 (dk_at dksX11_has_0 3 rfl rfl)
theorem dX11_has_4 : decode cX11_has 4 = .ok (.getfield 32, 3) := dk_180 0 32 (dk_at dksX11_has_0 4 rfl rfl)
theorem dX11_has_7 : decode cX11_has 7 = .ok (.if_icmp .ge 29, 3) := dk_162 0 29 (dk_at dksX11_has_0 7 rfl rfl)
theorem dX11_has_10 : decode cX11_has 10 = .ok (.aload_n 0, 1) := dk_42 (dk_at dksX11_has_0 10 rfl rfl)
