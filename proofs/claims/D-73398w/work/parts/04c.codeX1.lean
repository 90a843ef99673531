set_option maxRecDepth 100000
theorem dX11_has_11 : decode cX11_has 11 = .ok (.getfield 20, 3) := dk_180 0 20 (dk_at dksX11_has_0 11 rfl rfl)
theorem dX11_has_14 : decode cX11_has 14 = .ok (.iload_n 2, 1) := dk_28 (dk_at dksX11_has_0 14 rfl rfl)
theorem dX11_has_15 : decode cX11_has 15 = .ok (.aaload, 1) := dk_50 (dk_at dksX11_has_0 15 rfl rfl)
theorem dX11_has_16 : decode cX11_has 16 = .ok (.aload_n 1, 1) := dk_43 (dk_at dksX11_has_0 16 rfl rfl)
theorem dX11_has_17 : decode cX11_has 17 = .ok (.invokeinterface 35 1, 5) := by decide +kernel
theorem dX11_has_22 : decode cX11_has 22 = .ok (.invokevirtual 41, 3) := dk_182 0 41 (dk_at dksX11_has_1 0 rfl rfl)
theorem dX11_has_25 : decode cX11_has 25 = .ok (.ifCond .eq 5, 3) := dk_153 0 5 (dk_at dksX11_has_1 3 rfl rfl)
theorem dX11_has_28 : decode cX11_has 28 = .ok (.iconst 1, 1) := dk_4 (dk_at dksX11_has_1 6 rfl rfl)
theorem dX11_has_29 : decode cX11_has 29 = .ok (.ireturn, 1) := dk_172 (dk_at dksX11_has_1 7 rfl rfl)
theorem dX11_has_30 : decode cX11_has 30 = .ok (.iinc 2 1, 3) := dk_132 2 1 (dk_at dksX11_has_1 8 rfl rfl)
theorem dX11_has_33 : decode cX11_has 33 = .ok (.goto (-31), 3) := dk_167 255 225 (dk_at dksX11_has_1 11 rfl rfl)
theorem dX11_has_36 : decode cX11_has 36 = .ok (.iconst 0, 1) := dk_3 (dk_at dksX11_has_1 14 rfl rfl)
theorem dX11_has_37 : decode cX11_has 37 = .ok (.ireturn, 1) := dk_172 (dk_at dksX11_has_1 15 rfl rfl)
def dkwX12_init_0 : List UInt8 := [42, 1, 1, 3, 3, 183, 0, 1, 42, 27, 181, 0, 7, 177]
abbrev dktX12_init_0 : List UInt8 := dkwX12_init_0 ++ []
theorem dksX12_init_0 : cX12_init.data.toList.drop 0 = dktX12_init_0 := by decide +kernel
theorem dX12_init_0 : decode cX12_init 0 = .ok (.aload_n 0, 1) := dk_42 (dk_at dksX12_init_0 0 rfl rfl)
theorem dX12_init_1 : decode cX12_init 1 = .ok (.aconst_null, 1) := dk_1 (dk_at dksX12_init_0 1 rfl rfl)
theorem dX12_init_2 : decode cX12_init 2 = .ok (.aconst_null, 1) := dk_1 (dk_at dksX12_init_0 2 rfl rfl)
theorem dX12_init_3 : decode cX12_init 3 = .ok (.iconst 0, 1) := dk_3 (dk_at dksX12_init_0 3 rfl rfl)
theorem dX12_init_4 : decode cX12_init 4 = .ok (.iconst 0, 1) := dk_3 (dk_at dksX12_init_0 4 rfl rfl)
theorem dX12_init_5 : decode cX12_init 5 = .ok (.invokespecial 1, 3) := dk_183 0 1 (dk_at dksX12_init_0 5 rfl rfl)
theorem dX12_init_8 : decode cX12_init 8 = .ok (.aload_n 0, 1) := dk_42 (dk_at dksX12_init_0 8 rfl rfl)
theorem dX12_init_9 : decode cX12_init 9 = .ok (.iload_n 1, 1) := dk_27 (dk_at dksX12_init_0 9 rfl rfl)
theorem dX12_init_10 : decode cX12_init 10 = .ok (.putfield 7, 3) := dk_181 0 7 (dk_at dksX12_init_0 10 rfl rfl)
theorem dX12_init_13 : decode cX12_init 13 = .ok (.return_, 1) := dk_177 (dk_at dksX12_init_0 13 rfl rfl)
def dkwX13_init_0 : List UInt8 := [42, 183, 0, 3, 42, 16, 12, 188, 10, 181, 0, 9, 42, 16, 24, 188, 10, 181, 0, 15, 177]
abbrev dktX13_init_0 : List UInt8 := dkwX13_init_0 ++ []
theorem dksX13_init_0 : cX13_init.data.toList.drop 0 = dktX13_init_0 := by decide +kernel
theorem dX13_init_0 : decode cX13_init 0 = .ok (.aload_n 0, 1) := dk_42 (dk_at dksX13_init_0 0 rfl rfl)
theorem dX13_init_1 : decode cX13_init 1 = .ok (.invokespecial 3, 3) := dk_183 0 3 (dk_at dksX13_init_0 1 rfl rfl)
theorem dX13_init_4 : decode cX13_init 4 = .ok (.aload_n 0, 1) := dk_42 (dk_at dksX13_init_0 4 rfl rfl)
theorem dX13_init_5 : decode cX13_init 5 = .ok (.bipush 12, 2) := dk_16 12 (dk_at dksX13_init_0 5 rfl rfl)
theorem dX13_init_7 : decode cX13_init 7 = .ok (.newarray .int, 2) := dk_188_10 (dk_at dksX13_init_0 7 rfl rfl)
theorem dX13_init_9 : decode cX13_init 9 = .ok (.putfield 9, 3) := dk_181 0 9 (dk_at dksX13_init_0 9 rfl rfl)
theorem dX13_init_12 : decode cX13_init 12 = .ok (.aload_n 0, 1) := dk_42 (dk_at dksX13_init_0 12 rfl rfl)
theorem dX13_init_13 : decode cX13_init 13 = .ok (.bipush 24, 2) := dk_16 24 (dk_at dksX13_init_0 13 rfl rfl)
theorem dX13_init_15 : decode cX13_init 15 = .ok (.newarray .int, 2) := dk_188_10 (dk_at dksX13_init_0 15 rfl rfl)
theorem dX13_init_17 : decode cX13_init 17 = .ok (.putfield 15, 3) := dk_181 0 15 (dk_at dksX13_init_0 17 rfl rfl)
theorem dX13_init_20 : decode cX13_init 20 = .ok (.return_, 1) := dk_177 (dk_at dksX13_init_0 20 rfl rfl)
def dkwX13_number_0 : List UInt8 := [42, 180, 0, 15, 5, 27, 104, 28, 96, 46, 172]
abbrev dktX13_number_0 : List UInt8 := dkwX13_number_0 ++ []
theorem dksX13_number_0 : cX13_number.data.toList.drop 0 = dktX13_number_0 := by decide +kernel
theorem dX13_number_0 : decode cX13_number 0 = .ok (.aload_n 0, 1) := dk_42 (dk_at dksX13_number_0 0 rfl rfl)
theorem dX13_number_1 : decode cX13_number 1 = .ok (.getfield 15, 3) := dk_180 0 15 (dk_at dksX13_number_0 1 rfl rfl)
theorem dX13_number_4 : decode cX13_number 4 = .ok (.iconst 2, 1) := dk_5 (dk_at dksX13_number_0 4 rfl rfl)
theorem dX13_number_5 : decode cX13_number 5 = .ok (.iload_n 1, 1) := dk_27 (dk_at dksX13_number_0 5 rfl rfl)
theorem dX13_number_6 : decode cX13_number 6 = .ok (.imul, 1) := dk_104 (dk_at dksX13_number_0 6 rfl rfl)
theorem dX13_number_7 : decode cX13_number 7 = .ok (.iload_n 2, 1) := dk_28 (dk_at dksX13_number_0 7 rfl rfl)
theorem dX13_number_8 : decode cX13_number 8 = .ok (.iadd, 1) := dk_96 (dk_at dksX13_number_0 8 rfl rfl)
theorem dX13_number_9 : decode cX13_number 9 = .ok (.iaload, 1) := dk_46 (dk_at dksX13_number_0 9 rfl rfl)
theorem dX13_number_10 : decode cX13_number 10 = .ok (.ireturn, 1) := dk_172 (dk_at dksX13_number_0 10 rfl rfl)
