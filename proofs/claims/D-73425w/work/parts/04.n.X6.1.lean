set_option maxRecDepth 100000
abbrev cX6_isFlow : ByteArray := prog_18_method_61_code
def yX6_isFlow : MethodName := ⟨RX6, "isFlow", "(I)Z"⟩
def dkwX6_isFlow_0 : List UInt8 := [27, 155, 0, 15, 27, 42, 182, 0, 251, 162, 0, 7, 4, 167, 0, 4, 3, 172]
abbrev dktX6_isFlow_0 : List UInt8 := dkwX6_isFlow_0 ++ []
theorem dksX6_isFlow_0 : cX6_isFlow.data.toList.drop 0 = dktX6_isFlow_0 := by decide +kernel
theorem dX6_isFlow_0 : decode cX6_isFlow 0 = .ok (.iload_n 1, 1) := dk_27 (dk_at dksX6_isFlow_0 0 rfl rfl)
theorem dX6_isFlow_1 : decode cX6_isFlow 1 = .ok (.ifCond .lt 15, 3) := dk_155 0 15 (dk_at dksX6_isFlow_0 1 rfl rfl)
theorem dX6_isFlow_4 : decode cX6_isFlow 4 = .ok (.iload_n 1, 1) := dk_27 (dk_at dksX6_isFlow_0 4 rfl rfl)
theorem dX6_isFlow_5 : decode cX6_isFlow 5 = .ok (.aload_n 0, 1) := dk_42 (dk_at dksX6_isFlow_0 5 rfl rfl)
theorem dX6_isFlow_6 : decode cX6_isFlow 6 = .ok (.invokevirtual 251, 3) := dk_182 0 251 (dk_at dksX6_isFlow_0 6 rfl rfl)
theorem dX6_isFlow_9 : decode cX6_isFlow 9 = .ok (.if_icmp .ge 7, 3) := dk_162 0 7 (dk_at dksX6_isFlow_0 9 rfl rfl)
theorem dX6_isFlow_12 : decode cX6_isFlow 12 = .ok (.iconst 1, 1) := dk_4 (dk_at dksX6_isFlow_0 12 rfl rfl)
theorem dX6_isFlow_13 : decode cX6_isFlow 13 = .ok (.goto 4, 3) := dk_167 0 4 (dk_at dksX6_isFlow_0 13 rfl rfl)
theorem dX6_isFlow_16 : decode cX6_isFlow 16 = .ok (.iconst 0, 1) := dk_3 (dk_at dksX6_isFlow_0 16 rfl rfl)
theorem dX6_isFlow_17 : decode cX6_isFlow 17 = .ok (.ireturn, 1) := dk_172 (dk_at dksX6_isFlow_0 17 rfl rfl)
abbrev cX6_turn : ByteArray := prog_18_method_63_code
def yX6_turn : MethodName := ⟨RX6, "turn", "(I)I"⟩
def dkwX6_turn_2 : List UInt8 := [180, 0, 57, 27, 184, 1, 2, 16, 7, 96, 46, 172]
abbrev dktX6_turn_2 : List UInt8 := dkwX6_turn_2 ++ []
def dkwX6_turn_1 : List UInt8 := [184, 1, 2, 16, 7, 96, 4, 42, 180, 0, 57, 27, 184, 1, 2, 16, 7, 96, 46, 100, 79, 42]
abbrev dktX6_turn_1 : List UInt8 := dkwX6_turn_1 ++ dktX6_turn_2
def dkwX6_turn_0 : List UInt8 := [42, 3, 181, 0, 115, 42, 27, 182, 1, 60, 154, 0, 5, 2, 172, 42, 182, 1, 54, 42, 180, 0, 57, 27]
abbrev dktX6_turn_0 : List UInt8 := dkwX6_turn_0 ++ dktX6_turn_1
theorem dksX6_turn_0 : cX6_turn.data.toList.drop 0 = dktX6_turn_0 := by decide +kernel
theorem dksX6_turn_1 : cX6_turn.data.toList.drop 24 = dktX6_turn_1 := dk_seg dksX6_turn_0 24 rfl rfl
theorem dksX6_turn_2 : cX6_turn.data.toList.drop 46 = dktX6_turn_2 := dk_seg dksX6_turn_1 22 rfl rfl
theorem dX6_turn_0 : decode cX6_turn 0 = .ok (.aload_n 0, 1) := dk_42 (dk_at dksX6_turn_0 0 rfl rfl)
theorem dX6_turn_1 : decode cX6_turn 1 = .ok (.iconst 0, 1) := dk_3 (dk_at dksX6_turn_0 1 rfl rfl)
theorem dX6_turn_2 : decode cX6_turn 2 = .ok (.putfield 115, 3) := dk_181 0 115 (dk_at dksX6_turn_0 2 rfl rfl)
theorem dX6_turn_5 : decode cX6_turn 5 = .ok (.aload_n 0, 1) := dk_42 (dk_at dksX6_turn_0 5 rfl rfl)
theorem dX6_turn_6 : decode cX6_turn 6 = .ok (.iload_n 1, 1) := dk_27 (dk_at dksX6_turn_0 6 rfl rfl)
theorem dX6_turn_7 : decode cX6_turn 7 = .ok (.invokevirtual 316, 3) := dk_182 1 60 (dk_at dksX6_turn_0 7 rfl rfl)
theorem dX6_turn_10 : decode cX6_turn 10 = .ok (.ifCond .ne 5, 3) := dk_154 0 5 (dk_at dksX6_turn_0 10 rfl rfl)
theorem dX6_turn_13 : decode cX6_turn 13 = .ok (.iconst (-1), 1) := dk_2 (dk_at dksX6_turn_0 13 rfl rfl)
theorem dX6_turn_14 : decode cX6_turn 14 = .ok (.ireturn, 1) := dk_172 (dk_at dksX6_turn_0 14 rfl rfl)
theorem dX6_turn_15 : decode cX6_turn 15 = .ok (.aload_n 0, 1) := dk_42 (dk_at dksX6_turn_0 15 rfl rfl)
theorem dX6_turn_16 : decode cX6_turn 16 = .ok (.invokevirtual 310, 3) := dk_182 1 54 (dk_at dksX6_turn_0 16 rfl rfl)
theorem dX6_turn_19 : decode cX6_turn 19 = .ok (.aload_n 0, 1) := dk_42 (dk_at dksX6_turn_0 19 rfl rfl)
theorem dX6_turn_20 : decode cX6_turn 20 = .ok (.getfield 57, 3) := dk_180 0 57 (dk_at dksX6_turn_0 20 rfl rfl)
theorem dX6_turn_23 : decode cX6_turn 23 = .ok (.iload_n 1, 1) := dk_27 (dk_at dksX6_turn_0 23 rfl rfl)
theorem dX6_turn_24 : decode cX6_turn 24 = .ok (.invokestatic 258, 3) := dk_184 1 2 (dk_at dksX6_turn_1 0 rfl rfl)
theorem dX6_turn_27 : decode cX6_turn 27 = .ok (.bipush 7, 2) := dk_16 7 (dk_at dksX6_turn_1 3 rfl rfl)
theorem dX6_turn_29 : decode cX6_turn 29 = .ok (.iadd, 1) := dk_96 (dk_at dksX6_turn_1 5 rfl rfl)
theorem dX6_turn_30 : decode cX6_turn 30 = .ok (.iconst 1, 1) := dk_4 (dk_at dksX6_turn_1 6 rfl rfl)
theorem dX6_turn_31 : decode cX6_turn 31 = .ok (.aload_n 0, 1) := dk_42 (dk_at dksX6_turn_1 7 rfl rfl)
theorem dX6_turn_32 : decode cX6_turn 32 = .ok (.getfield 57, 3) := dk_180 0 57 (dk_at dksX6_turn_1 8 rfl rfl)
theorem dX6_turn_35 : decode cX6_turn 35 = .ok (.iload_n 1, 1) := dk_27 (dk_at dksX6_turn_1 11 rfl rfl)
theorem dX6_turn_36 : decode cX6_turn 36 = .ok (.invokestatic 258, 3) := dk_184 1 2 (dk_at dksX6_turn_1 12 rfl rfl)
theorem dX6_turn_39 : decode cX6_turn 39 = .ok (.bipush 7, 2) := dk_16 7 (dk_at dksX6_turn_1 15 rfl rfl)
theorem dX6_turn_41 : decode cX6_turn 41 = .ok (.iadd, 1) := dk_96 (dk_at dksX6_turn_1 17 rfl rfl)
theorem dX6_turn_42 : decode cX6_turn 42 = .ok (.iaload, 1) := dk_46 (dk_at dksX6_turn_1 18 rfl rfl)
theorem dX6_turn_43 : decode cX6_turn 43 = .ok (.isub, 1) := dk_100 (dk_at dksX6_turn_1 19 rfl rfl)
theorem dX6_turn_44 : decode cX6_turn 44 = .ok (.iastore, 1) := dk_79 (dk_at dksX6_turn_1 20 rfl rfl)
theorem dX6_turn_45 : decode cX6_turn 45 = .ok (.aload_n 0, 1) := dk_42 (dk_at dksX6_turn_1 21 rfl rfl)
theorem dX6_turn_46 : decode cX6_turn 46 = .ok (.getfield 57, 3) := dk_180 0 57 (dk_at dksX6_turn_2 0 rfl rfl)
theorem dX6_turn_49 : decode cX6_turn 49 = .ok (.iload_n 1, 1) := dk_27 (dk_at dksX6_turn_2 3 rfl rfl)
theorem dX6_turn_50 : decode cX6_turn 50 = .ok (.invokestatic 258, 3) := dk_184 1 2 (dk_at dksX6_turn_2 4 rfl rfl)
theorem dX6_turn_53 : decode cX6_turn 53 = .ok (.bipush 7, 2) := dk_16 7 (dk_at dksX6_turn_2 7 rfl rfl)
theorem dX6_turn_55 : decode cX6_turn 55 = .ok (.iadd, 1) := dk_96 (dk_at dksX6_turn_2 9 rfl rfl)
theorem dX6_turn_56 : decode cX6_turn 56 = .ok (.iaload, 1) := dk_46 (dk_at dksX6_turn_2 10 rfl rfl)
theorem dX6_turn_57 : decode cX6_turn 57 = .ok (.ireturn, 1) := dk_172 (dk_at dksX6_turn_2 11 rfl rfl)
abbrev cX6_bounds : ByteArray := prog_18_method_64_code
def yX6_bounds : MethodName := ⟨RX6, "bounds", "(III)Z"⟩
def dkwX6_bounds_2 : List UInt8 := [27, 104, 3, 96, 28, 79, 42, 180, 0, 57, 16, 24, 27, 104, 4, 96, 29, 79, 4, 172]
abbrev dktX6_bounds_2 : List UInt8 := dkwX6_bounds_2 ++ []
def dkwX6_bounds_1 : List UInt8 := [163, 0, 12, 29, 155, 0, 8, 29, 28, 161, 0, 5, 3, 172, 42, 182, 1, 54, 42, 180, 0, 57, 16, 24]
abbrev dktX6_bounds_1 : List UInt8 := dkwX6_bounds_1 ++ dktX6_bounds_2
def dkwX6_bounds_0 : List UInt8 := [42, 3, 181, 0, 115, 42, 27, 182, 1, 63, 153, 0, 24, 28, 4, 161, 0, 19, 28, 17, 3, 231]
abbrev dktX6_bounds_0 : List UInt8 := dkwX6_bounds_0 ++ dktX6_bounds_1
theorem dksX6_bounds_0 : cX6_bounds.data.toList.drop 0 = dktX6_bounds_0 := by decide +kernel
theorem dksX6_bounds_1 : cX6_bounds.data.toList.drop 22 = dktX6_bounds_1 := dk_seg dksX6_bounds_0 22 rfl rfl
theorem dksX6_bounds_2 : cX6_bounds.data.toList.drop 46 = dktX6_bounds_2 := dk_seg dksX6_bounds_1 24 rfl rfl
theorem dX6_bounds_0 : decode cX6_bounds 0 = .ok (.aload_n 0, 1) := dk_42 (dk_at dksX6_bounds_0 0 rfl rfl)
theorem dX6_bounds_1 : decode cX6_bounds 1 = .ok (.iconst 0, 1) := dk_3 (dk_at dksX6_bounds_0 1 rfl rfl)
theorem dX6_bounds_2 : decode cX6_bounds 2 = .ok (.putfield 115, 3) := dk_181 0 115 (dk_at dksX6_bounds_0 2 rfl rfl)
theorem dX6_bounds_5 : decode cX6_bounds 5 = .ok (.aload_n 0, 1) := dk_42 (dk_at dksX6_bounds_0 5 rfl rfl)
theorem dX6_bounds_6 : decode cX6_bounds 6 = .ok (.iload_n 1, 1) := dk_27 (dk_at dksX6_bounds_0 6 rfl rfl)
theorem dX6_bounds_7 : decode cX6_bounds 7 = .ok (.invokevirtual 319, 3) := dk_182 1 63 (dk_at dksX6_bounds_0 7 rfl rfl)
theorem dX6_bounds_10 : decode cX6_bounds 10 = .ok (.ifCond .eq 24, 3) := dk_153 0 24 (dk_at dksX6_bounds_0 10 rfl rfl)
theorem dX6_bounds_13 : decode cX6_bounds 13 = .ok (.iload_n 2, 1) := dk_28 (dk_at dksX6_bounds_0 13 rfl rfl)
theorem dX6_bounds_14 : decode cX6_bounds 14 = .ok (.iconst 1, 1) := dk_4 (dk_at dksX6_bounds_0 14 rfl rfl)
theorem dX6_bounds_15 : decode cX6_bounds 15 = .ok (.if_icmp .lt 19, 3) := dk_161 0 19 (dk_at dksX6_bounds_0 15 rfl rfl)
theorem dX6_bounds_18 : decode cX6_bounds 18 = .ok (.iload_n 2, 1) := dk_28 (dk_at dksX6_bounds_0 18 rfl rfl)
theorem dX6_bounds_19 : decode cX6_bounds 19 = .ok (.sipush 999, 3) := dk_17 3 231 (dk_at dksX6_bounds_0 19 rfl rfl)
theorem dX6_bounds_22 : decode cX6_bounds 22 = .ok (.if_icmp .gt 12, 3) := dk_163 0 12 (dk_at dksX6_bounds_1 0 rfl rfl)
theorem dX6_bounds_25 : decode cX6_bounds 25 = .ok (.iload_n 3, 1) := dk_29 (dk_at dksX6_bounds_1 3 rfl rfl)
theorem dX6_bounds_26 : decode cX6_bounds 26 = .ok (.ifCond .lt 8, 3) := dk_155 0 8 (dk_at dksX6_bounds_1 4 rfl rfl)
theorem dX6_bounds_29 : decode cX6_bounds 29 = .ok (.iload_n 3, 1) := dk_29 (dk_at dksX6_bounds_1 7 rfl rfl)
theorem dX6_bounds_30 : decode cX6_bounds 30 = .ok (.iload_n 2, 1) := dk_28 (dk_at dksX6_bounds_1 8 rfl rfl)
theorem dX6_bounds_31 : decode cX6_bounds 31 = .ok (.if_icmp .lt 5, 3) := dk_161 0 5 (dk_at dksX6_bounds_1 9 rfl rfl)
theorem dX6_bounds_34 : decode cX6_bounds 34 = .ok (.iconst 0, 1) := dk_3 (dk_at dksX6_bounds_1 12 rfl rfl)
theorem dX6_bounds_35 : decode cX6_bounds 35 = .ok (.ireturn, 1) := dk_172 (dk_at dksX6_bounds_1 13 rfl rfl)
theorem dX6_bounds_36 : decode cX6_bounds 36 = .ok (.aload_n 0, 1) := dk_42 (dk_at dksX6_bounds_1 14 rfl rfl)
theorem dX6_bounds_37 : decode cX6_bounds 37 = .ok (.invokevirtual 310, 3) := dk_182 1 54 (dk_at dksX6_bounds_1 15 rfl rfl)
theorem dX6_bounds_40 : decode cX6_bounds 40 = .ok (.aload_n 0, 1) := dk_42 (dk_at dksX6_bounds_1 18 rfl rfl)
theorem dX6_bounds_41 : decode cX6_bounds 41 = .ok (.getfield 57, 3) := dk_180 0 57 (dk_at dksX6_bounds_1 19 rfl rfl)
theorem dX6_bounds_44 : decode cX6_bounds 44 = .ok (.bipush 24, 2) := dk_16 24 (dk_at dksX6_bounds_1 22 rfl rfl)
theorem dX6_bounds_46 : decode cX6_bounds 46 = .ok (.iload_n 1, 1) := dk_27 (dk_at dksX6_bounds_2 0 rfl rfl)
theorem dX6_bounds_47 : decode cX6_bounds 47 = .ok (.imul, 1) := dk_104 (dk_at dksX6_bounds_2 1 rfl rfl)
theorem dX6_bounds_48 : decode cX6_bounds 48 = .ok (.iconst 0, 1) := dk_3 (dk_at dksX6_bounds_2 2 rfl rfl)
theorem dX6_bounds_49 : decode cX6_bounds 49 = .ok (.iadd, 1) := dk_96 (dk_at dksX6_bounds_2 3 rfl rfl)
theorem dX6_bounds_50 : decode cX6_bounds 50 = .ok (.iload_n 2, 1) := dk_28 (dk_at dksX6_bounds_2 4 rfl rfl)
theorem dX6_bounds_51 : decode cX6_bounds 51 = .ok (.iastore, 1) := dk_79 (dk_at dksX6_bounds_2 5 rfl rfl)
theorem dX6_bounds_52 : decode cX6_bounds 52 = .ok (.aload_n 0, 1) := dk_42 (dk_at dksX6_bounds_2 6 rfl rfl)
theorem dX6_bounds_53 : decode cX6_bounds 53 = .ok (.getfield 57, 3) := dk_180 0 57 (dk_at dksX6_bounds_2 7 rfl rfl)
theorem dX6_bounds_56 : decode cX6_bounds 56 = .ok (.bipush 24, 2) := dk_16 24 (dk_at dksX6_bounds_2 10 rfl rfl)
theorem dX6_bounds_58 : decode cX6_bounds 58 = .ok (.iload_n 1, 1) := dk_27 (dk_at dksX6_bounds_2 12 rfl rfl)
theorem dX6_bounds_59 : decode cX6_bounds 59 = .ok (.imul, 1) := dk_104 (dk_at dksX6_bounds_2 13 rfl rfl)
theorem dX6_bounds_60 : decode cX6_bounds 60 = .ok (.iconst 1, 1) := dk_4 (dk_at dksX6_bounds_2 14 rfl rfl)
theorem dX6_bounds_61 : decode cX6_bounds 61 = .ok (.iadd, 1) := dk_96 (dk_at dksX6_bounds_2 15 rfl rfl)
theorem dX6_bounds_62 : decode cX6_bounds 62 = .ok (.iload_n 3, 1) := dk_29 (dk_at dksX6_bounds_2 16 rfl rfl)
theorem dX6_bounds_63 : decode cX6_bounds 63 = .ok (.iastore, 1) := dk_79 (dk_at dksX6_bounds_2 17 rfl rfl)
theorem dX6_bounds_64 : decode cX6_bounds 64 = .ok (.iconst 1, 1) := dk_4 (dk_at dksX6_bounds_2 18 rfl rfl)
theorem dX6_bounds_65 : decode cX6_bounds 65 = .ok (.ireturn, 1) := dk_172 (dk_at dksX6_bounds_2 19 rfl rfl)
abbrev cX6_isLink : ByteArray := prog_18_method_60_code
def yX6_isLink : MethodName := ⟨RX6, "isLink", "(I)Z"⟩
def dkwX6_isLink_0 : List UInt8 := [27, 155, 0, 15, 27, 42, 182, 0, 248, 162, 0, 7, 4, 167, 0, 4, 3, 172]
abbrev dktX6_isLink_0 : List UInt8 := dkwX6_isLink_0 ++ []
theorem dksX6_isLink_0 : cX6_isLink.data.toList.drop 0 = dktX6_isLink_0 := by decide +kernel
theorem dX6_isLink_0 : decode cX6_isLink 0 = .ok (.iload_n 1, 1) := dk_27 (dk_at dksX6_isLink_0 0 rfl rfl)
theorem dX6_isLink_1 : decode cX6_isLink 1 = .ok (.ifCond .lt 15, 3) := dk_155 0 15 (dk_at dksX6_isLink_0 1 rfl rfl)
theorem dX6_isLink_4 : decode cX6_isLink 4 = .ok (.iload_n 1, 1) := dk_27 (dk_at dksX6_isLink_0 4 rfl rfl)
theorem dX6_isLink_5 : decode cX6_isLink 5 = .ok (.aload_n 0, 1) := dk_42 (dk_at dksX6_isLink_0 5 rfl rfl)
theorem dX6_isLink_6 : decode cX6_isLink 6 = .ok (.invokevirtual 248, 3) := dk_182 0 248 (dk_at dksX6_isLink_0 6 rfl rfl)
theorem dX6_isLink_9 : decode cX6_isLink 9 = .ok (.if_icmp .ge 7, 3) := dk_162 0 7 (dk_at dksX6_isLink_0 9 rfl rfl)
theorem dX6_isLink_12 : decode cX6_isLink 12 = .ok (.iconst 1, 1) := dk_4 (dk_at dksX6_isLink_0 12 rfl rfl)
theorem dX6_isLink_13 : decode cX6_isLink 13 = .ok (.goto 4, 3) := dk_167 0 4 (dk_at dksX6_isLink_0 13 rfl rfl)
theorem dX6_isLink_16 : decode cX6_isLink 16 = .ok (.iconst 0, 1) := dk_3 (dk_at dksX6_isLink_0 16 rfl rfl)
theorem dX6_isLink_17 : decode cX6_isLink 17 = .ok (.ireturn, 1) := dk_172 (dk_at dksX6_isLink_0 17 rfl rfl)
abbrev cX6_size : ByteArray := prog_18_method_65_code
def yX6_size : MethodName := ⟨RX6, "size", "(II)I"⟩
def dkwX6_size_2 : List UInt8 := [180, 0, 57, 16, 24, 27, 104, 5, 96, 28, 79, 29, 172]
abbrev dktX6_size_2 : List UInt8 := dkwX6_size_2 ++ []
def dkwX6_size_1 : List UInt8 := [164, 0, 5, 2, 172, 42, 182, 1, 54, 42, 180, 0, 57, 16, 24, 27, 104, 5, 96, 46, 62, 42]
abbrev dktX6_size_1 : List UInt8 := dkwX6_size_1 ++ dktX6_size_2
def dkwX6_size_0 : List UInt8 := [42, 3, 181, 0, 115, 42, 27, 182, 1, 63, 153, 0, 15, 28, 4, 161, 0, 10, 28, 17, 7, 207]
abbrev dktX6_size_0 : List UInt8 := dkwX6_size_0 ++ dktX6_size_1
theorem dksX6_size_0 : cX6_size.data.toList.drop 0 = dktX6_size_0 := by decide +kernel
theorem dksX6_size_1 : cX6_size.data.toList.drop 22 = dktX6_size_1 := dk_seg dksX6_size_0 22 rfl rfl
theorem dksX6_size_2 : cX6_size.data.toList.drop 44 = dktX6_size_2 := dk_seg dksX6_size_1 22 rfl rfl
theorem dX6_size_0 : decode cX6_size 0 = .ok (.aload_n 0, 1) := dk_42 (dk_at dksX6_size_0 0 rfl rfl)
theorem dX6_size_1 : decode cX6_size 1 = .ok (.iconst 0, 1) := dk_3 (dk_at dksX6_size_0 1 rfl rfl)
theorem dX6_size_2 : decode cX6_size 2 = .ok (.putfield 115, 3) := dk_181 0 115 (dk_at dksX6_size_0 2 rfl rfl)
theorem dX6_size_5 : decode cX6_size 5 = .ok (.aload_n 0, 1) := dk_42 (dk_at dksX6_size_0 5 rfl rfl)
theorem dX6_size_6 : decode cX6_size 6 = .ok (.iload_n 1, 1) := dk_27 (dk_at dksX6_size_0 6 rfl rfl)
theorem dX6_size_7 : decode cX6_size 7 = .ok (.invokevirtual 319, 3) := dk_182 1 63 (dk_at dksX6_size_0 7 rfl rfl)
theorem dX6_size_10 : decode cX6_size 10 = .ok (.ifCond .eq 15, 3) := dk_153 0 15 (dk_at dksX6_size_0 10 rfl rfl)
theorem dX6_size_13 : decode cX6_size 13 = .ok (.iload_n 2, 1) := dk_28 (dk_at dksX6_size_0 13 rfl rfl)
theorem dX6_size_14 : decode cX6_size 14 = .ok (.iconst 1, 1) := dk_4 (dk_at dksX6_size_0 14 rfl rfl)
theorem dX6_size_15 : decode cX6_size 15 = .ok (.if_icmp .lt 10, 3) := dk_161 0 10 (dk_at dksX6_size_0 15 rfl rfl)
theorem dX6_size_18 : decode cX6_size 18 = .ok (.iload_n 2, 1) := dk_28 (dk_at dksX6_size_0 18 rfl rfl)
theorem dX6_size_19 : decode cX6_size 19 = .ok (.sipush 1999, 3) := dk_17 7 207 (dk_at dksX6_size_0 19 rfl rfl)
theorem dX6_size_22 : decode cX6_size 22 = .ok (.if_icmp .le 5, 3) := dk_164 0 5 (dk_at dksX6_size_1 0 rfl rfl)
theorem dX6_size_25 : decode cX6_size 25 = .ok (.iconst (-1), 1) := dk_2 (dk_at dksX6_size_1 3 rfl rfl)
theorem dX6_size_26 : decode cX6_size 26 = .ok (.ireturn, 1) := dk_172 (dk_at dksX6_size_1 4 rfl rfl)
theorem dX6_size_27 : decode cX6_size 27 = .ok (.aload_n 0, 1) := dk_42 (dk_at dksX6_size_1 5 rfl rfl)
theorem dX6_size_28 : decode cX6_size 28 = .ok (.invokevirtual 310, 3) := dk_182 1 54 (dk_at dksX6_size_1 6 rfl rfl)
theorem dX6_size_31 : decode cX6_size 31 = .ok (.aload_n 0, 1) := dk_42 (dk_at dksX6_size_1 9 rfl rfl)
theorem dX6_size_32 : decode cX6_size 32 = .ok (.getfield 57, 3) := dk_180 0 57 (dk_at dksX6_size_1 10 rfl rfl)
theorem dX6_size_35 : decode cX6_size 35 = .ok (.bipush 24, 2) := dk_16 24 (dk_at dksX6_size_1 13 rfl rfl)
theorem dX6_size_37 : decode cX6_size 37 = .ok (.iload_n 1, 1) := dk_27 (dk_at dksX6_size_1 15 rfl rfl)
theorem dX6_size_38 : decode cX6_size 38 = .ok (.imul, 1) := dk_104 (dk_at dksX6_size_1 16 rfl rfl)
theorem dX6_size_39 : decode cX6_size 39 = .ok (.iconst 2, 1) := dk_5 (dk_at dksX6_size_1 17 rfl rfl)
theorem dX6_size_40 : decode cX6_size 40 = .ok (.iadd, 1) := dk_96 (dk_at dksX6_size_1 18 rfl rfl)
theorem dX6_size_41 : decode cX6_size 41 = .ok (.iaload, 1) := dk_46 (dk_at dksX6_size_1 19 rfl rfl)
theorem dX6_size_42 : decode cX6_size 42 = .ok (.istore_n 3, 1) := dk_62 (dk_at dksX6_size_1 20 rfl rfl)
theorem dX6_size_43 : decode cX6_size 43 = .ok (.aload_n 0, 1) := dk_42 (dk_at dksX6_size_1 21 rfl rfl)
theorem dX6_size_44 : decode cX6_size 44 = .ok (.getfield 57, 3) := dk_180 0 57 (dk_at dksX6_size_2 0 rfl rfl)
theorem dX6_size_47 : decode cX6_size 47 = .ok (.bipush 24, 2) := dk_16 24 (dk_at dksX6_size_2 3 rfl rfl)
theorem dX6_size_49 : decode cX6_size 49 = .ok (.iload_n 1, 1) := dk_27 (dk_at dksX6_size_2 5 rfl rfl)
theorem dX6_size_50 : decode cX6_size 50 = .ok (.imul, 1) := dk_104 (dk_at dksX6_size_2 6 rfl rfl)
theorem dX6_size_51 : decode cX6_size 51 = .ok (.iconst 2, 1) := dk_5 (dk_at dksX6_size_2 7 rfl rfl)
theorem dX6_size_52 : decode cX6_size 52 = .ok (.iadd, 1) := dk_96 (dk_at dksX6_size_2 8 rfl rfl)
theorem dX6_size_53 : decode cX6_size 53 = .ok (.iload_n 2, 1) := dk_28 (dk_at dksX6_size_2 9 rfl rfl)
theorem dX6_size_54 : decode cX6_size 54 = .ok (.iastore, 1) := dk_79 (dk_at dksX6_size_2 10 rfl rfl)
theorem dX6_size_55 : decode cX6_size 55 = .ok (.iload_n 3, 1) := dk_29 (dk_at dksX6_size_2 11 rfl rfl)
theorem dX6_size_56 : decode cX6_size 56 = .ok (.ireturn, 1) := dk_172 (dk_at dksX6_size_2 12 rfl rfl)
abbrev cX6_link : ByteArray := prog_18_method_66_code
def yX6_link : MethodName := ⟨RX6, "link", "(II)I"⟩
def dkwX6_link_8 : List UInt8 := [172, 42, 180, 0, 57, 29, 16, 8, 96, 46, 172, 42, 5, 181, 0, 115, 3, 172]
abbrev dktX6_link_8 : List UInt8 := dkwX6_link_8 ++ []
def dkwX6_link_7 : List UInt8 := [29, 8, 96, 46, 172, 42, 180, 0, 57, 29, 16, 6, 96, 46, 172, 42, 180, 0, 57, 29, 16, 7, 96, 46]
abbrev dktX6_link_7 : List UInt8 := dkwX6_link_7 ++ dktX6_link_8
def dkwX6_link_6 : List UInt8 := [46, 172, 42, 180, 0, 57, 29, 6, 96, 46, 172, 42, 180, 0, 57, 29, 7, 96, 46, 172, 42, 180, 0, 57]
abbrev dktX6_link_6 : List UInt8 := dkwX6_link_6 ++ dktX6_link_7
def dkwX6_link_5 : List UInt8 := [180, 0, 57, 29, 16, 10, 96, 46, 172, 42, 180, 0, 57, 29, 16, 10, 96, 42, 180, 0, 26, 27, 46, 96]
abbrev dktX6_link_5 : List UInt8 := dkwX6_link_5 ++ dktX6_link_6
def dkwX6_link_4 : List UInt8 := [180, 0, 57, 29, 4, 96, 46, 172, 42, 180, 0, 57, 29, 5, 96, 46, 172, 42, 27, 182, 1, 8, 172, 42]
abbrev dktX6_link_4 : List UInt8 := dkwX6_link_4 ++ dktX6_link_5
def dkwX6_link_3 : List UInt8 := [42, 180, 0, 23, 27, 46, 172, 42, 180, 0, 26, 27, 46, 172, 42, 180, 0, 57, 29, 3, 96, 46, 172, 42]
abbrev dktX6_link_3 : List UInt8 := dkwX6_link_3 ++ dktX6_link_4
def dkwX6_link_2 : List UInt8 := [170, 0, 0, 0, 0, 201, 0, 0, 0, 0, 0, 0, 0, 13, 0, 0, 0, 70, 0, 0, 0, 77, 0, 0, 0, 84, 0, 0, 0, 93, 0, 0, 0, 102, 0, 0, 0, 111, 0, 0, 0, 117, 0, 0, 0, 127, 0, 0, 0, 144, 0, 0, 0, 153, 0, 0, 0, 162, 0, 0, 0, 171, 0, 0, 0, 181, 0, 0, 0, 191]
abbrev dktX6_link_2 : List UInt8 := dkwX6_link_2 ++ dktX6_link_3
def dkwX6_link_1 : List UInt8 := [62, 28]
abbrev dktX6_link_1 : List UInt8 := dkwX6_link_1 ++ dktX6_link_2
def dkwX6_link_0 : List UInt8 := [42, 3, 181, 0, 115, 42, 27, 182, 1, 63, 154, 0, 10, 42, 4, 181, 0, 115, 3, 172, 16, 24, 27, 104]
abbrev dktX6_link_0 : List UInt8 := dkwX6_link_0 ++ dktX6_link_1
theorem dksX6_link_0 : cX6_link.data.toList.drop 0 = dktX6_link_0 := by decide +kernel
theorem dksX6_link_1 : cX6_link.data.toList.drop 24 = dktX6_link_1 := dk_seg dksX6_link_0 24 rfl rfl
theorem dksX6_link_2 : cX6_link.data.toList.drop 26 = dktX6_link_2 := dk_seg dksX6_link_1 2 rfl rfl
theorem dksX6_link_3 : cX6_link.data.toList.drop 96 = dktX6_link_3 := dk_seg dksX6_link_2 70 rfl rfl
theorem dksX6_link_4 : cX6_link.data.toList.drop 120 = dktX6_link_4 := dk_seg dksX6_link_3 24 rfl rfl
theorem dksX6_link_5 : cX6_link.data.toList.drop 144 = dktX6_link_5 := dk_seg dksX6_link_4 24 rfl rfl
theorem dksX6_link_6 : cX6_link.data.toList.drop 168 = dktX6_link_6 := dk_seg dksX6_link_5 24 rfl rfl
theorem dksX6_link_7 : cX6_link.data.toList.drop 192 = dktX6_link_7 := dk_seg dksX6_link_6 24 rfl rfl
theorem dksX6_link_8 : cX6_link.data.toList.drop 216 = dktX6_link_8 := dk_seg dksX6_link_7 24 rfl rfl
theorem dX6_link_0 : decode cX6_link 0 = .ok (.aload_n 0, 1) := dk_42 (dk_at dksX6_link_0 0 rfl rfl)
theorem dX6_link_1 : decode cX6_link 1 = .ok (.iconst 0, 1) := dk_3 (dk_at dksX6_link_0 1 rfl rfl)
theorem dX6_link_2 : decode cX6_link 2 = .ok (.putfield 115, 3) := dk_181 0 115 (dk_at dksX6_link_0 2 rfl rfl)
theorem dX6_link_5 : decode cX6_link 5 = .ok (.aload_n 0, 1) := dk_42 (dk_at dksX6_link_0 5 rfl rfl)
theorem dX6_link_6 : decode cX6_link 6 = .ok (.iload_n 1, 1) := dk_27 (dk_at dksX6_link_0 6 rfl rfl)
theorem dX6_link_7 : decode cX6_link 7 = .ok (.invokevirtual 319, 3) := dk_182 1 63 (dk_at dksX6_link_0 7 rfl rfl)
theorem dX6_link_10 : decode cX6_link 10 = .ok (.ifCond .ne 10, 3) := dk_154 0 10 (dk_at dksX6_link_0 10 rfl rfl)
theorem dX6_link_13 : decode cX6_link 13 = .ok (.aload_n 0, 1) := dk_42 (dk_at dksX6_link_0 13 rfl rfl)
theorem dX6_link_14 : decode cX6_link 14 = .ok (.iconst 1, 1) := dk_4 (dk_at dksX6_link_0 14 rfl rfl)
theorem dX6_link_15 : decode cX6_link 15 = .ok (.putfield 115, 3) := dk_181 0 115 (dk_at dksX6_link_0 15 rfl rfl)
theorem dX6_link_18 : decode cX6_link 18 = .ok (.iconst 0, 1) := dk_3 (dk_at dksX6_link_0 18 rfl rfl)
theorem dX6_link_19 : decode cX6_link 19 = .ok (.ireturn, 1) := dk_172 (dk_at dksX6_link_0 19 rfl rfl)
theorem dX6_link_20 : decode cX6_link 20 = .ok (.bipush 24, 2) := dk_16 24 (dk_at dksX6_link_0 20 rfl rfl)
theorem dX6_link_22 : decode cX6_link 22 = .ok (.iload_n 1, 1) := dk_27 (dk_at dksX6_link_0 22 rfl rfl)
theorem dX6_link_23 : decode cX6_link 23 = .ok (.imul, 1) := dk_104 (dk_at dksX6_link_0 23 rfl rfl)
theorem dX6_link_24 : decode cX6_link 24 = .ok (.istore_n 3, 1) := dk_62 (dk_at dksX6_link_1 0 rfl rfl)
theorem dX6_link_25 : decode cX6_link 25 = .ok (.iload_n 2, 1) := dk_28 (dk_at dksX6_link_1 1 rfl rfl)
theorem dX6_link_26 : decode cX6_link 26 = .ok (.tableswitch 201 0 13 #[70, 77, 84, 93, 102, 111, 117, 127, 144, 153, 162, 171, 181, 191], 70) := by decide +kernel
theorem dX6_link_96 : decode cX6_link 96 = .ok (.aload_n 0, 1) := dk_42 (dk_at dksX6_link_3 0 rfl rfl)
theorem dX6_link_97 : decode cX6_link 97 = .ok (.getfield 23, 3) := dk_180 0 23 (dk_at dksX6_link_3 1 rfl rfl)
theorem dX6_link_100 : decode cX6_link 100 = .ok (.iload_n 1, 1) := dk_27 (dk_at dksX6_link_3 4 rfl rfl)
theorem dX6_link_101 : decode cX6_link 101 = .ok (.iaload, 1) := dk_46 (dk_at dksX6_link_3 5 rfl rfl)
theorem dX6_link_102 : decode cX6_link 102 = .ok (.ireturn, 1) := dk_172 (dk_at dksX6_link_3 6 rfl rfl)
theorem dX6_link_103 : decode cX6_link 103 = .ok (.aload_n 0, 1) := dk_42 (dk_at dksX6_link_3 7 rfl rfl)
theorem dX6_link_104 : decode cX6_link 104 = .ok (.getfield 26, 3) := dk_180 0 26 (dk_at dksX6_link_3 8 rfl rfl)
theorem dX6_link_107 : decode cX6_link 107 = .ok (.iload_n 1, 1) := dk_27 (dk_at dksX6_link_3 11 rfl rfl)
theorem dX6_link_108 : decode cX6_link 108 = .ok (.iaload, 1) := dk_46 (dk_at dksX6_link_3 12 rfl rfl)
theorem dX6_link_109 : decode cX6_link 109 = .ok (.ireturn, 1) := dk_172 (dk_at dksX6_link_3 13 rfl rfl)
theorem dX6_link_110 : decode cX6_link 110 = .ok (.aload_n 0, 1) := dk_42 (dk_at dksX6_link_3 14 rfl rfl)
theorem dX6_link_111 : decode cX6_link 111 = .ok (.getfield 57, 3) := dk_180 0 57 (dk_at dksX6_link_3 15 rfl rfl)
theorem dX6_link_114 : decode cX6_link 114 = .ok (.iload_n 3, 1) := dk_29 (dk_at dksX6_link_3 18 rfl rfl)
theorem dX6_link_115 : decode cX6_link 115 = .ok (.iconst 0, 1) := dk_3 (dk_at dksX6_link_3 19 rfl rfl)
theorem dX6_link_116 : decode cX6_link 116 = .ok (.iadd, 1) := dk_96 (dk_at dksX6_link_3 20 rfl rfl)
theorem dX6_link_117 : decode cX6_link 117 = .ok (.iaload, 1) := dk_46 (dk_at dksX6_link_3 21 rfl rfl)
theorem dX6_link_118 : decode cX6_link 118 = .ok (.ireturn, 1) := dk_172 (dk_at dksX6_link_3 22 rfl rfl)
theorem dX6_link_119 : decode cX6_link 119 = .ok (.aload_n 0, 1) := dk_42 (dk_at dksX6_link_3 23 rfl rfl)
theorem dX6_link_120 : decode cX6_link 120 = .ok (.getfield 57, 3) := dk_180 0 57 (dk_at dksX6_link_4 0 rfl rfl)
theorem dX6_link_123 : decode cX6_link 123 = .ok (.iload_n 3, 1) := dk_29 (dk_at dksX6_link_4 3 rfl rfl)
theorem dX6_link_124 : decode cX6_link 124 = .ok (.iconst 1, 1) := dk_4 (dk_at dksX6_link_4 4 rfl rfl)
theorem dX6_link_125 : decode cX6_link 125 = .ok (.iadd, 1) := dk_96 (dk_at dksX6_link_4 5 rfl rfl)
theorem dX6_link_126 : decode cX6_link 126 = .ok (.iaload, 1) := dk_46 (dk_at dksX6_link_4 6 rfl rfl)
theorem dX6_link_127 : decode cX6_link 127 = .ok (.ireturn, 1) := dk_172 (dk_at dksX6_link_4 7 rfl rfl)
theorem dX6_link_128 : decode cX6_link 128 = .ok (.aload_n 0, 1) := dk_42 (dk_at dksX6_link_4 8 rfl rfl)
theorem dX6_link_129 : decode cX6_link 129 = .ok (.getfield 57, 3) := dk_180 0 57 (dk_at dksX6_link_4 9 rfl rfl)
theorem dX6_link_132 : decode cX6_link 132 = .ok (.iload_n 3, 1) := dk_29 (dk_at dksX6_link_4 12 rfl rfl)
theorem dX6_link_133 : decode cX6_link 133 = .ok (.iconst 2, 1) := dk_5 (dk_at dksX6_link_4 13 rfl rfl)
theorem dX6_link_134 : decode cX6_link 134 = .ok (.iadd, 1) := dk_96 (dk_at dksX6_link_4 14 rfl rfl)
theorem dX6_link_135 : decode cX6_link 135 = .ok (.iaload, 1) := dk_46 (dk_at dksX6_link_4 15 rfl rfl)
theorem dX6_link_136 : decode cX6_link 136 = .ok (.ireturn, 1) := dk_172 (dk_at dksX6_link_4 16 rfl rfl)
theorem dX6_link_137 : decode cX6_link 137 = .ok (.aload_n 0, 1) := dk_42 (dk_at dksX6_link_4 17 rfl rfl)
theorem dX6_link_138 : decode cX6_link 138 = .ok (.iload_n 1, 1) := dk_27 (dk_at dksX6_link_4 18 rfl rfl)
theorem dX6_link_139 : decode cX6_link 139 = .ok (.invokevirtual 264, 3) := dk_182 1 8 (dk_at dksX6_link_4 19 rfl rfl)
theorem dX6_link_142 : decode cX6_link 142 = .ok (.ireturn, 1) := dk_172 (dk_at dksX6_link_4 22 rfl rfl)
theorem dX6_link_143 : decode cX6_link 143 = .ok (.aload_n 0, 1) := dk_42 (dk_at dksX6_link_4 23 rfl rfl)
theorem dX6_link_144 : decode cX6_link 144 = .ok (.getfield 57, 3) := dk_180 0 57 (dk_at dksX6_link_5 0 rfl rfl)
theorem dX6_link_147 : decode cX6_link 147 = .ok (.iload_n 3, 1) := dk_29 (dk_at dksX6_link_5 3 rfl rfl)
theorem dX6_link_148 : decode cX6_link 148 = .ok (.bipush 10, 2) := dk_16 10 (dk_at dksX6_link_5 4 rfl rfl)
theorem dX6_link_150 : decode cX6_link 150 = .ok (.iadd, 1) := dk_96 (dk_at dksX6_link_5 6 rfl rfl)
theorem dX6_link_151 : decode cX6_link 151 = .ok (.iaload, 1) := dk_46 (dk_at dksX6_link_5 7 rfl rfl)
theorem dX6_link_152 : decode cX6_link 152 = .ok (.ireturn, 1) := dk_172 (dk_at dksX6_link_5 8 rfl rfl)
theorem dX6_link_153 : decode cX6_link 153 = .ok (.aload_n 0, 1) := dk_42 (dk_at dksX6_link_5 9 rfl rfl)
theorem dX6_link_154 : decode cX6_link 154 = .ok (.getfield 57, 3) := dk_180 0 57 (dk_at dksX6_link_5 10 rfl rfl)
theorem dX6_link_157 : decode cX6_link 157 = .ok (.iload_n 3, 1) := dk_29 (dk_at dksX6_link_5 13 rfl rfl)
theorem dX6_link_158 : decode cX6_link 158 = .ok (.bipush 10, 2) := dk_16 10 (dk_at dksX6_link_5 14 rfl rfl)
theorem dX6_link_160 : decode cX6_link 160 = .ok (.iadd, 1) := dk_96 (dk_at dksX6_link_5 16 rfl rfl)
theorem dX6_link_161 : decode cX6_link 161 = .ok (.aload_n 0, 1) := dk_42 (dk_at dksX6_link_5 17 rfl rfl)
theorem dX6_link_162 : decode cX6_link 162 = .ok (.getfield 26, 3) := dk_180 0 26 (dk_at dksX6_link_5 18 rfl rfl)
theorem dX6_link_165 : decode cX6_link 165 = .ok (.iload_n 1, 1) := dk_27 (dk_at dksX6_link_5 21 rfl rfl)
theorem dX6_link_166 : decode cX6_link 166 = .ok (.iaload, 1) := dk_46 (dk_at dksX6_link_5 22 rfl rfl)
theorem dX6_link_167 : decode cX6_link 167 = .ok (.iadd, 1) := dk_96 (dk_at dksX6_link_5 23 rfl rfl)
theorem dX6_link_168 : decode cX6_link 168 = .ok (.iaload, 1) := dk_46 (dk_at dksX6_link_6 0 rfl rfl)
theorem dX6_link_169 : decode cX6_link 169 = .ok (.ireturn, 1) := dk_172 (dk_at dksX6_link_6 1 rfl rfl)
theorem dX6_link_170 : decode cX6_link 170 = .ok (.aload_n 0, 1) := dk_42 (dk_at dksX6_link_6 2 rfl rfl)
theorem dX6_link_171 : decode cX6_link 171 = .ok (.getfield 57, 3) := dk_180 0 57 (dk_at dksX6_link_6 3 rfl rfl)
theorem dX6_link_174 : decode cX6_link 174 = .ok (.iload_n 3, 1) := dk_29 (dk_at dksX6_link_6 6 rfl rfl)
theorem dX6_link_175 : decode cX6_link 175 = .ok (.iconst 3, 1) := dk_6 (dk_at dksX6_link_6 7 rfl rfl)
theorem dX6_link_176 : decode cX6_link 176 = .ok (.iadd, 1) := dk_96 (dk_at dksX6_link_6 8 rfl rfl)
theorem dX6_link_177 : decode cX6_link 177 = .ok (.iaload, 1) := dk_46 (dk_at dksX6_link_6 9 rfl rfl)
theorem dX6_link_178 : decode cX6_link 178 = .ok (.ireturn, 1) := dk_172 (dk_at dksX6_link_6 10 rfl rfl)
theorem dX6_link_179 : decode cX6_link 179 = .ok (.aload_n 0, 1) := dk_42 (dk_at dksX6_link_6 11 rfl rfl)
theorem dX6_link_180 : decode cX6_link 180 = .ok (.getfield 57, 3) := dk_180 0 57 (dk_at dksX6_link_6 12 rfl rfl)
theorem dX6_link_183 : decode cX6_link 183 = .ok (.iload_n 3, 1) := dk_29 (dk_at dksX6_link_6 15 rfl rfl)
theorem dX6_link_184 : decode cX6_link 184 = .ok (.iconst 4, 1) := dk_7 (dk_at dksX6_link_6 16 rfl rfl)
theorem dX6_link_185 : decode cX6_link 185 = .ok (.iadd, 1) := dk_96 (dk_at dksX6_link_6 17 rfl rfl)
theorem dX6_link_186 : decode cX6_link 186 = .ok (.iaload, 1) := dk_46 (dk_at dksX6_link_6 18 rfl rfl)
theorem dX6_link_187 : decode cX6_link 187 = .ok (.ireturn, 1) := dk_172 (dk_at dksX6_link_6 19 rfl rfl)
theorem dX6_link_188 : decode cX6_link 188 = .ok (.aload_n 0, 1) := dk_42 (dk_at dksX6_link_6 20 rfl rfl)
theorem dX6_link_189 : decode cX6_link 189 = .ok (.getfield 57, 3) := dk_180 0 57 (dk_at dksX6_link_6 21 rfl rfl)
theorem dX6_link_192 : decode cX6_link 192 = .ok (.iload_n 3, 1) := dk_29 (dk_at dksX6_link_7 0 rfl rfl)
theorem dX6_link_193 : decode cX6_link 193 = .ok (.iconst 5, 1) := dk_8 (dk_at dksX6_link_7 1 rfl rfl)
theorem dX6_link_194 : decode cX6_link 194 = .ok (.iadd, 1) := dk_96 (dk_at dksX6_link_7 2 rfl rfl)
theorem dX6_link_195 : decode cX6_link 195 = .ok (.iaload, 1) := dk_46 (dk_at dksX6_link_7 3 rfl rfl)
theorem dX6_link_196 : decode cX6_link 196 = .ok (.ireturn, 1) := dk_172 (dk_at dksX6_link_7 4 rfl rfl)
theorem dX6_link_197 : decode cX6_link 197 = .ok (.aload_n 0, 1) := dk_42 (dk_at dksX6_link_7 5 rfl rfl)
theorem dX6_link_198 : decode cX6_link 198 = .ok (.getfield 57, 3) := dk_180 0 57 (dk_at dksX6_link_7 6 rfl rfl)
theorem dX6_link_201 : decode cX6_link 201 = .ok (.iload_n 3, 1) := dk_29 (dk_at dksX6_link_7 9 rfl rfl)
theorem dX6_link_202 : decode cX6_link 202 = .ok (.bipush 6, 2) := dk_16 6 (dk_at dksX6_link_7 10 rfl rfl)
theorem dX6_link_204 : decode cX6_link 204 = .ok (.iadd, 1) := dk_96 (dk_at dksX6_link_7 12 rfl rfl)
theorem dX6_link_205 : decode cX6_link 205 = .ok (.iaload, 1) := dk_46 (dk_at dksX6_link_7 13 rfl rfl)
theorem dX6_link_206 : decode cX6_link 206 = .ok (.ireturn, 1) := dk_172 (dk_at dksX6_link_7 14 rfl rfl)
theorem dX6_link_207 : decode cX6_link 207 = .ok (.aload_n 0, 1) := dk_42 (dk_at dksX6_link_7 15 rfl rfl)
theorem dX6_link_208 : decode cX6_link 208 = .ok (.getfield 57, 3) := dk_180 0 57 (dk_at dksX6_link_7 16 rfl rfl)
theorem dX6_link_211 : decode cX6_link 211 = .ok (.iload_n 3, 1) := dk_29 (dk_at dksX6_link_7 19 rfl rfl)
theorem dX6_link_212 : decode cX6_link 212 = .ok (.bipush 7, 2) := dk_16 7 (dk_at dksX6_link_7 20 rfl rfl)
theorem dX6_link_214 : decode cX6_link 214 = .ok (.iadd, 1) := dk_96 (dk_at dksX6_link_7 22 rfl rfl)
theorem dX6_link_215 : decode cX6_link 215 = .ok (.iaload, 1) := dk_46 (dk_at dksX6_link_7 23 rfl rfl)
theorem dX6_link_216 : decode cX6_link 216 = .ok (.ireturn, 1) := dk_172 (dk_at dksX6_link_8 0 rfl rfl)
theorem dX6_link_217 : decode cX6_link 217 = .ok (.aload_n 0, 1) := dk_42 (dk_at dksX6_link_8 1 rfl rfl)
theorem dX6_link_218 : decode cX6_link 218 = .ok (.getfield 57, 3) := dk_180 0 57 (dk_at dksX6_link_8 2 rfl rfl)
theorem dX6_link_221 : decode cX6_link 221 = .ok (.iload_n 3, 1) := dk_29 (dk_at dksX6_link_8 5 rfl rfl)
theorem dX6_link_222 : decode cX6_link 222 = .ok (.bipush 8, 2) := dk_16 8 (dk_at dksX6_link_8 6 rfl rfl)
theorem dX6_link_224 : decode cX6_link 224 = .ok (.iadd, 1) := dk_96 (dk_at dksX6_link_8 8 rfl rfl)
theorem dX6_link_225 : decode cX6_link 225 = .ok (.iaload, 1) := dk_46 (dk_at dksX6_link_8 9 rfl rfl)
theorem dX6_link_226 : decode cX6_link 226 = .ok (.ireturn, 1) := dk_172 (dk_at dksX6_link_8 10 rfl rfl)
theorem dX6_link_227 : decode cX6_link 227 = .ok (.aload_n 0, 1) := dk_42 (dk_at dksX6_link_8 11 rfl rfl)
theorem dX6_link_228 : decode cX6_link 228 = .ok (.iconst 2, 1) := dk_5 (dk_at dksX6_link_8 12 rfl rfl)
theorem dX6_link_229 : decode cX6_link 229 = .ok (.putfield 115, 3) := dk_181 0 115 (dk_at dksX6_link_8 13 rfl rfl)
theorem dX6_link_232 : decode cX6_link 232 = .ok (.iconst 0, 1) := dk_3 (dk_at dksX6_link_8 16 rfl rfl)
theorem dX6_link_233 : decode cX6_link 233 = .ok (.ireturn, 1) := dk_172 (dk_at dksX6_link_8 17 rfl rfl)
abbrev cX6_queue : ByteArray := prog_18_method_67_code
def yX6_queue : MethodName := ⟨RX6, "queue", "(II)I"⟩
def dkwX6_queue_1 : List UInt8 := [180, 0, 57, 16, 24, 27, 104, 16, 15, 96, 28, 96, 46, 167, 0, 4, 2, 172]
abbrev dktX6_queue_1 : List UInt8 := dkwX6_queue_1 ++ []
def dkwX6_queue_0 : List UInt8 := [42, 3, 181, 0, 115, 42, 27, 182, 1, 63, 153, 0, 28, 42, 28, 182, 1, 60, 153, 0, 20, 42]
abbrev dktX6_queue_0 : List UInt8 := dkwX6_queue_0 ++ dktX6_queue_1
theorem dksX6_queue_0 : cX6_queue.data.toList.drop 0 = dktX6_queue_0 := by decide +kernel
theorem dksX6_queue_1 : cX6_queue.data.toList.drop 22 = dktX6_queue_1 := dk_seg dksX6_queue_0 22 rfl rfl
theorem dX6_queue_0 : decode cX6_queue 0 = .ok (.aload_n 0, 1) := dk_42 (dk_at dksX6_queue_0 0 rfl rfl)
theorem dX6_queue_1 : decode cX6_queue 1 = .ok (.iconst 0, 1) := dk_3 (dk_at dksX6_queue_0 1 rfl rfl)
theorem dX6_queue_2 : decode cX6_queue 2 = .ok (.putfield 115, 3) := dk_181 0 115 (dk_at dksX6_queue_0 2 rfl rfl)
theorem dX6_queue_5 : decode cX6_queue 5 = .ok (.aload_n 0, 1) := dk_42 (dk_at dksX6_queue_0 5 rfl rfl)
theorem dX6_queue_6 : decode cX6_queue 6 = .ok (.iload_n 1, 1) := dk_27 (dk_at dksX6_queue_0 6 rfl rfl)
theorem dX6_queue_7 : decode cX6_queue 7 = .ok (.invokevirtual 319, 3) := dk_182 1 63 (dk_at dksX6_queue_0 7 rfl rfl)
theorem dX6_queue_10 : decode cX6_queue 10 = .ok (.ifCond .eq 28, 3) := dk_153 0 28 (dk_at dksX6_queue_0 10 rfl rfl)
theorem dX6_queue_13 : decode cX6_queue 13 = .ok (.aload_n 0, 1) := dk_42 (dk_at dksX6_queue_0 13 rfl rfl)
theorem dX6_queue_14 : decode cX6_queue 14 = .ok (.iload_n 2, 1) := dk_28 (dk_at dksX6_queue_0 14 rfl rfl)
theorem dX6_queue_15 : decode cX6_queue 15 = .ok (.invokevirtual 316, 3) := dk_182 1 60 (dk_at dksX6_queue_0 15 rfl rfl)
theorem dX6_queue_18 : decode cX6_queue 18 = .ok (.ifCond .eq 20, 3) := dk_153 0 20 (dk_at dksX6_queue_0 18 rfl rfl)
theorem dX6_queue_21 : decode cX6_queue 21 = .ok (.aload_n 0, 1) := dk_42 (dk_at dksX6_queue_0 21 rfl rfl)
theorem dX6_queue_22 : decode cX6_queue 22 = .ok (.getfield 57, 3) := dk_180 0 57 (dk_at dksX6_queue_1 0 rfl rfl)
theorem dX6_queue_25 : decode cX6_queue 25 = .ok (.bipush 24, 2) := dk_16 24 (dk_at dksX6_queue_1 3 rfl rfl)
theorem dX6_queue_27 : decode cX6_queue 27 = .ok (.iload_n 1, 1) := dk_27 (dk_at dksX6_queue_1 5 rfl rfl)
theorem dX6_queue_28 : decode cX6_queue 28 = .ok (.imul, 1) := dk_104 (dk_at dksX6_queue_1 6 rfl rfl)
theorem dX6_queue_29 : decode cX6_queue 29 = .ok (.bipush 15, 2) := dk_16 15 (dk_at dksX6_queue_1 7 rfl rfl)
theorem dX6_queue_31 : decode cX6_queue 31 = .ok (.iadd, 1) := dk_96 (dk_at dksX6_queue_1 9 rfl rfl)
theorem dX6_queue_32 : decode cX6_queue 32 = .ok (.iload_n 2, 1) := dk_28 (dk_at dksX6_queue_1 10 rfl rfl)
theorem dX6_queue_33 : decode cX6_queue 33 = .ok (.iadd, 1) := dk_96 (dk_at dksX6_queue_1 11 rfl rfl)
theorem dX6_queue_34 : decode cX6_queue 34 = .ok (.iaload, 1) := dk_46 (dk_at dksX6_queue_1 12 rfl rfl)
theorem dX6_queue_35 : decode cX6_queue 35 = .ok (.goto 4, 3) := dk_167 0 4 (dk_at dksX6_queue_1 13 rfl rfl)
theorem dX6_queue_38 : decode cX6_queue 38 = .ok (.iconst (-1), 1) := dk_2 (dk_at dksX6_queue_1 16 rfl rfl)
theorem dX6_queue_39 : decode cX6_queue 39 = .ok (.ireturn, 1) := dk_172 (dk_at dksX6_queue_1 17 rfl rfl)
abbrev cX6_flow : ByteArray := prog_18_method_68_code
def yX6_flow : MethodName := ⟨RX6, "flow", "(II)I"⟩
def dkwX6_flow_3 : List UInt8 := [184, 1, 2, 16, 9, 96, 46, 167, 0, 15, 42, 180, 0, 57, 27, 184, 1, 2, 16, 10, 96, 46, 172]
abbrev dktX6_flow_3 : List UInt8 := dkwX6_flow_3 ++ []
def dkwX6_flow_2 : List UInt8 := [160, 0, 12, 42, 180, 0, 47, 27, 46, 167, 0, 36, 28, 16, 10, 160, 0, 18, 42, 180, 0, 57, 27]
abbrev dktX6_flow_2 : List UInt8 := dkwX6_flow_2 ++ dktX6_flow_3
def dkwX6_flow_1 : List UInt8 := [172, 28, 16, 9, 162, 0, 15, 42, 180, 0, 57, 27, 184, 1, 2, 28, 96, 46, 172, 28, 16, 9]
abbrev dktX6_flow_1 : List UInt8 := dkwX6_flow_1 ++ dktX6_flow_2
def dkwX6_flow_0 : List UInt8 := [42, 3, 181, 0, 115, 42, 27, 182, 1, 60, 153, 0, 13, 28, 155, 0, 9, 28, 16, 11, 164, 0, 5, 2]
abbrev dktX6_flow_0 : List UInt8 := dkwX6_flow_0 ++ dktX6_flow_1
theorem dksX6_flow_0 : cX6_flow.data.toList.drop 0 = dktX6_flow_0 := by decide +kernel
theorem dksX6_flow_1 : cX6_flow.data.toList.drop 24 = dktX6_flow_1 := dk_seg dksX6_flow_0 24 rfl rfl
theorem dksX6_flow_2 : cX6_flow.data.toList.drop 46 = dktX6_flow_2 := dk_seg dksX6_flow_1 22 rfl rfl
theorem dksX6_flow_3 : cX6_flow.data.toList.drop 69 = dktX6_flow_3 := dk_seg dksX6_flow_2 23 rfl rfl
theorem dX6_flow_0 : decode cX6_flow 0 = .ok (.aload_n 0, 1) := dk_42 (dk_at dksX6_flow_0 0 rfl rfl)
theorem dX6_flow_1 : decode cX6_flow 1 = .ok (.iconst 0, 1) := dk_3 (dk_at dksX6_flow_0 1 rfl rfl)
theorem dX6_flow_2 : decode cX6_flow 2 = .ok (.putfield 115, 3) := dk_181 0 115 (dk_at dksX6_flow_0 2 rfl rfl)
theorem dX6_flow_5 : decode cX6_flow 5 = .ok (.aload_n 0, 1) := dk_42 (dk_at dksX6_flow_0 5 rfl rfl)
theorem dX6_flow_6 : decode cX6_flow 6 = .ok (.iload_n 1, 1) := dk_27 (dk_at dksX6_flow_0 6 rfl rfl)
theorem dX6_flow_7 : decode cX6_flow 7 = .ok (.invokevirtual 316, 3) := dk_182 1 60 (dk_at dksX6_flow_0 7 rfl rfl)
theorem dX6_flow_10 : decode cX6_flow 10 = .ok (.ifCond .eq 13, 3) := dk_153 0 13 (dk_at dksX6_flow_0 10 rfl rfl)
theorem dX6_flow_13 : decode cX6_flow 13 = .ok (.iload_n 2, 1) := dk_28 (dk_at dksX6_flow_0 13 rfl rfl)
theorem dX6_flow_14 : decode cX6_flow 14 = .ok (.ifCond .lt 9, 3) := dk_155 0 9 (dk_at dksX6_flow_0 14 rfl rfl)
theorem dX6_flow_17 : decode cX6_flow 17 = .ok (.iload_n 2, 1) := dk_28 (dk_at dksX6_flow_0 17 rfl rfl)
theorem dX6_flow_18 : decode cX6_flow 18 = .ok (.bipush 11, 2) := dk_16 11 (dk_at dksX6_flow_0 18 rfl rfl)
theorem dX6_flow_20 : decode cX6_flow 20 = .ok (.if_icmp .le 5, 3) := dk_164 0 5 (dk_at dksX6_flow_0 20 rfl rfl)
theorem dX6_flow_23 : decode cX6_flow 23 = .ok (.iconst (-1), 1) := dk_2 (dk_at dksX6_flow_0 23 rfl rfl)
theorem dX6_flow_24 : decode cX6_flow 24 = .ok (.ireturn, 1) := dk_172 (dk_at dksX6_flow_1 0 rfl rfl)
theorem dX6_flow_25 : decode cX6_flow 25 = .ok (.iload_n 2, 1) := dk_28 (dk_at dksX6_flow_1 1 rfl rfl)
theorem dX6_flow_26 : decode cX6_flow 26 = .ok (.bipush 9, 2) := dk_16 9 (dk_at dksX6_flow_1 2 rfl rfl)
theorem dX6_flow_28 : decode cX6_flow 28 = .ok (.if_icmp .ge 15, 3) := dk_162 0 15 (dk_at dksX6_flow_1 4 rfl rfl)
theorem dX6_flow_31 : decode cX6_flow 31 = .ok (.aload_n 0, 1) := dk_42 (dk_at dksX6_flow_1 7 rfl rfl)
theorem dX6_flow_32 : decode cX6_flow 32 = .ok (.getfield 57, 3) := dk_180 0 57 (dk_at dksX6_flow_1 8 rfl rfl)
theorem dX6_flow_35 : decode cX6_flow 35 = .ok (.iload_n 1, 1) := dk_27 (dk_at dksX6_flow_1 11 rfl rfl)
theorem dX6_flow_36 : decode cX6_flow 36 = .ok (.invokestatic 258, 3) := dk_184 1 2 (dk_at dksX6_flow_1 12 rfl rfl)
theorem dX6_flow_39 : decode cX6_flow 39 = .ok (.iload_n 2, 1) := dk_28 (dk_at dksX6_flow_1 15 rfl rfl)
theorem dX6_flow_40 : decode cX6_flow 40 = .ok (.iadd, 1) := dk_96 (dk_at dksX6_flow_1 16 rfl rfl)
theorem dX6_flow_41 : decode cX6_flow 41 = .ok (.iaload, 1) := dk_46 (dk_at dksX6_flow_1 17 rfl rfl)
theorem dX6_flow_42 : decode cX6_flow 42 = .ok (.ireturn, 1) := dk_172 (dk_at dksX6_flow_1 18 rfl rfl)
theorem dX6_flow_43 : decode cX6_flow 43 = .ok (.iload_n 2, 1) := dk_28 (dk_at dksX6_flow_1 19 rfl rfl)
theorem dX6_flow_44 : decode cX6_flow 44 = .ok (.bipush 9, 2) := dk_16 9 (dk_at dksX6_flow_1 20 rfl rfl)
theorem dX6_flow_46 : decode cX6_flow 46 = .ok (.if_icmp .ne 12, 3) := dk_160 0 12 (dk_at dksX6_flow_2 0 rfl rfl)
theorem dX6_flow_49 : decode cX6_flow 49 = .ok (.aload_n 0, 1) := dk_42 (dk_at dksX6_flow_2 3 rfl rfl)
theorem dX6_flow_50 : decode cX6_flow 50 = .ok (.getfield 47, 3) := dk_180 0 47 (dk_at dksX6_flow_2 4 rfl rfl)
theorem dX6_flow_53 : decode cX6_flow 53 = .ok (.iload_n 1, 1) := dk_27 (dk_at dksX6_flow_2 7 rfl rfl)
theorem dX6_flow_54 : decode cX6_flow 54 = .ok (.iaload, 1) := dk_46 (dk_at dksX6_flow_2 8 rfl rfl)
theorem dX6_flow_55 : decode cX6_flow 55 = .ok (.goto 36, 3) := dk_167 0 36 (dk_at dksX6_flow_2 9 rfl rfl)
theorem dX6_flow_58 : decode cX6_flow 58 = .ok (.iload_n 2, 1) := dk_28 (dk_at dksX6_flow_2 12 rfl rfl)
theorem dX6_flow_59 : decode cX6_flow 59 = .ok (.bipush 10, 2) := dk_16 10 (dk_at dksX6_flow_2 13 rfl rfl)
theorem dX6_flow_61 : decode cX6_flow 61 = .ok (.if_icmp .ne 18, 3) := dk_160 0 18 (dk_at dksX6_flow_2 15 rfl rfl)
theorem dX6_flow_64 : decode cX6_flow 64 = .ok (.aload_n 0, 1) := dk_42 (dk_at dksX6_flow_2 18 rfl rfl)
theorem dX6_flow_65 : decode cX6_flow 65 = .ok (.getfield 57, 3) := dk_180 0 57 (dk_at dksX6_flow_2 19 rfl rfl)
theorem dX6_flow_68 : decode cX6_flow 68 = .ok (.iload_n 1, 1) := dk_27 (dk_at dksX6_flow_2 22 rfl rfl)
theorem dX6_flow_69 : decode cX6_flow 69 = .ok (.invokestatic 258, 3) := dk_184 1 2 (dk_at dksX6_flow_3 0 rfl rfl)
theorem dX6_flow_72 : decode cX6_flow 72 = .ok (.bipush 9, 2) := dk_16 9 (dk_at dksX6_flow_3 3 rfl rfl)
theorem dX6_flow_74 : decode cX6_flow 74 = .ok (.iadd, 1) := dk_96 (dk_at dksX6_flow_3 5 rfl rfl)
theorem dX6_flow_75 : decode cX6_flow 75 = .ok (.iaload, 1) := dk_46 (dk_at dksX6_flow_3 6 rfl rfl)
theorem dX6_flow_76 : decode cX6_flow 76 = .ok (.goto 15, 3) := dk_167 0 15 (dk_at dksX6_flow_3 7 rfl rfl)
theorem dX6_flow_79 : decode cX6_flow 79 = .ok (.aload_n 0, 1) := dk_42 (dk_at dksX6_flow_3 10 rfl rfl)
theorem dX6_flow_80 : decode cX6_flow 80 = .ok (.getfield 57, 3) := dk_180 0 57 (dk_at dksX6_flow_3 11 rfl rfl)
theorem dX6_flow_83 : decode cX6_flow 83 = .ok (.iload_n 1, 1) := dk_27 (dk_at dksX6_flow_3 14 rfl rfl)
theorem dX6_flow_84 : decode cX6_flow 84 = .ok (.invokestatic 258, 3) := dk_184 1 2 (dk_at dksX6_flow_3 15 rfl rfl)
theorem dX6_flow_87 : decode cX6_flow 87 = .ok (.bipush 10, 2) := dk_16 10 (dk_at dksX6_flow_3 18 rfl rfl)
theorem dX6_flow_89 : decode cX6_flow 89 = .ok (.iadd, 1) := dk_96 (dk_at dksX6_flow_3 20 rfl rfl)
theorem dX6_flow_90 : decode cX6_flow 90 = .ok (.iaload, 1) := dk_46 (dk_at dksX6_flow_3 21 rfl rfl)
theorem dX6_flow_91 : decode cX6_flow 91 = .ok (.ireturn, 1) := dk_172 (dk_at dksX6_flow_3 22 rfl rfl)
abbrev cX6_path : ByteArray := prog_18_method_69_code
def yX6_path : MethodName := ⟨RX6, "path", "(II)I"⟩
def dkwX6_path_1 : List UInt8 := [162, 0, 16, 42, 180, 0, 50, 8, 27, 104, 28, 96, 46, 167, 0, 4, 2, 172]
abbrev dktX6_path_1 : List UInt8 := dkwX6_path_1 ++ []
def dkwX6_path_0 : List UInt8 := [42, 3, 181, 0, 115, 42, 27, 182, 1, 60, 153, 0, 30, 28, 155, 0, 26, 28, 42, 180, 0, 47, 27, 46]
abbrev dktX6_path_0 : List UInt8 := dkwX6_path_0 ++ dktX6_path_1
theorem dksX6_path_0 : cX6_path.data.toList.drop 0 = dktX6_path_0 := by decide +kernel
theorem dksX6_path_1 : cX6_path.data.toList.drop 24 = dktX6_path_1 := dk_seg dksX6_path_0 24 rfl rfl
theorem dX6_path_0 : decode cX6_path 0 = .ok (.aload_n 0, 1) := dk_42 (dk_at dksX6_path_0 0 rfl rfl)
theorem dX6_path_1 : decode cX6_path 1 = .ok (.iconst 0, 1) := dk_3 (dk_at dksX6_path_0 1 rfl rfl)
theorem dX6_path_2 : decode cX6_path 2 = .ok (.putfield 115, 3) := dk_181 0 115 (dk_at dksX6_path_0 2 rfl rfl)
theorem dX6_path_5 : decode cX6_path 5 = .ok (.aload_n 0, 1) := dk_42 (dk_at dksX6_path_0 5 rfl rfl)
theorem dX6_path_6 : decode cX6_path 6 = .ok (.iload_n 1, 1) := dk_27 (dk_at dksX6_path_0 6 rfl rfl)
theorem dX6_path_7 : decode cX6_path 7 = .ok (.invokevirtual 316, 3) := dk_182 1 60 (dk_at dksX6_path_0 7 rfl rfl)
theorem dX6_path_10 : decode cX6_path 10 = .ok (.ifCond .eq 30, 3) := dk_153 0 30 (dk_at dksX6_path_0 10 rfl rfl)
theorem dX6_path_13 : decode cX6_path 13 = .ok (.iload_n 2, 1) := dk_28 (dk_at dksX6_path_0 13 rfl rfl)
theorem dX6_path_14 : decode cX6_path 14 = .ok (.ifCond .lt 26, 3) := dk_155 0 26 (dk_at dksX6_path_0 14 rfl rfl)
theorem dX6_path_17 : decode cX6_path 17 = .ok (.iload_n 2, 1) := dk_28 (dk_at dksX6_path_0 17 rfl rfl)
theorem dX6_path_18 : decode cX6_path 18 = .ok (.aload_n 0, 1) := dk_42 (dk_at dksX6_path_0 18 rfl rfl)
theorem dX6_path_19 : decode cX6_path 19 = .ok (.getfield 47, 3) := dk_180 0 47 (dk_at dksX6_path_0 19 rfl rfl)
theorem dX6_path_22 : decode cX6_path 22 = .ok (.iload_n 1, 1) := dk_27 (dk_at dksX6_path_0 22 rfl rfl)
theorem dX6_path_23 : decode cX6_path 23 = .ok (.iaload, 1) := dk_46 (dk_at dksX6_path_0 23 rfl rfl)
theorem dX6_path_24 : decode cX6_path 24 = .ok (.if_icmp .ge 16, 3) := dk_162 0 16 (dk_at dksX6_path_1 0 rfl rfl)
theorem dX6_path_27 : decode cX6_path 27 = .ok (.aload_n 0, 1) := dk_42 (dk_at dksX6_path_1 3 rfl rfl)
theorem dX6_path_28 : decode cX6_path 28 = .ok (.getfield 50, 3) := dk_180 0 50 (dk_at dksX6_path_1 4 rfl rfl)
theorem dX6_path_31 : decode cX6_path 31 = .ok (.iconst 5, 1) := dk_8 (dk_at dksX6_path_1 7 rfl rfl)
theorem dX6_path_32 : decode cX6_path 32 = .ok (.iload_n 1, 1) := dk_27 (dk_at dksX6_path_1 8 rfl rfl)
theorem dX6_path_33 : decode cX6_path 33 = .ok (.imul, 1) := dk_104 (dk_at dksX6_path_1 9 rfl rfl)
theorem dX6_path_34 : decode cX6_path 34 = .ok (.iload_n 2, 1) := dk_28 (dk_at dksX6_path_1 10 rfl rfl)
theorem dX6_path_35 : decode cX6_path 35 = .ok (.iadd, 1) := dk_96 (dk_at dksX6_path_1 11 rfl rfl)
theorem dX6_path_36 : decode cX6_path 36 = .ok (.iaload, 1) := dk_46 (dk_at dksX6_path_1 12 rfl rfl)
theorem dX6_path_37 : decode cX6_path 37 = .ok (.goto 4, 3) := dk_167 0 4 (dk_at dksX6_path_1 13 rfl rfl)
theorem dX6_path_40 : decode cX6_path 40 = .ok (.iconst (-1), 1) := dk_2 (dk_at dksX6_path_1 16 rfl rfl)
theorem dX6_path_41 : decode cX6_path 41 = .ok (.ireturn, 1) := dk_172 (dk_at dksX6_path_1 17 rfl rfl)
abbrev cX6_feedback : ByteArray := prog_18_method_70_code
def yX6_feedback : MethodName := ⟨RX6, "feedback", "(I)I"⟩
def dkwX6_feedback_1 : List UInt8 := [172]
abbrev dktX6_feedback_1 : List UInt8 := dkwX6_feedback_1 ++ []
def dkwX6_feedback_0 : List UInt8 := [42, 3, 181, 0, 115, 42, 27, 182, 1, 63, 153, 0, 11, 42, 27, 182, 1, 15, 167, 0, 6, 19, 1, 66]
abbrev dktX6_feedback_0 : List UInt8 := dkwX6_feedback_0 ++ dktX6_feedback_1
theorem dksX6_feedback_0 : cX6_feedback.data.toList.drop 0 = dktX6_feedback_0 := by decide +kernel
theorem dksX6_feedback_1 : cX6_feedback.data.toList.drop 24 = dktX6_feedback_1 := dk_seg dksX6_feedback_0 24 rfl rfl
theorem dX6_feedback_0 : decode cX6_feedback 0 = .ok (.aload_n 0, 1) := dk_42 (dk_at dksX6_feedback_0 0 rfl rfl)
theorem dX6_feedback_1 : decode cX6_feedback 1 = .ok (.iconst 0, 1) := dk_3 (dk_at dksX6_feedback_0 1 rfl rfl)
theorem dX6_feedback_2 : decode cX6_feedback 2 = .ok (.putfield 115, 3) := dk_181 0 115 (dk_at dksX6_feedback_0 2 rfl rfl)
theorem dX6_feedback_5 : decode cX6_feedback 5 = .ok (.aload_n 0, 1) := dk_42 (dk_at dksX6_feedback_0 5 rfl rfl)
theorem dX6_feedback_6 : decode cX6_feedback 6 = .ok (.iload_n 1, 1) := dk_27 (dk_at dksX6_feedback_0 6 rfl rfl)
theorem dX6_feedback_7 : decode cX6_feedback 7 = .ok (.invokevirtual 319, 3) := dk_182 1 63 (dk_at dksX6_feedback_0 7 rfl rfl)
theorem dX6_feedback_10 : decode cX6_feedback 10 = .ok (.ifCond .eq 11, 3) := dk_153 0 11 (dk_at dksX6_feedback_0 10 rfl rfl)
theorem dX6_feedback_13 : decode cX6_feedback 13 = .ok (.aload_n 0, 1) := dk_42 (dk_at dksX6_feedback_0 13 rfl rfl)
theorem dX6_feedback_14 : decode cX6_feedback 14 = .ok (.iload_n 1, 1) := dk_27 (dk_at dksX6_feedback_0 14 rfl rfl)
theorem dX6_feedback_15 : decode cX6_feedback 15 = .ok (.invokevirtual 271, 3) := dk_182 1 15 (dk_at dksX6_feedback_0 15 rfl rfl)
theorem dX6_feedback_18 : decode cX6_feedback 18 = .ok (.goto 6, 3) := dk_167 0 6 (dk_at dksX6_feedback_0 18 rfl rfl)
theorem dX6_feedback_21 : decode cX6_feedback 21 = .ok (.ldc_w 322, 3) := dk_19 1 66 (dk_at dksX6_feedback_0 21 rfl rfl)
theorem dX6_feedback_24 : decode cX6_feedback 24 = .ok (.ireturn, 1) := dk_172 (dk_at dksX6_feedback_1 0 rfl rfl)
abbrev cX6_notice : ByteArray := prog_18_method_71_code
def yX6_notice : MethodName := ⟨RX6, "notice", "(I)I"⟩
def dkwX6_notice_1 : List UInt8 := [167, 0, 4, 2, 172]
abbrev dktX6_notice_1 : List UInt8 := dkwX6_notice_1 ++ []
def dkwX6_notice_0 : List UInt8 := [42, 3, 181, 0, 115, 42, 27, 182, 1, 63, 153, 0, 15, 42, 42, 27, 182, 1, 15, 182, 1, 18]
abbrev dktX6_notice_0 : List UInt8 := dkwX6_notice_0 ++ dktX6_notice_1
theorem dksX6_notice_0 : cX6_notice.data.toList.drop 0 = dktX6_notice_0 := by decide +kernel
theorem dksX6_notice_1 : cX6_notice.data.toList.drop 22 = dktX6_notice_1 := dk_seg dksX6_notice_0 22 rfl rfl
theorem dX6_notice_0 : decode cX6_notice 0 = .ok (.aload_n 0, 1) := dk_42 (dk_at dksX6_notice_0 0 rfl rfl)
theorem dX6_notice_1 : decode cX6_notice 1 = .ok (.iconst 0, 1) := dk_3 (dk_at dksX6_notice_0 1 rfl rfl)
theorem dX6_notice_2 : decode cX6_notice 2 = .ok (.putfield 115, 3) := dk_181 0 115 (dk_at dksX6_notice_0 2 rfl rfl)
theorem dX6_notice_5 : decode cX6_notice 5 = .ok (.aload_n 0, 1) := dk_42 (dk_at dksX6_notice_0 5 rfl rfl)
theorem dX6_notice_6 : decode cX6_notice 6 = .ok (.iload_n 1, 1) := dk_27 (dk_at dksX6_notice_0 6 rfl rfl)
theorem dX6_notice_7 : decode cX6_notice 7 = .ok (.invokevirtual 319, 3) := dk_182 1 63 (dk_at dksX6_notice_0 7 rfl rfl)
theorem dX6_notice_10 : decode cX6_notice 10 = .ok (.ifCond .eq 15, 3) := dk_153 0 15 (dk_at dksX6_notice_0 10 rfl rfl)
theorem dX6_notice_13 : decode cX6_notice 13 = .ok (.aload_n 0, 1) := dk_42 (dk_at dksX6_notice_0 13 rfl rfl)
theorem dX6_notice_14 : decode cX6_notice 14 = .ok (.aload_n 0, 1) := dk_42 (dk_at dksX6_notice_0 14 rfl rfl)
theorem dX6_notice_15 : decode cX6_notice 15 = .ok (.iload_n 1, 1) := dk_27 (dk_at dksX6_notice_0 15 rfl rfl)
theorem dX6_notice_16 : decode cX6_notice 16 = .ok (.invokevirtual 271, 3) := dk_182 1 15 (dk_at dksX6_notice_0 16 rfl rfl)
theorem dX6_notice_19 : decode cX6_notice 19 = .ok (.invokevirtual 274, 3) := dk_182 1 18 (dk_at dksX6_notice_0 19 rfl rfl)
theorem dX6_notice_22 : decode cX6_notice 22 = .ok (.goto 4, 3) := dk_167 0 4 (dk_at dksX6_notice_1 0 rfl rfl)
theorem dX6_notice_25 : decode cX6_notice 25 = .ok (.iconst (-1), 1) := dk_2 (dk_at dksX6_notice_1 3 rfl rfl)
theorem dX6_notice_26 : decode cX6_notice 26 = .ok (.ireturn, 1) := dk_172 (dk_at dksX6_notice_1 4 rfl rfl)
abbrev cX6_headroom : ByteArray := prog_18_method_73_code
def yX6_headroom : MethodName := ⟨RX6, "headroom", "(I)I"⟩
def dkwX6_headroom_0 : List UInt8 := [42, 3, 181, 0, 115, 42, 27, 182, 1, 63, 153, 0, 11, 42, 27, 182, 1, 67, 167, 0, 4, 2, 172]
abbrev dktX6_headroom_0 : List UInt8 := dkwX6_headroom_0 ++ []
theorem dksX6_headroom_0 : cX6_headroom.data.toList.drop 0 = dktX6_headroom_0 := by decide +kernel
theorem dX6_headroom_0 : decode cX6_headroom 0 = .ok (.aload_n 0, 1) := dk_42 (dk_at dksX6_headroom_0 0 rfl rfl)
theorem dX6_headroom_1 : decode cX6_headroom 1 = .ok (.iconst 0, 1) := dk_3 (dk_at dksX6_headroom_0 1 rfl rfl)
theorem dX6_headroom_2 : decode cX6_headroom 2 = .ok (.putfield 115, 3) := dk_181 0 115 (dk_at dksX6_headroom_0 2 rfl rfl)
theorem dX6_headroom_5 : decode cX6_headroom 5 = .ok (.aload_n 0, 1) := dk_42 (dk_at dksX6_headroom_0 5 rfl rfl)
theorem dX6_headroom_6 : decode cX6_headroom 6 = .ok (.iload_n 1, 1) := dk_27 (dk_at dksX6_headroom_0 6 rfl rfl)
theorem dX6_headroom_7 : decode cX6_headroom 7 = .ok (.invokevirtual 319, 3) := dk_182 1 63 (dk_at dksX6_headroom_0 7 rfl rfl)
theorem dX6_headroom_10 : decode cX6_headroom 10 = .ok (.ifCond .eq 11, 3) := dk_153 0 11 (dk_at dksX6_headroom_0 10 rfl rfl)
theorem dX6_headroom_13 : decode cX6_headroom 13 = .ok (.aload_n 0, 1) := dk_42 (dk_at dksX6_headroom_0 13 rfl rfl)
theorem dX6_headroom_14 : decode cX6_headroom 14 = .ok (.iload_n 1, 1) := dk_27 (dk_at dksX6_headroom_0 14 rfl rfl)
theorem dX6_headroom_15 : decode cX6_headroom 15 = .ok (.invokevirtual 323, 3) := dk_182 1 67 (dk_at dksX6_headroom_0 15 rfl rfl)
theorem dX6_headroom_18 : decode cX6_headroom 18 = .ok (.goto 4, 3) := dk_167 0 4 (dk_at dksX6_headroom_0 18 rfl rfl)
theorem dX6_headroom_21 : decode cX6_headroom 21 = .ok (.iconst (-1), 1) := dk_2 (dk_at dksX6_headroom_0 21 rfl rfl)
theorem dX6_headroom_22 : decode cX6_headroom 22 = .ok (.ireturn, 1) := dk_172 (dk_at dksX6_headroom_0 22 rfl rfl)
abbrev cX6_headroomOf : ByteArray := prog_18_method_72_code
def yX6_headroomOf : MethodName := ⟨RX6, "headroomOf", "(I)I"⟩
def dkwX6_headroomOf_1 : List UInt8 := [46, 4, 96, 104, 96, 172]
abbrev dktX6_headroomOf_1 : List UInt8 := dkwX6_headroomOf_1 ++ []
def dkwX6_headroomOf_0 : List UInt8 := [42, 180, 0, 57, 16, 24, 27, 104, 3, 96, 46, 4, 100, 42, 180, 0, 23, 27, 46, 42, 180, 0, 26, 27]
abbrev dktX6_headroomOf_0 : List UInt8 := dkwX6_headroomOf_0 ++ dktX6_headroomOf_1
theorem dksX6_headroomOf_0 : cX6_headroomOf.data.toList.drop 0 = dktX6_headroomOf_0 := by decide +kernel
theorem dksX6_headroomOf_1 : cX6_headroomOf.data.toList.drop 24 = dktX6_headroomOf_1 := dk_seg dksX6_headroomOf_0 24 rfl rfl
theorem dX6_headroomOf_0 : decode cX6_headroomOf 0 = .ok (.aload_n 0, 1) := dk_42 (dk_at dksX6_headroomOf_0 0 rfl rfl)
theorem dX6_headroomOf_1 : decode cX6_headroomOf 1 = .ok (.getfield 57, 3) := dk_180 0 57 (dk_at dksX6_headroomOf_0 1 rfl rfl)
theorem dX6_headroomOf_4 : decode cX6_headroomOf 4 = .ok (.bipush 24, 2) := dk_16 24 (dk_at dksX6_headroomOf_0 4 rfl rfl)
theorem dX6_headroomOf_6 : decode cX6_headroomOf 6 = .ok (.iload_n 1, 1) := dk_27 (dk_at dksX6_headroomOf_0 6 rfl rfl)
theorem dX6_headroomOf_7 : decode cX6_headroomOf 7 = .ok (.imul, 1) := dk_104 (dk_at dksX6_headroomOf_0 7 rfl rfl)
theorem dX6_headroomOf_8 : decode cX6_headroomOf 8 = .ok (.iconst 0, 1) := dk_3 (dk_at dksX6_headroomOf_0 8 rfl rfl)
theorem dX6_headroomOf_9 : decode cX6_headroomOf 9 = .ok (.iadd, 1) := dk_96 (dk_at dksX6_headroomOf_0 9 rfl rfl)
theorem dX6_headroomOf_10 : decode cX6_headroomOf 10 = .ok (.iaload, 1) := dk_46 (dk_at dksX6_headroomOf_0 10 rfl rfl)
theorem dX6_headroomOf_11 : decode cX6_headroomOf 11 = .ok (.iconst 1, 1) := dk_4 (dk_at dksX6_headroomOf_0 11 rfl rfl)
theorem dX6_headroomOf_12 : decode cX6_headroomOf 12 = .ok (.isub, 1) := dk_100 (dk_at dksX6_headroomOf_0 12 rfl rfl)
theorem dX6_headroomOf_13 : decode cX6_headroomOf 13 = .ok (.aload_n 0, 1) := dk_42 (dk_at dksX6_headroomOf_0 13 rfl rfl)
theorem dX6_headroomOf_14 : decode cX6_headroomOf 14 = .ok (.getfield 23, 3) := dk_180 0 23 (dk_at dksX6_headroomOf_0 14 rfl rfl)
theorem dX6_headroomOf_17 : decode cX6_headroomOf 17 = .ok (.iload_n 1, 1) := dk_27 (dk_at dksX6_headroomOf_0 17 rfl rfl)
theorem dX6_headroomOf_18 : decode cX6_headroomOf 18 = .ok (.iaload, 1) := dk_46 (dk_at dksX6_headroomOf_0 18 rfl rfl)
theorem dX6_headroomOf_19 : decode cX6_headroomOf 19 = .ok (.aload_n 0, 1) := dk_42 (dk_at dksX6_headroomOf_0 19 rfl rfl)
theorem dX6_headroomOf_20 : decode cX6_headroomOf 20 = .ok (.getfield 26, 3) := dk_180 0 26 (dk_at dksX6_headroomOf_0 20 rfl rfl)
theorem dX6_headroomOf_23 : decode cX6_headroomOf 23 = .ok (.iload_n 1, 1) := dk_27 (dk_at dksX6_headroomOf_0 23 rfl rfl)
theorem dX6_headroomOf_24 : decode cX6_headroomOf 24 = .ok (.iaload, 1) := dk_46 (dk_at dksX6_headroomOf_1 0 rfl rfl)
theorem dX6_headroomOf_25 : decode cX6_headroomOf 25 = .ok (.iconst 1, 1) := dk_4 (dk_at dksX6_headroomOf_1 1 rfl rfl)
theorem dX6_headroomOf_26 : decode cX6_headroomOf 26 = .ok (.iadd, 1) := dk_96 (dk_at dksX6_headroomOf_1 2 rfl rfl)
theorem dX6_headroomOf_27 : decode cX6_headroomOf 27 = .ok (.imul, 1) := dk_104 (dk_at dksX6_headroomOf_1 3 rfl rfl)
theorem dX6_headroomOf_28 : decode cX6_headroomOf 28 = .ok (.iadd, 1) := dk_96 (dk_at dksX6_headroomOf_1 4 rfl rfl)
theorem dX6_headroomOf_29 : decode cX6_headroomOf 29 = .ok (.ireturn, 1) := dk_172 (dk_at dksX6_headroomOf_1 5 rfl rfl)
abbrev cX6_safe : ByteArray := prog_18_method_74_code
def yX6_safe : MethodName := ⟨RX6, "safe", "()I"⟩
def dkwX6_safe_2 : List UInt8 := [167, 255, 220, 27, 172]
abbrev dktX6_safe_2 : List UInt8 := dkwX6_safe_2 ++ []
def dkwX6_safe_1 : List UInt8 := [180, 0, 57, 16, 24, 28, 104, 5, 96, 46, 163, 0, 9, 27, 4, 28, 120, 128, 60, 132, 2, 1]
abbrev dktX6_safe_1 : List UInt8 := dkwX6_safe_1 ++ dktX6_safe_2
def dkwX6_safe_0 : List UInt8 := [42, 3, 181, 0, 115, 3, 60, 3, 61, 28, 42, 182, 0, 248, 162, 0, 34, 42, 28, 182, 1, 67, 42]
abbrev dktX6_safe_0 : List UInt8 := dkwX6_safe_0 ++ dktX6_safe_1
theorem dksX6_safe_0 : cX6_safe.data.toList.drop 0 = dktX6_safe_0 := by decide +kernel
theorem dksX6_safe_1 : cX6_safe.data.toList.drop 23 = dktX6_safe_1 := dk_seg dksX6_safe_0 23 rfl rfl
theorem dksX6_safe_2 : cX6_safe.data.toList.drop 45 = dktX6_safe_2 := dk_seg dksX6_safe_1 22 rfl rfl
theorem dX6_safe_0 : decode cX6_safe 0 = .ok (.aload_n 0, 1) := dk_42 (dk_at dksX6_safe_0 0 rfl rfl)
theorem dX6_safe_1 : decode cX6_safe 1 = .ok (.iconst 0, 1) := dk_3 (dk_at dksX6_safe_0 1 rfl rfl)
theorem dX6_safe_2 : decode cX6_safe 2 = .ok (.putfield 115, 3) := dk_181 0 115 (dk_at dksX6_safe_0 2 rfl rfl)
theorem dX6_safe_5 : decode cX6_safe 5 = .ok (.iconst 0, 1) := dk_3 (dk_at dksX6_safe_0 5 rfl rfl)
theorem dX6_safe_6 : decode cX6_safe 6 = .ok (.istore_n 1, 1) := dk_60 (dk_at dksX6_safe_0 6 rfl rfl)
theorem dX6_safe_7 : decode cX6_safe 7 = .ok (.iconst 0, 1) := dk_3 (dk_at dksX6_safe_0 7 rfl rfl)
theorem dX6_safe_8 : decode cX6_safe 8 = .ok (.istore_n 2, 1) := dk_61 (dk_at dksX6_safe_0 8 rfl rfl)
theorem dX6_safe_9 : decode cX6_safe 9 = .ok (.iload_n 2, 1) := dk_28 (dk_at dksX6_safe_0 9 rfl rfl)
theorem dX6_safe_10 : decode cX6_safe 10 = .ok (.aload_n 0, 1) := dk_42 (dk_at dksX6_safe_0 10 rfl rfl)
theorem dX6_safe_11 : decode cX6_safe 11 = .ok (.invokevirtual 248, 3) := dk_182 0 248 (dk_at dksX6_safe_0 11 rfl rfl)
theorem dX6_safe_14 : decode cX6_safe 14 = .ok (.if_icmp .ge 34, 3) := dk_162 0 34 (dk_at dksX6_safe_0 14 rfl rfl)
theorem dX6_safe_17 : decode cX6_safe 17 = .ok (.aload_n 0, 1) := dk_42 (dk_at dksX6_safe_0 17 rfl rfl)
theorem dX6_safe_18 : decode cX6_safe 18 = .ok (.iload_n 2, 1) := dk_28 (dk_at dksX6_safe_0 18 rfl rfl)
theorem dX6_safe_19 : decode cX6_safe 19 = .ok (.invokevirtual 323, 3) := dk_182 1 67 (dk_at dksX6_safe_0 19 rfl rfl)
theorem dX6_safe_22 : decode cX6_safe 22 = .ok (.aload_n 0, 1) := dk_42 (dk_at dksX6_safe_0 22 rfl rfl)
theorem dX6_safe_23 : decode cX6_safe 23 = .ok (.getfield 57, 3) := dk_180 0 57 (dk_at dksX6_safe_1 0 rfl rfl)
theorem dX6_safe_26 : decode cX6_safe 26 = .ok (.bipush 24, 2) := dk_16 24 (dk_at dksX6_safe_1 3 rfl rfl)
theorem dX6_safe_28 : decode cX6_safe 28 = .ok (.iload_n 2, 1) := dk_28 (dk_at dksX6_safe_1 5 rfl rfl)
theorem dX6_safe_29 : decode cX6_safe 29 = .ok (.imul, 1) := dk_104 (dk_at dksX6_safe_1 6 rfl rfl)
theorem dX6_safe_30 : decode cX6_safe 30 = .ok (.iconst 2, 1) := dk_5 (dk_at dksX6_safe_1 7 rfl rfl)
theorem dX6_safe_31 : decode cX6_safe 31 = .ok (.iadd, 1) := dk_96 (dk_at dksX6_safe_1 8 rfl rfl)
theorem dX6_safe_32 : decode cX6_safe 32 = .ok (.iaload, 1) := dk_46 (dk_at dksX6_safe_1 9 rfl rfl)
theorem dX6_safe_33 : decode cX6_safe 33 = .ok (.if_icmp .gt 9, 3) := dk_163 0 9 (dk_at dksX6_safe_1 10 rfl rfl)
theorem dX6_safe_36 : decode cX6_safe 36 = .ok (.iload_n 1, 1) := dk_27 (dk_at dksX6_safe_1 13 rfl rfl)
theorem dX6_safe_37 : decode cX6_safe 37 = .ok (.iconst 1, 1) := dk_4 (dk_at dksX6_safe_1 14 rfl rfl)
theorem dX6_safe_38 : decode cX6_safe 38 = .ok (.iload_n 2, 1) := dk_28 (dk_at dksX6_safe_1 15 rfl rfl)
theorem dX6_safe_39 : decode cX6_safe 39 = .ok (.ishl, 1) := dk_120 (dk_at dksX6_safe_1 16 rfl rfl)
theorem dX6_safe_40 : decode cX6_safe 40 = .ok (.ior, 1) := dk_128 (dk_at dksX6_safe_1 17 rfl rfl)
theorem dX6_safe_41 : decode cX6_safe 41 = .ok (.istore_n 1, 1) := dk_60 (dk_at dksX6_safe_1 18 rfl rfl)
theorem dX6_safe_42 : decode cX6_safe 42 = .ok (.iinc 2 1, 3) := dk_132 2 1 (dk_at dksX6_safe_1 19 rfl rfl)
theorem dX6_safe_45 : decode cX6_safe 45 = .ok (.goto (-36), 3) := dk_167 255 220 (dk_at dksX6_safe_2 0 rfl rfl)
theorem dX6_safe_48 : decode cX6_safe 48 = .ok (.iload_n 1, 1) := dk_27 (dk_at dksX6_safe_2 3 rfl rfl)
theorem dX6_safe_49 : decode cX6_safe 49 = .ok (.ireturn, 1) := dk_172 (dk_at dksX6_safe_2 4 rfl rfl)
abbrev cX6_onWay : ByteArray := prog_18_method_75_code
def yX6_onWay : MethodName := ⟨RX6, "onWay", "(I)I"⟩
def dkwX6_onWay_2 : List UInt8 := [100, 167, 0, 4, 2, 172]
abbrev dktX6_onWay_2 : List UInt8 := dkwX6_onWay_2 ++ []
def dkwX6_onWay_1 : List UInt8 := [42, 180, 0, 57, 27, 184, 1, 2, 8, 96, 46, 100, 42, 180, 0, 57, 27, 184, 1, 2, 16, 11, 96, 46]
abbrev dktX6_onWay_1 : List UInt8 := dkwX6_onWay_1 ++ dktX6_onWay_2
def dkwX6_onWay_0 : List UInt8 := [42, 3, 181, 0, 115, 42, 27, 182, 1, 60, 153, 0, 42, 42, 180, 0, 57, 27, 184, 1, 2, 7, 96, 46]
abbrev dktX6_onWay_0 : List UInt8 := dkwX6_onWay_0 ++ dktX6_onWay_1
theorem dksX6_onWay_0 : cX6_onWay.data.toList.drop 0 = dktX6_onWay_0 := by decide +kernel
theorem dksX6_onWay_1 : cX6_onWay.data.toList.drop 24 = dktX6_onWay_1 := dk_seg dksX6_onWay_0 24 rfl rfl
theorem dksX6_onWay_2 : cX6_onWay.data.toList.drop 48 = dktX6_onWay_2 := dk_seg dksX6_onWay_1 24 rfl rfl
theorem dX6_onWay_0 : decode cX6_onWay 0 = .ok (.aload_n 0, 1) := dk_42 (dk_at dksX6_onWay_0 0 rfl rfl)
theorem dX6_onWay_1 : decode cX6_onWay 1 = .ok (.iconst 0, 1) := dk_3 (dk_at dksX6_onWay_0 1 rfl rfl)
theorem dX6_onWay_2 : decode cX6_onWay 2 = .ok (.putfield 115, 3) := dk_181 0 115 (dk_at dksX6_onWay_0 2 rfl rfl)
theorem dX6_onWay_5 : decode cX6_onWay 5 = .ok (.aload_n 0, 1) := dk_42 (dk_at dksX6_onWay_0 5 rfl rfl)
theorem dX6_onWay_6 : decode cX6_onWay 6 = .ok (.iload_n 1, 1) := dk_27 (dk_at dksX6_onWay_0 6 rfl rfl)
theorem dX6_onWay_7 : decode cX6_onWay 7 = .ok (.invokevirtual 316, 3) := dk_182 1 60 (dk_at dksX6_onWay_0 7 rfl rfl)
theorem dX6_onWay_10 : decode cX6_onWay 10 = .ok (.ifCond .eq 42, 3) := dk_153 0 42 (dk_at dksX6_onWay_0 10 rfl rfl)
theorem dX6_onWay_13 : decode cX6_onWay 13 = .ok (.aload_n 0, 1) := dk_42 (dk_at dksX6_onWay_0 13 rfl rfl)
theorem dX6_onWay_14 : decode cX6_onWay 14 = .ok (.getfield 57, 3) := dk_180 0 57 (dk_at dksX6_onWay_0 14 rfl rfl)
theorem dX6_onWay_17 : decode cX6_onWay 17 = .ok (.iload_n 1, 1) := dk_27 (dk_at dksX6_onWay_0 17 rfl rfl)
theorem dX6_onWay_18 : decode cX6_onWay 18 = .ok (.invokestatic 258, 3) := dk_184 1 2 (dk_at dksX6_onWay_0 18 rfl rfl)
theorem dX6_onWay_21 : decode cX6_onWay 21 = .ok (.iconst 4, 1) := dk_7 (dk_at dksX6_onWay_0 21 rfl rfl)
theorem dX6_onWay_22 : decode cX6_onWay 22 = .ok (.iadd, 1) := dk_96 (dk_at dksX6_onWay_0 22 rfl rfl)
theorem dX6_onWay_23 : decode cX6_onWay 23 = .ok (.iaload, 1) := dk_46 (dk_at dksX6_onWay_0 23 rfl rfl)
theorem dX6_onWay_24 : decode cX6_onWay 24 = .ok (.aload_n 0, 1) := dk_42 (dk_at dksX6_onWay_1 0 rfl rfl)
theorem dX6_onWay_25 : decode cX6_onWay 25 = .ok (.getfield 57, 3) := dk_180 0 57 (dk_at dksX6_onWay_1 1 rfl rfl)
theorem dX6_onWay_28 : decode cX6_onWay 28 = .ok (.iload_n 1, 1) := dk_27 (dk_at dksX6_onWay_1 4 rfl rfl)
theorem dX6_onWay_29 : decode cX6_onWay 29 = .ok (.invokestatic 258, 3) := dk_184 1 2 (dk_at dksX6_onWay_1 5 rfl rfl)
theorem dX6_onWay_32 : decode cX6_onWay 32 = .ok (.iconst 5, 1) := dk_8 (dk_at dksX6_onWay_1 8 rfl rfl)
theorem dX6_onWay_33 : decode cX6_onWay 33 = .ok (.iadd, 1) := dk_96 (dk_at dksX6_onWay_1 9 rfl rfl)
theorem dX6_onWay_34 : decode cX6_onWay 34 = .ok (.iaload, 1) := dk_46 (dk_at dksX6_onWay_1 10 rfl rfl)
theorem dX6_onWay_35 : decode cX6_onWay 35 = .ok (.isub, 1) := dk_100 (dk_at dksX6_onWay_1 11 rfl rfl)
theorem dX6_onWay_36 : decode cX6_onWay 36 = .ok (.aload_n 0, 1) := dk_42 (dk_at dksX6_onWay_1 12 rfl rfl)
theorem dX6_onWay_37 : decode cX6_onWay 37 = .ok (.getfield 57, 3) := dk_180 0 57 (dk_at dksX6_onWay_1 13 rfl rfl)
theorem dX6_onWay_40 : decode cX6_onWay 40 = .ok (.iload_n 1, 1) := dk_27 (dk_at dksX6_onWay_1 16 rfl rfl)
theorem dX6_onWay_41 : decode cX6_onWay 41 = .ok (.invokestatic 258, 3) := dk_184 1 2 (dk_at dksX6_onWay_1 17 rfl rfl)
theorem dX6_onWay_44 : decode cX6_onWay 44 = .ok (.bipush 11, 2) := dk_16 11 (dk_at dksX6_onWay_1 20 rfl rfl)
theorem dX6_onWay_46 : decode cX6_onWay 46 = .ok (.iadd, 1) := dk_96 (dk_at dksX6_onWay_1 22 rfl rfl)
theorem dX6_onWay_47 : decode cX6_onWay 47 = .ok (.iaload, 1) := dk_46 (dk_at dksX6_onWay_1 23 rfl rfl)
theorem dX6_onWay_48 : decode cX6_onWay 48 = .ok (.isub, 1) := dk_100 (dk_at dksX6_onWay_2 0 rfl rfl)
theorem dX6_onWay_49 : decode cX6_onWay 49 = .ok (.goto 4, 3) := dk_167 0 4 (dk_at dksX6_onWay_2 1 rfl rfl)
theorem dX6_onWay_52 : decode cX6_onWay 52 = .ok (.iconst (-1), 1) := dk_2 (dk_at dksX6_onWay_2 4 rfl rfl)
theorem dX6_onWay_53 : decode cX6_onWay 53 = .ok (.ireturn, 1) := dk_172 (dk_at dksX6_onWay_2 5 rfl rfl)
abbrev cX6_waits : ByteArray := prog_18_method_79_code
def yX6_waits : MethodName := ⟨RX6, "waits", "(I)I"⟩
def dkwX6_waits_1 : List UInt8 := [27, 46, 172]
abbrev dktX6_waits_1 : List UInt8 := dkwX6_waits_1 ++ []
def dkwX6_waits_0 : List UInt8 := [42, 3, 181, 0, 115, 42, 27, 182, 1, 63, 154, 0, 5, 2, 172, 42, 3, 182, 1, 80, 42, 180, 0, 87]
abbrev dktX6_waits_0 : List UInt8 := dkwX6_waits_0 ++ dktX6_waits_1
theorem dksX6_waits_0 : cX6_waits.data.toList.drop 0 = dktX6_waits_0 := by decide +kernel
theorem dksX6_waits_1 : cX6_waits.data.toList.drop 24 = dktX6_waits_1 := dk_seg dksX6_waits_0 24 rfl rfl
theorem dX6_waits_0 : decode cX6_waits 0 = .ok (.aload_n 0, 1) := dk_42 (dk_at dksX6_waits_0 0 rfl rfl)
theorem dX6_waits_1 : decode cX6_waits 1 = .ok (.iconst 0, 1) := dk_3 (dk_at dksX6_waits_0 1 rfl rfl)
theorem dX6_waits_2 : decode cX6_waits 2 = .ok (.putfield 115, 3) := dk_181 0 115 (dk_at dksX6_waits_0 2 rfl rfl)
theorem dX6_waits_5 : decode cX6_waits 5 = .ok (.aload_n 0, 1) := dk_42 (dk_at dksX6_waits_0 5 rfl rfl)
theorem dX6_waits_6 : decode cX6_waits 6 = .ok (.iload_n 1, 1) := dk_27 (dk_at dksX6_waits_0 6 rfl rfl)
theorem dX6_waits_7 : decode cX6_waits 7 = .ok (.invokevirtual 319, 3) := dk_182 1 63 (dk_at dksX6_waits_0 7 rfl rfl)
theorem dX6_waits_10 : decode cX6_waits 10 = .ok (.ifCond .ne 5, 3) := dk_154 0 5 (dk_at dksX6_waits_0 10 rfl rfl)
theorem dX6_waits_13 : decode cX6_waits 13 = .ok (.iconst (-1), 1) := dk_2 (dk_at dksX6_waits_0 13 rfl rfl)
theorem dX6_waits_14 : decode cX6_waits 14 = .ok (.ireturn, 1) := dk_172 (dk_at dksX6_waits_0 14 rfl rfl)
theorem dX6_waits_15 : decode cX6_waits 15 = .ok (.aload_n 0, 1) := dk_42 (dk_at dksX6_waits_0 15 rfl rfl)
theorem dX6_waits_16 : decode cX6_waits 16 = .ok (.iconst 0, 1) := dk_3 (dk_at dksX6_waits_0 16 rfl rfl)
theorem dX6_waits_17 : decode cX6_waits 17 = .ok (.invokevirtual 336, 3) := dk_182 1 80 (dk_at dksX6_waits_0 17 rfl rfl)
theorem dX6_waits_20 : decode cX6_waits 20 = .ok (.aload_n 0, 1) := dk_42 (dk_at dksX6_waits_0 20 rfl rfl)
theorem dX6_waits_21 : decode cX6_waits 21 = .ok (.getfield 87, 3) := dk_180 0 87 (dk_at dksX6_waits_0 21 rfl rfl)
theorem dX6_waits_24 : decode cX6_waits 24 = .ok (.iload_n 1, 1) := dk_27 (dk_at dksX6_waits_1 0 rfl rfl)
theorem dX6_waits_25 : decode cX6_waits 25 = .ok (.iaload, 1) := dk_46 (dk_at dksX6_waits_1 1 rfl rfl)
theorem dX6_waits_26 : decode cX6_waits 26 = .ok (.ireturn, 1) := dk_172 (dk_at dksX6_waits_1 2 rfl rfl)
abbrev cX6_laysWaits : ByteArray := prog_18_method_78_code
def yX6_laysWaits : MethodName := ⟨RX6, "laysWaits", "(Z)V"⟩
def dkwX6_laysWaits_3 : List UInt8 := [167, 255, 203, 132, 2, 1, 167, 255, 180, 177]
abbrev dktX6_laysWaits_3 : List UInt8 := dkwX6_laysWaits_3 ++ []
def dkwX6_laysWaits_2 : List UInt8 := [21, 4, 182, 1, 76, 153, 0, 16, 42, 180, 0, 87, 28, 92, 46, 4, 21, 4, 120, 128, 79, 132, 3, 1]
abbrev dktX6_laysWaits_2 : List UInt8 := dkwX6_laysWaits_2 ++ dktX6_laysWaits_3
def dkwX6_laysWaits_1 : List UInt8 := [162, 0, 51, 42, 29, 28, 182, 1, 73, 54, 4, 21, 4, 2, 159, 0, 31, 27, 154, 0, 14, 42, 28, 29]
abbrev dktX6_laysWaits_1 : List UInt8 := dkwX6_laysWaits_1 ++ dktX6_laysWaits_2
def dkwX6_laysWaits_0 : List UInt8 := [3, 61, 28, 42, 182, 0, 248, 162, 0, 74, 42, 180, 0, 87, 28, 3, 79, 3, 62, 29, 42, 182, 0, 251]
abbrev dktX6_laysWaits_0 : List UInt8 := dkwX6_laysWaits_0 ++ dktX6_laysWaits_1
theorem dksX6_laysWaits_0 : cX6_laysWaits.data.toList.drop 0 = dktX6_laysWaits_0 := by decide +kernel
theorem dksX6_laysWaits_1 : cX6_laysWaits.data.toList.drop 24 = dktX6_laysWaits_1 := dk_seg dksX6_laysWaits_0 24 rfl rfl
theorem dksX6_laysWaits_2 : cX6_laysWaits.data.toList.drop 48 = dktX6_laysWaits_2 := dk_seg dksX6_laysWaits_1 24 rfl rfl
theorem dksX6_laysWaits_3 : cX6_laysWaits.data.toList.drop 72 = dktX6_laysWaits_3 := dk_seg dksX6_laysWaits_2 24 rfl rfl
theorem dX6_laysWaits_0 : decode cX6_laysWaits 0 = .ok (.iconst 0, 1) := dk_3 (dk_at dksX6_laysWaits_0 0 rfl rfl)
theorem dX6_laysWaits_1 : decode cX6_laysWaits 1 = .ok (.istore_n 2, 1) := dk_61 (dk_at dksX6_laysWaits_0 1 rfl rfl)
theorem dX6_laysWaits_2 : decode cX6_laysWaits 2 = .ok (.iload_n 2, 1) := dk_28 (dk_at dksX6_laysWaits_0 2 rfl rfl)
theorem dX6_laysWaits_3 : decode cX6_laysWaits 3 = .ok (.aload_n 0, 1) := dk_42 (dk_at dksX6_laysWaits_0 3 rfl rfl)
theorem dX6_laysWaits_4 : decode cX6_laysWaits 4 = .ok (.invokevirtual 248, 3) := dk_182 0 248 (dk_at dksX6_laysWaits_0 4 rfl rfl)
theorem dX6_laysWaits_7 : decode cX6_laysWaits 7 = .ok (.if_icmp .ge 74, 3) := dk_162 0 74 (dk_at dksX6_laysWaits_0 7 rfl rfl)
theorem dX6_laysWaits_10 : decode cX6_laysWaits 10 = .ok (.aload_n 0, 1) := dk_42 (dk_at dksX6_laysWaits_0 10 rfl rfl)
theorem dX6_laysWaits_11 : decode cX6_laysWaits 11 = .ok (.getfield 87, 3) := dk_180 0 87 (dk_at dksX6_laysWaits_0 11 rfl rfl)
theorem dX6_laysWaits_14 : decode cX6_laysWaits 14 = .ok (.iload_n 2, 1) := dk_28 (dk_at dksX6_laysWaits_0 14 rfl rfl)
theorem dX6_laysWaits_15 : decode cX6_laysWaits 15 = .ok (.iconst 0, 1) := dk_3 (dk_at dksX6_laysWaits_0 15 rfl rfl)
theorem dX6_laysWaits_16 : decode cX6_laysWaits 16 = .ok (.iastore, 1) := dk_79 (dk_at dksX6_laysWaits_0 16 rfl rfl)
theorem dX6_laysWaits_17 : decode cX6_laysWaits 17 = .ok (.iconst 0, 1) := dk_3 (dk_at dksX6_laysWaits_0 17 rfl rfl)
theorem dX6_laysWaits_18 : decode cX6_laysWaits 18 = .ok (.istore_n 3, 1) := dk_62 (dk_at dksX6_laysWaits_0 18 rfl rfl)
theorem dX6_laysWaits_19 : decode cX6_laysWaits 19 = .ok (.iload_n 3, 1) := dk_29 (dk_at dksX6_laysWaits_0 19 rfl rfl)
theorem dX6_laysWaits_20 : decode cX6_laysWaits 20 = .ok (.aload_n 0, 1) := dk_42 (dk_at dksX6_laysWaits_0 20 rfl rfl)
theorem dX6_laysWaits_21 : decode cX6_laysWaits 21 = .ok (.invokevirtual 251, 3) := dk_182 0 251 (dk_at dksX6_laysWaits_0 21 rfl rfl)
theorem dX6_laysWaits_24 : decode cX6_laysWaits 24 = .ok (.if_icmp .ge 51, 3) := dk_162 0 51 (dk_at dksX6_laysWaits_1 0 rfl rfl)
theorem dX6_laysWaits_27 : decode cX6_laysWaits 27 = .ok (.aload_n 0, 1) := dk_42 (dk_at dksX6_laysWaits_1 3 rfl rfl)
theorem dX6_laysWaits_28 : decode cX6_laysWaits 28 = .ok (.iload_n 3, 1) := dk_29 (dk_at dksX6_laysWaits_1 4 rfl rfl)
theorem dX6_laysWaits_29 : decode cX6_laysWaits 29 = .ok (.iload_n 2, 1) := dk_28 (dk_at dksX6_laysWaits_1 5 rfl rfl)
theorem dX6_laysWaits_30 : decode cX6_laysWaits 30 = .ok (.invokevirtual 329, 3) := dk_182 1 73 (dk_at dksX6_laysWaits_1 6 rfl rfl)
theorem dX6_laysWaits_33 : decode cX6_laysWaits 33 = .ok (.istore 4, 2) := dk_54 4 (dk_at dksX6_laysWaits_1 9 rfl rfl)
theorem dX6_laysWaits_35 : decode cX6_laysWaits 35 = .ok (.iload 4, 2) := dk_21 4 (dk_at dksX6_laysWaits_1 11 rfl rfl)
theorem dX6_laysWaits_37 : decode cX6_laysWaits 37 = .ok (.iconst (-1), 1) := dk_2 (dk_at dksX6_laysWaits_1 13 rfl rfl)
theorem dX6_laysWaits_38 : decode cX6_laysWaits 38 = .ok (.if_icmp .eq 31, 3) := dk_159 0 31 (dk_at dksX6_laysWaits_1 14 rfl rfl)
theorem dX6_laysWaits_41 : decode cX6_laysWaits 41 = .ok (.iload_n 1, 1) := dk_27 (dk_at dksX6_laysWaits_1 17 rfl rfl)
theorem dX6_laysWaits_42 : decode cX6_laysWaits 42 = .ok (.ifCond .ne 14, 3) := dk_154 0 14 (dk_at dksX6_laysWaits_1 18 rfl rfl)
theorem dX6_laysWaits_45 : decode cX6_laysWaits 45 = .ok (.aload_n 0, 1) := dk_42 (dk_at dksX6_laysWaits_1 21 rfl rfl)
theorem dX6_laysWaits_46 : decode cX6_laysWaits 46 = .ok (.iload_n 2, 1) := dk_28 (dk_at dksX6_laysWaits_1 22 rfl rfl)
theorem dX6_laysWaits_47 : decode cX6_laysWaits 47 = .ok (.iload_n 3, 1) := dk_29 (dk_at dksX6_laysWaits_1 23 rfl rfl)
theorem dX6_laysWaits_48 : decode cX6_laysWaits 48 = .ok (.iload 4, 2) := dk_21 4 (dk_at dksX6_laysWaits_2 0 rfl rfl)
theorem dX6_laysWaits_50 : decode cX6_laysWaits 50 = .ok (.invokevirtual 332, 3) := dk_182 1 76 (dk_at dksX6_laysWaits_2 2 rfl rfl)
theorem dX6_laysWaits_53 : decode cX6_laysWaits 53 = .ok (.ifCond .eq 16, 3) := dk_153 0 16 (dk_at dksX6_laysWaits_2 5 rfl rfl)
theorem dX6_laysWaits_56 : decode cX6_laysWaits 56 = .ok (.aload_n 0, 1) := dk_42 (dk_at dksX6_laysWaits_2 8 rfl rfl)
theorem dX6_laysWaits_57 : decode cX6_laysWaits 57 = .ok (.getfield 87, 3) := dk_180 0 87 (dk_at dksX6_laysWaits_2 9 rfl rfl)
theorem dX6_laysWaits_60 : decode cX6_laysWaits 60 = .ok (.iload_n 2, 1) := dk_28 (dk_at dksX6_laysWaits_2 12 rfl rfl)
theorem dX6_laysWaits_61 : decode cX6_laysWaits 61 = .ok (.dup2, 1) := dk_92 (dk_at dksX6_laysWaits_2 13 rfl rfl)
theorem dX6_laysWaits_62 : decode cX6_laysWaits 62 = .ok (.iaload, 1) := dk_46 (dk_at dksX6_laysWaits_2 14 rfl rfl)
theorem dX6_laysWaits_63 : decode cX6_laysWaits 63 = .ok (.iconst 1, 1) := dk_4 (dk_at dksX6_laysWaits_2 15 rfl rfl)
theorem dX6_laysWaits_64 : decode cX6_laysWaits 64 = .ok (.iload 4, 2) := dk_21 4 (dk_at dksX6_laysWaits_2 16 rfl rfl)
theorem dX6_laysWaits_66 : decode cX6_laysWaits 66 = .ok (.ishl, 1) := dk_120 (dk_at dksX6_laysWaits_2 18 rfl rfl)
theorem dX6_laysWaits_67 : decode cX6_laysWaits 67 = .ok (.ior, 1) := dk_128 (dk_at dksX6_laysWaits_2 19 rfl rfl)
theorem dX6_laysWaits_68 : decode cX6_laysWaits 68 = .ok (.iastore, 1) := dk_79 (dk_at dksX6_laysWaits_2 20 rfl rfl)
theorem dX6_laysWaits_69 : decode cX6_laysWaits 69 = .ok (.iinc 3 1, 3) := dk_132 3 1 (dk_at dksX6_laysWaits_2 21 rfl rfl)
theorem dX6_laysWaits_72 : decode cX6_laysWaits 72 = .ok (.goto (-53), 3) := dk_167 255 203 (dk_at dksX6_laysWaits_3 0 rfl rfl)
theorem dX6_laysWaits_75 : decode cX6_laysWaits 75 = .ok (.iinc 2 1, 3) := dk_132 2 1 (dk_at dksX6_laysWaits_3 3 rfl rfl)
theorem dX6_laysWaits_78 : decode cX6_laysWaits 78 = .ok (.goto (-76), 3) := dk_167 255 180 (dk_at dksX6_laysWaits_3 6 rfl rfl)
theorem dX6_laysWaits_81 : decode cX6_laysWaits 81 = .ok (.return_, 1) := dk_177 (dk_at dksX6_laysWaits_3 9 rfl rfl)
abbrev cX6_nextOf : ByteArray := prog_18_method_76_code
def yX6_nextOf : MethodName := ⟨RX6, "nextOf", "(II)I"⟩
def dkwX6_nextOf_1 : List UInt8 := [2, 167, 0, 15, 42, 180, 0, 50, 8, 27, 104, 29, 96, 4, 96, 46, 172]
abbrev dktX6_nextOf_1 : List UInt8 := dkwX6_nextOf_1 ++ []
def dkwX6_nextOf_0 : List UInt8 := [42, 27, 28, 182, 1, 5, 62, 29, 2, 159, 0, 15, 29, 42, 180, 0, 47, 27, 46, 4, 100, 160, 0, 7]
abbrev dktX6_nextOf_0 : List UInt8 := dkwX6_nextOf_0 ++ dktX6_nextOf_1
theorem dksX6_nextOf_0 : cX6_nextOf.data.toList.drop 0 = dktX6_nextOf_0 := by decide +kernel
theorem dksX6_nextOf_1 : cX6_nextOf.data.toList.drop 24 = dktX6_nextOf_1 := dk_seg dksX6_nextOf_0 24 rfl rfl
theorem dX6_nextOf_0 : decode cX6_nextOf 0 = .ok (.aload_n 0, 1) := dk_42 (dk_at dksX6_nextOf_0 0 rfl rfl)
theorem dX6_nextOf_1 : decode cX6_nextOf 1 = .ok (.iload_n 1, 1) := dk_27 (dk_at dksX6_nextOf_0 1 rfl rfl)
theorem dX6_nextOf_2 : decode cX6_nextOf 2 = .ok (.iload_n 2, 1) := dk_28 (dk_at dksX6_nextOf_0 2 rfl rfl)
theorem dX6_nextOf_3 : decode cX6_nextOf 3 = .ok (.invokevirtual 261, 3) := dk_182 1 5 (dk_at dksX6_nextOf_0 3 rfl rfl)
theorem dX6_nextOf_6 : decode cX6_nextOf 6 = .ok (.istore_n 3, 1) := dk_62 (dk_at dksX6_nextOf_0 6 rfl rfl)
theorem dX6_nextOf_7 : decode cX6_nextOf 7 = .ok (.iload_n 3, 1) := dk_29 (dk_at dksX6_nextOf_0 7 rfl rfl)
theorem dX6_nextOf_8 : decode cX6_nextOf 8 = .ok (.iconst (-1), 1) := dk_2 (dk_at dksX6_nextOf_0 8 rfl rfl)
theorem dX6_nextOf_9 : decode cX6_nextOf 9 = .ok (.if_icmp .eq 15, 3) := dk_159 0 15 (dk_at dksX6_nextOf_0 9 rfl rfl)
theorem dX6_nextOf_12 : decode cX6_nextOf 12 = .ok (.iload_n 3, 1) := dk_29 (dk_at dksX6_nextOf_0 12 rfl rfl)
theorem dX6_nextOf_13 : decode cX6_nextOf 13 = .ok (.aload_n 0, 1) := dk_42 (dk_at dksX6_nextOf_0 13 rfl rfl)
theorem dX6_nextOf_14 : decode cX6_nextOf 14 = .ok (.getfield 47, 3) := dk_180 0 47 (dk_at dksX6_nextOf_0 14 rfl rfl)
theorem dX6_nextOf_17 : decode cX6_nextOf 17 = .ok (.iload_n 1, 1) := dk_27 (dk_at dksX6_nextOf_0 17 rfl rfl)
theorem dX6_nextOf_18 : decode cX6_nextOf 18 = .ok (.iaload, 1) := dk_46 (dk_at dksX6_nextOf_0 18 rfl rfl)
theorem dX6_nextOf_19 : decode cX6_nextOf 19 = .ok (.iconst 1, 1) := dk_4 (dk_at dksX6_nextOf_0 19 rfl rfl)
theorem dX6_nextOf_20 : decode cX6_nextOf 20 = .ok (.isub, 1) := dk_100 (dk_at dksX6_nextOf_0 20 rfl rfl)
theorem dX6_nextOf_21 : decode cX6_nextOf 21 = .ok (.if_icmp .ne 7, 3) := dk_160 0 7 (dk_at dksX6_nextOf_0 21 rfl rfl)
theorem dX6_nextOf_24 : decode cX6_nextOf 24 = .ok (.iconst (-1), 1) := dk_2 (dk_at dksX6_nextOf_1 0 rfl rfl)
theorem dX6_nextOf_25 : decode cX6_nextOf 25 = .ok (.goto 15, 3) := dk_167 0 15 (dk_at dksX6_nextOf_1 1 rfl rfl)
theorem dX6_nextOf_28 : decode cX6_nextOf 28 = .ok (.aload_n 0, 1) := dk_42 (dk_at dksX6_nextOf_1 4 rfl rfl)
theorem dX6_nextOf_29 : decode cX6_nextOf 29 = .ok (.getfield 50, 3) := dk_180 0 50 (dk_at dksX6_nextOf_1 5 rfl rfl)
theorem dX6_nextOf_32 : decode cX6_nextOf 32 = .ok (.iconst 5, 1) := dk_8 (dk_at dksX6_nextOf_1 8 rfl rfl)
theorem dX6_nextOf_33 : decode cX6_nextOf 33 = .ok (.iload_n 1, 1) := dk_27 (dk_at dksX6_nextOf_1 9 rfl rfl)
theorem dX6_nextOf_34 : decode cX6_nextOf 34 = .ok (.imul, 1) := dk_104 (dk_at dksX6_nextOf_1 10 rfl rfl)
theorem dX6_nextOf_35 : decode cX6_nextOf 35 = .ok (.iload_n 3, 1) := dk_29 (dk_at dksX6_nextOf_1 11 rfl rfl)
theorem dX6_nextOf_36 : decode cX6_nextOf 36 = .ok (.iadd, 1) := dk_96 (dk_at dksX6_nextOf_1 12 rfl rfl)
theorem dX6_nextOf_37 : decode cX6_nextOf 37 = .ok (.iconst 1, 1) := dk_4 (dk_at dksX6_nextOf_1 13 rfl rfl)
theorem dX6_nextOf_38 : decode cX6_nextOf 38 = .ok (.iadd, 1) := dk_96 (dk_at dksX6_nextOf_1 14 rfl rfl)
theorem dX6_nextOf_39 : decode cX6_nextOf 39 = .ok (.iaload, 1) := dk_46 (dk_at dksX6_nextOf_1 15 rfl rfl)
theorem dX6_nextOf_40 : decode cX6_nextOf 40 = .ok (.ireturn, 1) := dk_172 (dk_at dksX6_nextOf_1 16 rfl rfl)
abbrev cX6_isWaiting : ByteArray := prog_18_method_77_code
def yX6_isWaiting : MethodName := ⟨RX6, "isWaiting", "(III)Z"⟩
def dkwX6_isWaiting_2 : List UInt8 := [167, 0, 4, 3, 172]
abbrev dktX6_isWaiting_2 : List UInt8 := dkwX6_isWaiting_2 ++ []
def dkwX6_isWaiting_1 : List UInt8 := [158, 0, 25, 42, 28, 27, 182, 1, 73, 29, 160, 0, 15, 42, 29, 182, 1, 70, 153, 0, 7, 4]
abbrev dktX6_isWaiting_1 : List UInt8 := dkwX6_isWaiting_1 ++ dktX6_isWaiting_2
def dkwX6_isWaiting_0 : List UInt8 := [42, 27, 182, 1, 70, 153, 0, 42, 42, 180, 0, 57, 16, 24, 27, 104, 16, 15, 96, 28, 96, 46]
abbrev dktX6_isWaiting_0 : List UInt8 := dkwX6_isWaiting_0 ++ dktX6_isWaiting_1
theorem dksX6_isWaiting_0 : cX6_isWaiting.data.toList.drop 0 = dktX6_isWaiting_0 := by decide +kernel
theorem dksX6_isWaiting_1 : cX6_isWaiting.data.toList.drop 22 = dktX6_isWaiting_1 := dk_seg dksX6_isWaiting_0 22 rfl rfl
theorem dksX6_isWaiting_2 : cX6_isWaiting.data.toList.drop 44 = dktX6_isWaiting_2 := dk_seg dksX6_isWaiting_1 22 rfl rfl
theorem dX6_isWaiting_0 : decode cX6_isWaiting 0 = .ok (.aload_n 0, 1) := dk_42 (dk_at dksX6_isWaiting_0 0 rfl rfl)
theorem dX6_isWaiting_1 : decode cX6_isWaiting 1 = .ok (.iload_n 1, 1) := dk_27 (dk_at dksX6_isWaiting_0 1 rfl rfl)
theorem dX6_isWaiting_2 : decode cX6_isWaiting 2 = .ok (.invokevirtual 326, 3) := dk_182 1 70 (dk_at dksX6_isWaiting_0 2 rfl rfl)
theorem dX6_isWaiting_5 : decode cX6_isWaiting 5 = .ok (.ifCond .eq 42, 3) := dk_153 0 42 (dk_at dksX6_isWaiting_0 5 rfl rfl)
theorem dX6_isWaiting_8 : decode cX6_isWaiting 8 = .ok (.aload_n 0, 1) := dk_42 (dk_at dksX6_isWaiting_0 8 rfl rfl)
theorem dX6_isWaiting_9 : decode cX6_isWaiting 9 = .ok (.getfield 57, 3) := dk_180 0 57 (dk_at dksX6_isWaiting_0 9 rfl rfl)
theorem dX6_isWaiting_12 : decode cX6_isWaiting 12 = .ok (.bipush 24, 2) := dk_16 24 (dk_at dksX6_isWaiting_0 12 rfl rfl)
theorem dX6_isWaiting_14 : decode cX6_isWaiting 14 = .ok (.iload_n 1, 1) := dk_27 (dk_at dksX6_isWaiting_0 14 rfl rfl)
theorem dX6_isWaiting_15 : decode cX6_isWaiting 15 = .ok (.imul, 1) := dk_104 (dk_at dksX6_isWaiting_0 15 rfl rfl)
theorem dX6_isWaiting_16 : decode cX6_isWaiting 16 = .ok (.bipush 15, 2) := dk_16 15 (dk_at dksX6_isWaiting_0 16 rfl rfl)
theorem dX6_isWaiting_18 : decode cX6_isWaiting 18 = .ok (.iadd, 1) := dk_96 (dk_at dksX6_isWaiting_0 18 rfl rfl)
theorem dX6_isWaiting_19 : decode cX6_isWaiting 19 = .ok (.iload_n 2, 1) := dk_28 (dk_at dksX6_isWaiting_0 19 rfl rfl)
theorem dX6_isWaiting_20 : decode cX6_isWaiting 20 = .ok (.iadd, 1) := dk_96 (dk_at dksX6_isWaiting_0 20 rfl rfl)
theorem dX6_isWaiting_21 : decode cX6_isWaiting 21 = .ok (.iaload, 1) := dk_46 (dk_at dksX6_isWaiting_0 21 rfl rfl)
theorem dX6_isWaiting_22 : decode cX6_isWaiting 22 = .ok (.ifCond .le 25, 3) := dk_158 0 25 (dk_at dksX6_isWaiting_1 0 rfl rfl)
theorem dX6_isWaiting_25 : decode cX6_isWaiting 25 = .ok (.aload_n 0, 1) := dk_42 (dk_at dksX6_isWaiting_1 3 rfl rfl)
theorem dX6_isWaiting_26 : decode cX6_isWaiting 26 = .ok (.iload_n 2, 1) := dk_28 (dk_at dksX6_isWaiting_1 4 rfl rfl)
theorem dX6_isWaiting_27 : decode cX6_isWaiting 27 = .ok (.iload_n 1, 1) := dk_27 (dk_at dksX6_isWaiting_1 5 rfl rfl)
theorem dX6_isWaiting_28 : decode cX6_isWaiting 28 = .ok (.invokevirtual 329, 3) := dk_182 1 73 (dk_at dksX6_isWaiting_1 6 rfl rfl)
theorem dX6_isWaiting_31 : decode cX6_isWaiting 31 = .ok (.iload_n 3, 1) := dk_29 (dk_at dksX6_isWaiting_1 9 rfl rfl)
theorem dX6_isWaiting_32 : decode cX6_isWaiting 32 = .ok (.if_icmp .ne 15, 3) := dk_160 0 15 (dk_at dksX6_isWaiting_1 10 rfl rfl)
theorem dX6_isWaiting_35 : decode cX6_isWaiting 35 = .ok (.aload_n 0, 1) := dk_42 (dk_at dksX6_isWaiting_1 13 rfl rfl)
theorem dX6_isWaiting_36 : decode cX6_isWaiting 36 = .ok (.iload_n 3, 1) := dk_29 (dk_at dksX6_isWaiting_1 14 rfl rfl)
theorem dX6_isWaiting_37 : decode cX6_isWaiting 37 = .ok (.invokevirtual 326, 3) := dk_182 1 70 (dk_at dksX6_isWaiting_1 15 rfl rfl)
theorem dX6_isWaiting_40 : decode cX6_isWaiting 40 = .ok (.ifCond .eq 7, 3) := dk_153 0 7 (dk_at dksX6_isWaiting_1 18 rfl rfl)
theorem dX6_isWaiting_43 : decode cX6_isWaiting 43 = .ok (.iconst 1, 1) := dk_4 (dk_at dksX6_isWaiting_1 21 rfl rfl)
theorem dX6_isWaiting_44 : decode cX6_isWaiting 44 = .ok (.goto 4, 3) := dk_167 0 4 (dk_at dksX6_isWaiting_2 0 rfl rfl)
theorem dX6_isWaiting_47 : decode cX6_isWaiting 47 = .ok (.iconst 0, 1) := dk_3 (dk_at dksX6_isWaiting_2 3 rfl rfl)
theorem dX6_isWaiting_48 : decode cX6_isWaiting 48 = .ok (.ireturn, 1) := dk_172 (dk_at dksX6_isWaiting_2 4 rfl rfl)
abbrev cX6_asked : ByteArray := prog_18_method_44_code
def yX6_asked : MethodName := ⟨RX6, "asked", "(I)Z"⟩
def dkwX6_asked_0 : List UInt8 := [42, 180, 0, 57, 16, 24, 27, 104, 16, 10, 96, 46, 4, 160, 0, 7, 4, 167, 0, 4, 3, 172]
abbrev dktX6_asked_0 : List UInt8 := dkwX6_asked_0 ++ []
theorem dksX6_asked_0 : cX6_asked.data.toList.drop 0 = dktX6_asked_0 := by decide +kernel
theorem dX6_asked_0 : decode cX6_asked 0 = .ok (.aload_n 0, 1) := dk_42 (dk_at dksX6_asked_0 0 rfl rfl)
theorem dX6_asked_1 : decode cX6_asked 1 = .ok (.getfield 57, 3) := dk_180 0 57 (dk_at dksX6_asked_0 1 rfl rfl)
theorem dX6_asked_4 : decode cX6_asked 4 = .ok (.bipush 24, 2) := dk_16 24 (dk_at dksX6_asked_0 4 rfl rfl)
theorem dX6_asked_6 : decode cX6_asked 6 = .ok (.iload_n 1, 1) := dk_27 (dk_at dksX6_asked_0 6 rfl rfl)
theorem dX6_asked_7 : decode cX6_asked 7 = .ok (.imul, 1) := dk_104 (dk_at dksX6_asked_0 7 rfl rfl)
theorem dX6_asked_8 : decode cX6_asked 8 = .ok (.bipush 10, 2) := dk_16 10 (dk_at dksX6_asked_0 8 rfl rfl)
theorem dX6_asked_10 : decode cX6_asked 10 = .ok (.iadd, 1) := dk_96 (dk_at dksX6_asked_0 10 rfl rfl)
theorem dX6_asked_11 : decode cX6_asked 11 = .ok (.iaload, 1) := dk_46 (dk_at dksX6_asked_0 11 rfl rfl)
theorem dX6_asked_12 : decode cX6_asked 12 = .ok (.iconst 1, 1) := dk_4 (dk_at dksX6_asked_0 12 rfl rfl)
theorem dX6_asked_13 : decode cX6_asked 13 = .ok (.if_icmp .ne 7, 3) := dk_160 0 7 (dk_at dksX6_asked_0 13 rfl rfl)
theorem dX6_asked_16 : decode cX6_asked 16 = .ok (.iconst 1, 1) := dk_4 (dk_at dksX6_asked_0 16 rfl rfl)
theorem dX6_asked_17 : decode cX6_asked 17 = .ok (.goto 4, 3) := dk_167 0 4 (dk_at dksX6_asked_0 17 rfl rfl)
theorem dX6_asked_20 : decode cX6_asked 20 = .ok (.iconst 0, 1) := dk_3 (dk_at dksX6_asked_0 20 rfl rfl)
theorem dX6_asked_21 : decode cX6_asked 21 = .ok (.ireturn, 1) := dk_172 (dk_at dksX6_asked_0 21 rfl rfl)
abbrev cX6_inCycles : ByteArray := prog_18_method_82_code
def yX6_inCycles : MethodName := ⟨RX6, "inCycles", "(I)I"⟩
def dkwX6_inCycles_1 : List UInt8 := [167, 0, 4, 3, 182, 1, 80, 42, 182, 1, 87, 172]
abbrev dktX6_inCycles_1 : List UInt8 := dkwX6_inCycles_1 ++ []
def dkwX6_inCycles_0 : List UInt8 := [42, 3, 181, 0, 115, 27, 155, 0, 8, 27, 4, 164, 0, 5, 2, 172, 42, 27, 4, 160, 0, 7, 4]
abbrev dktX6_inCycles_0 : List UInt8 := dkwX6_inCycles_0 ++ dktX6_inCycles_1
theorem dksX6_inCycles_0 : cX6_inCycles.data.toList.drop 0 = dktX6_inCycles_0 := by decide +kernel
theorem dksX6_inCycles_1 : cX6_inCycles.data.toList.drop 23 = dktX6_inCycles_1 := dk_seg dksX6_inCycles_0 23 rfl rfl
theorem dX6_inCycles_0 : decode cX6_inCycles 0 = .ok (.aload_n 0, 1) := dk_42 (dk_at dksX6_inCycles_0 0 rfl rfl)
theorem dX6_inCycles_1 : decode cX6_inCycles 1 = .ok (.iconst 0, 1) := dk_3 (dk_at dksX6_inCycles_0 1 rfl rfl)
theorem dX6_inCycles_2 : decode cX6_inCycles 2 = .ok (.putfield 115, 3) := dk_181 0 115 (dk_at dksX6_inCycles_0 2 rfl rfl)
theorem dX6_inCycles_5 : decode cX6_inCycles 5 = .ok (.iload_n 1, 1) := dk_27 (dk_at dksX6_inCycles_0 5 rfl rfl)
theorem dX6_inCycles_6 : decode cX6_inCycles 6 = .ok (.ifCond .lt 8, 3) := dk_155 0 8 (dk_at dksX6_inCycles_0 6 rfl rfl)
theorem dX6_inCycles_9 : decode cX6_inCycles 9 = .ok (.iload_n 1, 1) := dk_27 (dk_at dksX6_inCycles_0 9 rfl rfl)
theorem dX6_inCycles_10 : decode cX6_inCycles 10 = .ok (.iconst 1, 1) := dk_4 (dk_at dksX6_inCycles_0 10 rfl rfl)
theorem dX6_inCycles_11 : decode cX6_inCycles 11 = .ok (.if_icmp .le 5, 3) := dk_164 0 5 (dk_at dksX6_inCycles_0 11 rfl rfl)
theorem dX6_inCycles_14 : decode cX6_inCycles 14 = .ok (.iconst (-1), 1) := dk_2 (dk_at dksX6_inCycles_0 14 rfl rfl)
theorem dX6_inCycles_15 : decode cX6_inCycles 15 = .ok (.ireturn, 1) := dk_172 (dk_at dksX6_inCycles_0 15 rfl rfl)
theorem dX6_inCycles_16 : decode cX6_inCycles 16 = .ok (.aload_n 0, 1) := dk_42 (dk_at dksX6_inCycles_0 16 rfl rfl)
theorem dX6_inCycles_17 : decode cX6_inCycles 17 = .ok (.iload_n 1, 1) := dk_27 (dk_at dksX6_inCycles_0 17 rfl rfl)
theorem dX6_inCycles_18 : decode cX6_inCycles 18 = .ok (.iconst 1, 1) := dk_4 (dk_at dksX6_inCycles_0 18 rfl rfl)
theorem dX6_inCycles_19 : decode cX6_inCycles 19 = .ok (.if_icmp .ne 7, 3) := dk_160 0 7 (dk_at dksX6_inCycles_0 19 rfl rfl)
theorem dX6_inCycles_22 : decode cX6_inCycles 22 = .ok (.iconst 1, 1) := dk_4 (dk_at dksX6_inCycles_0 22 rfl rfl)
theorem dX6_inCycles_23 : decode cX6_inCycles 23 = .ok (.goto 4, 3) := dk_167 0 4 (dk_at dksX6_inCycles_1 0 rfl rfl)
theorem dX6_inCycles_26 : decode cX6_inCycles 26 = .ok (.iconst 0, 1) := dk_3 (dk_at dksX6_inCycles_1 3 rfl rfl)
theorem dX6_inCycles_27 : decode cX6_inCycles 27 = .ok (.invokevirtual 336, 3) := dk_182 1 80 (dk_at dksX6_inCycles_1 4 rfl rfl)
theorem dX6_inCycles_30 : decode cX6_inCycles 30 = .ok (.aload_n 0, 1) := dk_42 (dk_at dksX6_inCycles_1 7 rfl rfl)
theorem dX6_inCycles_31 : decode cX6_inCycles 31 = .ok (.invokevirtual 343, 3) := dk_182 1 87 (dk_at dksX6_inCycles_1 8 rfl rfl)
theorem dX6_inCycles_34 : decode cX6_inCycles 34 = .ok (.ireturn, 1) := dk_172 (dk_at dksX6_inCycles_1 11 rfl rfl)
abbrev cX6_inCyclesNow : ByteArray := prog_18_method_81_code
def yX6_inCyclesNow : MethodName := ⟨RX6, "inCyclesNow", "()I"⟩
def dkwX6_inCyclesNow_1 : List UInt8 := [159, 0, 9, 27, 4, 28, 120, 128, 60, 132, 2, 1, 167, 255, 224, 27, 172]
abbrev dktX6_inCyclesNow_1 : List UInt8 := dkwX6_inCyclesNow_1 ++ []
def dkwX6_inCyclesNow_0 : List UInt8 := [3, 60, 3, 61, 28, 42, 182, 0, 248, 162, 0, 30, 42, 28, 182, 1, 84, 42, 180, 0, 90, 28, 46, 2]
abbrev dktX6_inCyclesNow_0 : List UInt8 := dkwX6_inCyclesNow_0 ++ dktX6_inCyclesNow_1
theorem dksX6_inCyclesNow_0 : cX6_inCyclesNow.data.toList.drop 0 = dktX6_inCyclesNow_0 := by decide +kernel
theorem dksX6_inCyclesNow_1 : cX6_inCyclesNow.data.toList.drop 24 = dktX6_inCyclesNow_1 := dk_seg dksX6_inCyclesNow_0 24 rfl rfl
theorem dX6_inCyclesNow_0 : decode cX6_inCyclesNow 0 = .ok (.iconst 0, 1) := dk_3 (dk_at dksX6_inCyclesNow_0 0 rfl rfl)
theorem dX6_inCyclesNow_1 : decode cX6_inCyclesNow 1 = .ok (.istore_n 1, 1) := dk_60 (dk_at dksX6_inCyclesNow_0 1 rfl rfl)
theorem dX6_inCyclesNow_2 : decode cX6_inCyclesNow 2 = .ok (.iconst 0, 1) := dk_3 (dk_at dksX6_inCyclesNow_0 2 rfl rfl)
theorem dX6_inCyclesNow_3 : decode cX6_inCyclesNow 3 = .ok (.istore_n 2, 1) := dk_61 (dk_at dksX6_inCyclesNow_0 3 rfl rfl)
theorem dX6_inCyclesNow_4 : decode cX6_inCyclesNow 4 = .ok (.iload_n 2, 1) := dk_28 (dk_at dksX6_inCyclesNow_0 4 rfl rfl)
theorem dX6_inCyclesNow_5 : decode cX6_inCyclesNow 5 = .ok (.aload_n 0, 1) := dk_42 (dk_at dksX6_inCyclesNow_0 5 rfl rfl)
theorem dX6_inCyclesNow_6 : decode cX6_inCyclesNow 6 = .ok (.invokevirtual 248, 3) := dk_182 0 248 (dk_at dksX6_inCyclesNow_0 6 rfl rfl)
theorem dX6_inCyclesNow_9 : decode cX6_inCyclesNow 9 = .ok (.if_icmp .ge 30, 3) := dk_162 0 30 (dk_at dksX6_inCyclesNow_0 9 rfl rfl)
theorem dX6_inCyclesNow_12 : decode cX6_inCyclesNow 12 = .ok (.aload_n 0, 1) := dk_42 (dk_at dksX6_inCyclesNow_0 12 rfl rfl)
theorem dX6_inCyclesNow_13 : decode cX6_inCyclesNow 13 = .ok (.iload_n 2, 1) := dk_28 (dk_at dksX6_inCyclesNow_0 13 rfl rfl)
theorem dX6_inCyclesNow_14 : decode cX6_inCyclesNow 14 = .ok (.invokevirtual 340, 3) := dk_182 1 84 (dk_at dksX6_inCyclesNow_0 14 rfl rfl)
theorem dX6_inCyclesNow_17 : decode cX6_inCyclesNow 17 = .ok (.aload_n 0, 1) := dk_42 (dk_at dksX6_inCyclesNow_0 17 rfl rfl)
theorem dX6_inCyclesNow_18 : decode cX6_inCyclesNow 18 = .ok (.getfield 90, 3) := dk_180 0 90 (dk_at dksX6_inCyclesNow_0 18 rfl rfl)
theorem dX6_inCyclesNow_21 : decode cX6_inCyclesNow 21 = .ok (.iload_n 2, 1) := dk_28 (dk_at dksX6_inCyclesNow_0 21 rfl rfl)
theorem dX6_inCyclesNow_22 : decode cX6_inCyclesNow 22 = .ok (.iaload, 1) := dk_46 (dk_at dksX6_inCyclesNow_0 22 rfl rfl)
theorem dX6_inCyclesNow_23 : decode cX6_inCyclesNow 23 = .ok (.iconst (-1), 1) := dk_2 (dk_at dksX6_inCyclesNow_0 23 rfl rfl)
theorem dX6_inCyclesNow_24 : decode cX6_inCyclesNow 24 = .ok (.if_icmp .eq 9, 3) := dk_159 0 9 (dk_at dksX6_inCyclesNow_1 0 rfl rfl)
theorem dX6_inCyclesNow_27 : decode cX6_inCyclesNow 27 = .ok (.iload_n 1, 1) := dk_27 (dk_at dksX6_inCyclesNow_1 3 rfl rfl)
theorem dX6_inCyclesNow_28 : decode cX6_inCyclesNow 28 = .ok (.iconst 1, 1) := dk_4 (dk_at dksX6_inCyclesNow_1 4 rfl rfl)
theorem dX6_inCyclesNow_29 : decode cX6_inCyclesNow 29 = .ok (.iload_n 2, 1) := dk_28 (dk_at dksX6_inCyclesNow_1 5 rfl rfl)
theorem dX6_inCyclesNow_30 : decode cX6_inCyclesNow 30 = .ok (.ishl, 1) := dk_120 (dk_at dksX6_inCyclesNow_1 6 rfl rfl)
theorem dX6_inCyclesNow_31 : decode cX6_inCyclesNow 31 = .ok (.ior, 1) := dk_128 (dk_at dksX6_inCyclesNow_1 7 rfl rfl)
theorem dX6_inCyclesNow_32 : decode cX6_inCyclesNow 32 = .ok (.istore_n 1, 1) := dk_60 (dk_at dksX6_inCyclesNow_1 8 rfl rfl)
theorem dX6_inCyclesNow_33 : decode cX6_inCyclesNow 33 = .ok (.iinc 2 1, 3) := dk_132 2 1 (dk_at dksX6_inCyclesNow_1 9 rfl rfl)
theorem dX6_inCyclesNow_36 : decode cX6_inCyclesNow 36 = .ok (.goto (-32), 3) := dk_167 255 224 (dk_at dksX6_inCyclesNow_1 12 rfl rfl)
theorem dX6_inCyclesNow_39 : decode cX6_inCyclesNow 39 = .ok (.iload_n 1, 1) := dk_27 (dk_at dksX6_inCyclesNow_1 15 rfl rfl)
theorem dX6_inCyclesNow_40 : decode cX6_inCyclesNow 40 = .ok (.ireturn, 1) := dk_172 (dk_at dksX6_inCyclesNow_1 16 rfl rfl)
abbrev cX6_laysSteps : ByteArray := prog_18_method_80_code
def yX6_laysSteps : MethodName := ⟨RX6, "laysSteps", "(I)V"⟩
def dkwX6_laysSteps_7 : List UInt8 := [167, 255, 125, 132, 2, 1, 167, 255, 109, 177]
abbrev dktX6_laysSteps_7 : List UInt8 := dkwX6_laysSteps_7 ++ []
def dkwX6_laysSteps_6 : List UInt8 := [54, 4, 132, 5, 1, 167, 255, 193, 21, 4, 153, 0, 10, 42, 180, 0, 90, 29, 28, 79, 132, 3, 1]
abbrev dktX6_laysSteps_6 : List UInt8 := dkwX6_laysSteps_6 ++ dktX6_laysSteps_7
def dkwX6_laysSteps_5 : List UInt8 := [21, 5, 27, 159, 0, 20, 42, 180, 0, 90, 21, 5, 46, 28, 4, 100, 160, 0, 7, 4, 167, 0, 4, 3]
abbrev dktX6_laysSteps_5 : List UInt8 := dkwX6_laysSteps_5 ++ dktX6_laysSteps_6
def dkwX6_laysSteps_4 : List UInt8 := [164, 0, 55, 21, 4, 154, 0, 37, 42, 180, 0, 87, 29, 46, 21, 5, 122, 4, 126, 4, 160, 0, 26]
abbrev dktX6_laysSteps_4 : List UInt8 := dkwX6_laysSteps_4 ++ dktX6_laysSteps_5
def dkwX6_laysSteps_3 : List UInt8 := [160, 0, 7, 4, 167, 0, 4, 3, 54, 4, 3, 54, 5, 21, 5, 42, 182, 0, 248, 162, 0, 60, 28, 4]
abbrev dktX6_laysSteps_3 : List UInt8 := dkwX6_laysSteps_3 ++ dktX6_laysSteps_4
def dkwX6_laysSteps_2 : List UInt8 := [46, 2, 159, 0, 6, 167, 0, 110, 28, 4, 160, 0, 21, 42, 180, 0, 87, 29, 46, 27, 122, 4, 126, 4]
abbrev dktX6_laysSteps_2 : List UInt8 := dkwX6_laysSteps_2 ++ dktX6_laysSteps_3
def dkwX6_laysSteps_1 : List UInt8 := [61, 28, 42, 182, 0, 248, 163, 0, 145, 3, 62, 29, 42, 182, 0, 248, 162, 0, 129, 42, 180, 0, 90, 29]
abbrev dktX6_laysSteps_1 : List UInt8 := dkwX6_laysSteps_1 ++ dktX6_laysSteps_2
def dkwX6_laysSteps_0 : List UInt8 := [3, 61, 28, 42, 182, 0, 248, 162, 0, 16, 42, 180, 0, 90, 28, 2, 79, 132, 2, 1, 167, 255, 238, 4]
abbrev dktX6_laysSteps_0 : List UInt8 := dkwX6_laysSteps_0 ++ dktX6_laysSteps_1
theorem dksX6_laysSteps_0 : cX6_laysSteps.data.toList.drop 0 = dktX6_laysSteps_0 := by decide +kernel
theorem dksX6_laysSteps_1 : cX6_laysSteps.data.toList.drop 24 = dktX6_laysSteps_1 := dk_seg dksX6_laysSteps_0 24 rfl rfl
theorem dksX6_laysSteps_2 : cX6_laysSteps.data.toList.drop 48 = dktX6_laysSteps_2 := dk_seg dksX6_laysSteps_1 24 rfl rfl
theorem dksX6_laysSteps_3 : cX6_laysSteps.data.toList.drop 72 = dktX6_laysSteps_3 := dk_seg dksX6_laysSteps_2 24 rfl rfl
theorem dksX6_laysSteps_4 : cX6_laysSteps.data.toList.drop 96 = dktX6_laysSteps_4 := dk_seg dksX6_laysSteps_3 24 rfl rfl
theorem dksX6_laysSteps_5 : cX6_laysSteps.data.toList.drop 119 = dktX6_laysSteps_5 := dk_seg dksX6_laysSteps_4 23 rfl rfl
theorem dksX6_laysSteps_6 : cX6_laysSteps.data.toList.drop 143 = dktX6_laysSteps_6 := dk_seg dksX6_laysSteps_5 24 rfl rfl
theorem dksX6_laysSteps_7 : cX6_laysSteps.data.toList.drop 166 = dktX6_laysSteps_7 := dk_seg dksX6_laysSteps_6 23 rfl rfl
theorem dX6_laysSteps_0 : decode cX6_laysSteps 0 = .ok (.iconst 0, 1) := dk_3 (dk_at dksX6_laysSteps_0 0 rfl rfl)
theorem dX6_laysSteps_1 : decode cX6_laysSteps 1 = .ok (.istore_n 2, 1) := dk_61 (dk_at dksX6_laysSteps_0 1 rfl rfl)
theorem dX6_laysSteps_2 : decode cX6_laysSteps 2 = .ok (.iload_n 2, 1) := dk_28 (dk_at dksX6_laysSteps_0 2 rfl rfl)
theorem dX6_laysSteps_3 : decode cX6_laysSteps 3 = .ok (.aload_n 0, 1) := dk_42 (dk_at dksX6_laysSteps_0 3 rfl rfl)
theorem dX6_laysSteps_4 : decode cX6_laysSteps 4 = .ok (.invokevirtual 248, 3) := dk_182 0 248 (dk_at dksX6_laysSteps_0 4 rfl rfl)
theorem dX6_laysSteps_7 : decode cX6_laysSteps 7 = .ok (.if_icmp .ge 16, 3) := dk_162 0 16 (dk_at dksX6_laysSteps_0 7 rfl rfl)
theorem dX6_laysSteps_10 : decode cX6_laysSteps 10 = .ok (.aload_n 0, 1) := dk_42 (dk_at dksX6_laysSteps_0 10 rfl rfl)
theorem dX6_laysSteps_11 : decode cX6_laysSteps 11 = .ok (.getfield 90, 3) := dk_180 0 90 (dk_at dksX6_laysSteps_0 11 rfl rfl)
theorem dX6_laysSteps_14 : decode cX6_laysSteps 14 = .ok (.iload_n 2, 1) := dk_28 (dk_at dksX6_laysSteps_0 14 rfl rfl)
theorem dX6_laysSteps_15 : decode cX6_laysSteps 15 = .ok (.iconst (-1), 1) := dk_2 (dk_at dksX6_laysSteps_0 15 rfl rfl)
theorem dX6_laysSteps_16 : decode cX6_laysSteps 16 = .ok (.iastore, 1) := dk_79 (dk_at dksX6_laysSteps_0 16 rfl rfl)
theorem dX6_laysSteps_17 : decode cX6_laysSteps 17 = .ok (.iinc 2 1, 3) := dk_132 2 1 (dk_at dksX6_laysSteps_0 17 rfl rfl)
theorem dX6_laysSteps_20 : decode cX6_laysSteps 20 = .ok (.goto (-18), 3) := dk_167 255 238 (dk_at dksX6_laysSteps_0 20 rfl rfl)
theorem dX6_laysSteps_23 : decode cX6_laysSteps 23 = .ok (.iconst 1, 1) := dk_4 (dk_at dksX6_laysSteps_0 23 rfl rfl)
theorem dX6_laysSteps_24 : decode cX6_laysSteps 24 = .ok (.istore_n 2, 1) := dk_61 (dk_at dksX6_laysSteps_1 0 rfl rfl)
theorem dX6_laysSteps_25 : decode cX6_laysSteps 25 = .ok (.iload_n 2, 1) := dk_28 (dk_at dksX6_laysSteps_1 1 rfl rfl)
theorem dX6_laysSteps_26 : decode cX6_laysSteps 26 = .ok (.aload_n 0, 1) := dk_42 (dk_at dksX6_laysSteps_1 2 rfl rfl)
theorem dX6_laysSteps_27 : decode cX6_laysSteps 27 = .ok (.invokevirtual 248, 3) := dk_182 0 248 (dk_at dksX6_laysSteps_1 3 rfl rfl)
theorem dX6_laysSteps_30 : decode cX6_laysSteps 30 = .ok (.if_icmp .gt 145, 3) := dk_163 0 145 (dk_at dksX6_laysSteps_1 6 rfl rfl)
theorem dX6_laysSteps_33 : decode cX6_laysSteps 33 = .ok (.iconst 0, 1) := dk_3 (dk_at dksX6_laysSteps_1 9 rfl rfl)
theorem dX6_laysSteps_34 : decode cX6_laysSteps 34 = .ok (.istore_n 3, 1) := dk_62 (dk_at dksX6_laysSteps_1 10 rfl rfl)
theorem dX6_laysSteps_35 : decode cX6_laysSteps 35 = .ok (.iload_n 3, 1) := dk_29 (dk_at dksX6_laysSteps_1 11 rfl rfl)
theorem dX6_laysSteps_36 : decode cX6_laysSteps 36 = .ok (.aload_n 0, 1) := dk_42 (dk_at dksX6_laysSteps_1 12 rfl rfl)
theorem dX6_laysSteps_37 : decode cX6_laysSteps 37 = .ok (.invokevirtual 248, 3) := dk_182 0 248 (dk_at dksX6_laysSteps_1 13 rfl rfl)
theorem dX6_laysSteps_40 : decode cX6_laysSteps 40 = .ok (.if_icmp .ge 129, 3) := dk_162 0 129 (dk_at dksX6_laysSteps_1 16 rfl rfl)
theorem dX6_laysSteps_43 : decode cX6_laysSteps 43 = .ok (.aload_n 0, 1) := dk_42 (dk_at dksX6_laysSteps_1 19 rfl rfl)
theorem dX6_laysSteps_44 : decode cX6_laysSteps 44 = .ok (.getfield 90, 3) := dk_180 0 90 (dk_at dksX6_laysSteps_1 20 rfl rfl)
theorem dX6_laysSteps_47 : decode cX6_laysSteps 47 = .ok (.iload_n 3, 1) := dk_29 (dk_at dksX6_laysSteps_1 23 rfl rfl)
theorem dX6_laysSteps_48 : decode cX6_laysSteps 48 = .ok (.iaload, 1) := dk_46 (dk_at dksX6_laysSteps_2 0 rfl rfl)
theorem dX6_laysSteps_49 : decode cX6_laysSteps 49 = .ok (.iconst (-1), 1) := dk_2 (dk_at dksX6_laysSteps_2 1 rfl rfl)
theorem dX6_laysSteps_50 : decode cX6_laysSteps 50 = .ok (.if_icmp .eq 6, 3) := dk_159 0 6 (dk_at dksX6_laysSteps_2 2 rfl rfl)
theorem dX6_laysSteps_53 : decode cX6_laysSteps 53 = .ok (.goto 110, 3) := dk_167 0 110 (dk_at dksX6_laysSteps_2 5 rfl rfl)
theorem dX6_laysSteps_56 : decode cX6_laysSteps 56 = .ok (.iload_n 2, 1) := dk_28 (dk_at dksX6_laysSteps_2 8 rfl rfl)
theorem dX6_laysSteps_57 : decode cX6_laysSteps 57 = .ok (.iconst 1, 1) := dk_4 (dk_at dksX6_laysSteps_2 9 rfl rfl)
theorem dX6_laysSteps_58 : decode cX6_laysSteps 58 = .ok (.if_icmp .ne 21, 3) := dk_160 0 21 (dk_at dksX6_laysSteps_2 10 rfl rfl)
theorem dX6_laysSteps_61 : decode cX6_laysSteps 61 = .ok (.aload_n 0, 1) := dk_42 (dk_at dksX6_laysSteps_2 13 rfl rfl)
theorem dX6_laysSteps_62 : decode cX6_laysSteps 62 = .ok (.getfield 87, 3) := dk_180 0 87 (dk_at dksX6_laysSteps_2 14 rfl rfl)
theorem dX6_laysSteps_65 : decode cX6_laysSteps 65 = .ok (.iload_n 3, 1) := dk_29 (dk_at dksX6_laysSteps_2 17 rfl rfl)
theorem dX6_laysSteps_66 : decode cX6_laysSteps 66 = .ok (.iaload, 1) := dk_46 (dk_at dksX6_laysSteps_2 18 rfl rfl)
theorem dX6_laysSteps_67 : decode cX6_laysSteps 67 = .ok (.iload_n 1, 1) := dk_27 (dk_at dksX6_laysSteps_2 19 rfl rfl)
theorem dX6_laysSteps_68 : decode cX6_laysSteps 68 = .ok (.ishr, 1) := dk_122 (dk_at dksX6_laysSteps_2 20 rfl rfl)
theorem dX6_laysSteps_69 : decode cX6_laysSteps 69 = .ok (.iconst 1, 1) := dk_4 (dk_at dksX6_laysSteps_2 21 rfl rfl)
theorem dX6_laysSteps_70 : decode cX6_laysSteps 70 = .ok (.iand, 1) := dk_126 (dk_at dksX6_laysSteps_2 22 rfl rfl)
theorem dX6_laysSteps_71 : decode cX6_laysSteps 71 = .ok (.iconst 1, 1) := dk_4 (dk_at dksX6_laysSteps_2 23 rfl rfl)
theorem dX6_laysSteps_72 : decode cX6_laysSteps 72 = .ok (.if_icmp .ne 7, 3) := dk_160 0 7 (dk_at dksX6_laysSteps_3 0 rfl rfl)
theorem dX6_laysSteps_75 : decode cX6_laysSteps 75 = .ok (.iconst 1, 1) := dk_4 (dk_at dksX6_laysSteps_3 3 rfl rfl)
theorem dX6_laysSteps_76 : decode cX6_laysSteps 76 = .ok (.goto 4, 3) := dk_167 0 4 (dk_at dksX6_laysSteps_3 4 rfl rfl)
theorem dX6_laysSteps_79 : decode cX6_laysSteps 79 = .ok (.iconst 0, 1) := dk_3 (dk_at dksX6_laysSteps_3 7 rfl rfl)
theorem dX6_laysSteps_80 : decode cX6_laysSteps 80 = .ok (.istore 4, 2) := dk_54 4 (dk_at dksX6_laysSteps_3 8 rfl rfl)
theorem dX6_laysSteps_82 : decode cX6_laysSteps 82 = .ok (.iconst 0, 1) := dk_3 (dk_at dksX6_laysSteps_3 10 rfl rfl)
theorem dX6_laysSteps_83 : decode cX6_laysSteps 83 = .ok (.istore 5, 2) := dk_54 5 (dk_at dksX6_laysSteps_3 11 rfl rfl)
theorem dX6_laysSteps_85 : decode cX6_laysSteps 85 = .ok (.iload 5, 2) := dk_21 5 (dk_at dksX6_laysSteps_3 13 rfl rfl)
theorem dX6_laysSteps_87 : decode cX6_laysSteps 87 = .ok (.aload_n 0, 1) := dk_42 (dk_at dksX6_laysSteps_3 15 rfl rfl)
theorem dX6_laysSteps_88 : decode cX6_laysSteps 88 = .ok (.invokevirtual 248, 3) := dk_182 0 248 (dk_at dksX6_laysSteps_3 16 rfl rfl)
theorem dX6_laysSteps_91 : decode cX6_laysSteps 91 = .ok (.if_icmp .ge 60, 3) := dk_162 0 60 (dk_at dksX6_laysSteps_3 19 rfl rfl)
theorem dX6_laysSteps_94 : decode cX6_laysSteps 94 = .ok (.iload_n 2, 1) := dk_28 (dk_at dksX6_laysSteps_3 22 rfl rfl)
theorem dX6_laysSteps_95 : decode cX6_laysSteps 95 = .ok (.iconst 1, 1) := dk_4 (dk_at dksX6_laysSteps_3 23 rfl rfl)
theorem dX6_laysSteps_96 : decode cX6_laysSteps 96 = .ok (.if_icmp .le 55, 3) := dk_164 0 55 (dk_at dksX6_laysSteps_4 0 rfl rfl)
theorem dX6_laysSteps_99 : decode cX6_laysSteps 99 = .ok (.iload 4, 2) := dk_21 4 (dk_at dksX6_laysSteps_4 3 rfl rfl)
theorem dX6_laysSteps_101 : decode cX6_laysSteps 101 = .ok (.ifCond .ne 37, 3) := dk_154 0 37 (dk_at dksX6_laysSteps_4 5 rfl rfl)
theorem dX6_laysSteps_104 : decode cX6_laysSteps 104 = .ok (.aload_n 0, 1) := dk_42 (dk_at dksX6_laysSteps_4 8 rfl rfl)
theorem dX6_laysSteps_105 : decode cX6_laysSteps 105 = .ok (.getfield 87, 3) := dk_180 0 87 (dk_at dksX6_laysSteps_4 9 rfl rfl)
theorem dX6_laysSteps_108 : decode cX6_laysSteps 108 = .ok (.iload_n 3, 1) := dk_29 (dk_at dksX6_laysSteps_4 12 rfl rfl)
theorem dX6_laysSteps_109 : decode cX6_laysSteps 109 = .ok (.iaload, 1) := dk_46 (dk_at dksX6_laysSteps_4 13 rfl rfl)
theorem dX6_laysSteps_110 : decode cX6_laysSteps 110 = .ok (.iload 5, 2) := dk_21 5 (dk_at dksX6_laysSteps_4 14 rfl rfl)
theorem dX6_laysSteps_112 : decode cX6_laysSteps 112 = .ok (.ishr, 1) := dk_122 (dk_at dksX6_laysSteps_4 16 rfl rfl)
theorem dX6_laysSteps_113 : decode cX6_laysSteps 113 = .ok (.iconst 1, 1) := dk_4 (dk_at dksX6_laysSteps_4 17 rfl rfl)
theorem dX6_laysSteps_114 : decode cX6_laysSteps 114 = .ok (.iand, 1) := dk_126 (dk_at dksX6_laysSteps_4 18 rfl rfl)
theorem dX6_laysSteps_115 : decode cX6_laysSteps 115 = .ok (.iconst 1, 1) := dk_4 (dk_at dksX6_laysSteps_4 19 rfl rfl)
theorem dX6_laysSteps_116 : decode cX6_laysSteps 116 = .ok (.if_icmp .ne 26, 3) := dk_160 0 26 (dk_at dksX6_laysSteps_4 20 rfl rfl)
theorem dX6_laysSteps_119 : decode cX6_laysSteps 119 = .ok (.iload 5, 2) := dk_21 5 (dk_at dksX6_laysSteps_5 0 rfl rfl)
theorem dX6_laysSteps_121 : decode cX6_laysSteps 121 = .ok (.iload_n 1, 1) := dk_27 (dk_at dksX6_laysSteps_5 2 rfl rfl)
theorem dX6_laysSteps_122 : decode cX6_laysSteps 122 = .ok (.if_icmp .eq 20, 3) := dk_159 0 20 (dk_at dksX6_laysSteps_5 3 rfl rfl)
theorem dX6_laysSteps_125 : decode cX6_laysSteps 125 = .ok (.aload_n 0, 1) := dk_42 (dk_at dksX6_laysSteps_5 6 rfl rfl)
theorem dX6_laysSteps_126 : decode cX6_laysSteps 126 = .ok (.getfield 90, 3) := dk_180 0 90 (dk_at dksX6_laysSteps_5 7 rfl rfl)
theorem dX6_laysSteps_129 : decode cX6_laysSteps 129 = .ok (.iload 5, 2) := dk_21 5 (dk_at dksX6_laysSteps_5 10 rfl rfl)
theorem dX6_laysSteps_131 : decode cX6_laysSteps 131 = .ok (.iaload, 1) := dk_46 (dk_at dksX6_laysSteps_5 12 rfl rfl)
theorem dX6_laysSteps_132 : decode cX6_laysSteps 132 = .ok (.iload_n 2, 1) := dk_28 (dk_at dksX6_laysSteps_5 13 rfl rfl)
theorem dX6_laysSteps_133 : decode cX6_laysSteps 133 = .ok (.iconst 1, 1) := dk_4 (dk_at dksX6_laysSteps_5 14 rfl rfl)
theorem dX6_laysSteps_134 : decode cX6_laysSteps 134 = .ok (.isub, 1) := dk_100 (dk_at dksX6_laysSteps_5 15 rfl rfl)
theorem dX6_laysSteps_135 : decode cX6_laysSteps 135 = .ok (.if_icmp .ne 7, 3) := dk_160 0 7 (dk_at dksX6_laysSteps_5 16 rfl rfl)
theorem dX6_laysSteps_138 : decode cX6_laysSteps 138 = .ok (.iconst 1, 1) := dk_4 (dk_at dksX6_laysSteps_5 19 rfl rfl)
theorem dX6_laysSteps_139 : decode cX6_laysSteps 139 = .ok (.goto 4, 3) := dk_167 0 4 (dk_at dksX6_laysSteps_5 20 rfl rfl)
theorem dX6_laysSteps_142 : decode cX6_laysSteps 142 = .ok (.iconst 0, 1) := dk_3 (dk_at dksX6_laysSteps_5 23 rfl rfl)
theorem dX6_laysSteps_143 : decode cX6_laysSteps 143 = .ok (.istore 4, 2) := dk_54 4 (dk_at dksX6_laysSteps_6 0 rfl rfl)
theorem dX6_laysSteps_145 : decode cX6_laysSteps 145 = .ok (.iinc 5 1, 3) := dk_132 5 1 (dk_at dksX6_laysSteps_6 2 rfl rfl)
theorem dX6_laysSteps_148 : decode cX6_laysSteps 148 = .ok (.goto (-63), 3) := dk_167 255 193 (dk_at dksX6_laysSteps_6 5 rfl rfl)
theorem dX6_laysSteps_151 : decode cX6_laysSteps 151 = .ok (.iload 4, 2) := dk_21 4 (dk_at dksX6_laysSteps_6 8 rfl rfl)
theorem dX6_laysSteps_153 : decode cX6_laysSteps 153 = .ok (.ifCond .eq 10, 3) := dk_153 0 10 (dk_at dksX6_laysSteps_6 10 rfl rfl)
theorem dX6_laysSteps_156 : decode cX6_laysSteps 156 = .ok (.aload_n 0, 1) := dk_42 (dk_at dksX6_laysSteps_6 13 rfl rfl)
theorem dX6_laysSteps_157 : decode cX6_laysSteps 157 = .ok (.getfield 90, 3) := dk_180 0 90 (dk_at dksX6_laysSteps_6 14 rfl rfl)
theorem dX6_laysSteps_160 : decode cX6_laysSteps 160 = .ok (.iload_n 3, 1) := dk_29 (dk_at dksX6_laysSteps_6 17 rfl rfl)
theorem dX6_laysSteps_161 : decode cX6_laysSteps 161 = .ok (.iload_n 2, 1) := dk_28 (dk_at dksX6_laysSteps_6 18 rfl rfl)
theorem dX6_laysSteps_162 : decode cX6_laysSteps 162 = .ok (.iastore, 1) := dk_79 (dk_at dksX6_laysSteps_6 19 rfl rfl)
theorem dX6_laysSteps_163 : decode cX6_laysSteps 163 = .ok (.iinc 3 1, 3) := dk_132 3 1 (dk_at dksX6_laysSteps_6 20 rfl rfl)
theorem dX6_laysSteps_166 : decode cX6_laysSteps 166 = .ok (.goto (-131), 3) := dk_167 255 125 (dk_at dksX6_laysSteps_7 0 rfl rfl)
theorem dX6_laysSteps_169 : decode cX6_laysSteps 169 = .ok (.iinc 2 1, 3) := dk_132 2 1 (dk_at dksX6_laysSteps_7 3 rfl rfl)
theorem dX6_laysSteps_172 : decode cX6_laysSteps 172 = .ok (.goto (-147), 3) := dk_167 255 109 (dk_at dksX6_laysSteps_7 6 rfl rfl)
theorem dX6_laysSteps_175 : decode cX6_laysSteps 175 = .ok (.return_, 1) := dk_177 (dk_at dksX6_laysSteps_7 9 rfl rfl)
abbrev cX6_cycle : ByteArray := prog_18_method_84_code
def yX6_cycle : MethodName := ⟨RX6, "cycle", "(I)I"⟩
def dkwX6_cycle_1 : List UInt8 := [180, 0, 93, 27, 46, 167, 0, 5, 16, 254, 172]
abbrev dktX6_cycle_1 : List UInt8 := dkwX6_cycle_1 ++ []
def dkwX6_cycle_0 : List UInt8 := [42, 3, 181, 0, 115, 27, 156, 0, 5, 2, 172, 42, 182, 1, 93, 27, 42, 180, 1, 90, 162, 0, 12, 42]
abbrev dktX6_cycle_0 : List UInt8 := dkwX6_cycle_0 ++ dktX6_cycle_1
theorem dksX6_cycle_0 : cX6_cycle.data.toList.drop 0 = dktX6_cycle_0 := by decide +kernel
theorem dksX6_cycle_1 : cX6_cycle.data.toList.drop 24 = dktX6_cycle_1 := dk_seg dksX6_cycle_0 24 rfl rfl
theorem dX6_cycle_0 : decode cX6_cycle 0 = .ok (.aload_n 0, 1) := dk_42 (dk_at dksX6_cycle_0 0 rfl rfl)
theorem dX6_cycle_1 : decode cX6_cycle 1 = .ok (.iconst 0, 1) := dk_3 (dk_at dksX6_cycle_0 1 rfl rfl)
theorem dX6_cycle_2 : decode cX6_cycle 2 = .ok (.putfield 115, 3) := dk_181 0 115 (dk_at dksX6_cycle_0 2 rfl rfl)
theorem dX6_cycle_5 : decode cX6_cycle 5 = .ok (.iload_n 1, 1) := dk_27 (dk_at dksX6_cycle_0 5 rfl rfl)
theorem dX6_cycle_6 : decode cX6_cycle 6 = .ok (.ifCond .ge 5, 3) := dk_156 0 5 (dk_at dksX6_cycle_0 6 rfl rfl)
theorem dX6_cycle_9 : decode cX6_cycle 9 = .ok (.iconst (-1), 1) := dk_2 (dk_at dksX6_cycle_0 9 rfl rfl)
theorem dX6_cycle_10 : decode cX6_cycle 10 = .ok (.ireturn, 1) := dk_172 (dk_at dksX6_cycle_0 10 rfl rfl)
theorem dX6_cycle_11 : decode cX6_cycle 11 = .ok (.aload_n 0, 1) := dk_42 (dk_at dksX6_cycle_0 11 rfl rfl)
theorem dX6_cycle_12 : decode cX6_cycle 12 = .ok (.invokevirtual 349, 3) := dk_182 1 93 (dk_at dksX6_cycle_0 12 rfl rfl)
theorem dX6_cycle_15 : decode cX6_cycle 15 = .ok (.iload_n 1, 1) := dk_27 (dk_at dksX6_cycle_0 15 rfl rfl)
theorem dX6_cycle_16 : decode cX6_cycle 16 = .ok (.aload_n 0, 1) := dk_42 (dk_at dksX6_cycle_0 16 rfl rfl)
theorem dX6_cycle_17 : decode cX6_cycle 17 = .ok (.getfield 346, 3) := dk_180 1 90 (dk_at dksX6_cycle_0 17 rfl rfl)
theorem dX6_cycle_20 : decode cX6_cycle 20 = .ok (.if_icmp .ge 12, 3) := dk_162 0 12 (dk_at dksX6_cycle_0 20 rfl rfl)
theorem dX6_cycle_23 : decode cX6_cycle 23 = .ok (.aload_n 0, 1) := dk_42 (dk_at dksX6_cycle_0 23 rfl rfl)
theorem dX6_cycle_24 : decode cX6_cycle 24 = .ok (.getfield 93, 3) := dk_180 0 93 (dk_at dksX6_cycle_1 0 rfl rfl)
theorem dX6_cycle_27 : decode cX6_cycle 27 = .ok (.iload_n 1, 1) := dk_27 (dk_at dksX6_cycle_1 3 rfl rfl)
theorem dX6_cycle_28 : decode cX6_cycle 28 = .ok (.iaload, 1) := dk_46 (dk_at dksX6_cycle_1 4 rfl rfl)
theorem dX6_cycle_29 : decode cX6_cycle 29 = .ok (.goto 5, 3) := dk_167 0 5 (dk_at dksX6_cycle_1 5 rfl rfl)
theorem dX6_cycle_32 : decode cX6_cycle 32 = .ok (.bipush (-2), 2) := dk_16 254 (dk_at dksX6_cycle_1 8 rfl rfl)
theorem dX6_cycle_34 : decode cX6_cycle 34 = .ok (.ireturn, 1) := dk_172 (dk_at dksX6_cycle_1 10 rfl rfl)
abbrev cX6_laysCycle : ByteArray := prog_18_method_83_code
def yX6_laysCycle : MethodName := ⟨RX6, "laysCycle", "()V"⟩
def dkwX6_laysCycle_5 : List UInt8 := [100, 4, 100, 159, 0, 9, 132, 5, 1, 167, 255, 203, 21, 5, 62, 132, 4, 1, 167, 255, 174, 177]
abbrev dktX6_laysCycle_5 : List UInt8 := dkwX6_laysCycle_5 ++ []
def dkwX6_laysCycle_4 : List UInt8 := [4, 126, 153, 0, 28, 21, 5, 28, 159, 0, 22, 42, 180, 0, 90, 21, 5, 46, 42, 180, 1, 90, 21, 4]
abbrev dktX6_laysCycle_4 : List UInt8 := dkwX6_laysCycle_4 ++ dktX6_laysCycle_5
def dkwX6_laysCycle_3 : List UInt8 := [79, 3, 54, 5, 21, 4, 4, 96, 42, 180, 1, 90, 162, 0, 48, 42, 180, 0, 87, 29, 46, 21, 5, 122]
abbrev dktX6_laysCycle_3 : List UInt8 := dkwX6_laysCycle_3 ++ dktX6_laysCycle_4
def dkwX6_laysCycle_2 : List UInt8 := [181, 1, 90, 28, 62, 3, 54, 4, 21, 4, 42, 180, 1, 90, 162, 0, 79, 42, 180, 0, 93, 21, 4, 29]
abbrev dktX6_laysCycle_2 : List UInt8 := dkwX6_laysCycle_2 ++ dktX6_laysCycle_3
def dkwX6_laysCycle_1 : List UInt8 := [122, 4, 126, 154, 0, 9, 132, 2, 1, 167, 255, 245, 42, 28, 182, 1, 84, 42, 42, 180, 0, 90, 28, 46]
abbrev dktX6_laysCycle_1 : List UInt8 := dkwX6_laysCycle_1 ++ dktX6_laysCycle_2
def dkwX6_laysCycle_0 : List UInt8 := [42, 3, 182, 1, 80, 42, 3, 181, 1, 90, 42, 182, 1, 87, 60, 27, 154, 0, 4, 177, 3, 61, 27, 28]
abbrev dktX6_laysCycle_0 : List UInt8 := dkwX6_laysCycle_0 ++ dktX6_laysCycle_1
theorem dksX6_laysCycle_0 : cX6_laysCycle.data.toList.drop 0 = dktX6_laysCycle_0 := by decide +kernel
theorem dksX6_laysCycle_1 : cX6_laysCycle.data.toList.drop 24 = dktX6_laysCycle_1 := dk_seg dksX6_laysCycle_0 24 rfl rfl
theorem dksX6_laysCycle_2 : cX6_laysCycle.data.toList.drop 48 = dktX6_laysCycle_2 := dk_seg dksX6_laysCycle_1 24 rfl rfl
theorem dksX6_laysCycle_3 : cX6_laysCycle.data.toList.drop 72 = dktX6_laysCycle_3 := dk_seg dksX6_laysCycle_2 24 rfl rfl
theorem dksX6_laysCycle_4 : cX6_laysCycle.data.toList.drop 96 = dktX6_laysCycle_4 := dk_seg dksX6_laysCycle_3 24 rfl rfl
theorem dksX6_laysCycle_5 : cX6_laysCycle.data.toList.drop 120 = dktX6_laysCycle_5 := dk_seg dksX6_laysCycle_4 24 rfl rfl
theorem dX6_laysCycle_0 : decode cX6_laysCycle 0 = .ok (.aload_n 0, 1) := dk_42 (dk_at dksX6_laysCycle_0 0 rfl rfl)
theorem dX6_laysCycle_1 : decode cX6_laysCycle 1 = .ok (.iconst 0, 1) := dk_3 (dk_at dksX6_laysCycle_0 1 rfl rfl)
theorem dX6_laysCycle_2 : decode cX6_laysCycle 2 = .ok (.invokevirtual 336, 3) := dk_182 1 80 (dk_at dksX6_laysCycle_0 2 rfl rfl)
theorem dX6_laysCycle_5 : decode cX6_laysCycle 5 = .ok (.aload_n 0, 1) := dk_42 (dk_at dksX6_laysCycle_0 5 rfl rfl)
theorem dX6_laysCycle_6 : decode cX6_laysCycle 6 = .ok (.iconst 0, 1) := dk_3 (dk_at dksX6_laysCycle_0 6 rfl rfl)
theorem dX6_laysCycle_7 : decode cX6_laysCycle 7 = .ok (.putfield 346, 3) := dk_181 1 90 (dk_at dksX6_laysCycle_0 7 rfl rfl)
theorem dX6_laysCycle_10 : decode cX6_laysCycle 10 = .ok (.aload_n 0, 1) := dk_42 (dk_at dksX6_laysCycle_0 10 rfl rfl)
theorem dX6_laysCycle_11 : decode cX6_laysCycle 11 = .ok (.invokevirtual 343, 3) := dk_182 1 87 (dk_at dksX6_laysCycle_0 11 rfl rfl)
theorem dX6_laysCycle_14 : decode cX6_laysCycle 14 = .ok (.istore_n 1, 1) := dk_60 (dk_at dksX6_laysCycle_0 14 rfl rfl)
theorem dX6_laysCycle_15 : decode cX6_laysCycle 15 = .ok (.iload_n 1, 1) := dk_27 (dk_at dksX6_laysCycle_0 15 rfl rfl)
theorem dX6_laysCycle_16 : decode cX6_laysCycle 16 = .ok (.ifCond .ne 4, 3) := dk_154 0 4 (dk_at dksX6_laysCycle_0 16 rfl rfl)
theorem dX6_laysCycle_19 : decode cX6_laysCycle 19 = .ok (.return_, 1) := dk_177 (dk_at dksX6_laysCycle_0 19 rfl rfl)
theorem dX6_laysCycle_20 : decode cX6_laysCycle 20 = .ok (.iconst 0, 1) := dk_3 (dk_at dksX6_laysCycle_0 20 rfl rfl)
theorem dX6_laysCycle_21 : decode cX6_laysCycle 21 = .ok (.istore_n 2, 1) := dk_61 (dk_at dksX6_laysCycle_0 21 rfl rfl)
theorem dX6_laysCycle_22 : decode cX6_laysCycle 22 = .ok (.iload_n 1, 1) := dk_27 (dk_at dksX6_laysCycle_0 22 rfl rfl)
theorem dX6_laysCycle_23 : decode cX6_laysCycle 23 = .ok (.iload_n 2, 1) := dk_28 (dk_at dksX6_laysCycle_0 23 rfl rfl)
theorem dX6_laysCycle_24 : decode cX6_laysCycle 24 = .ok (.ishr, 1) := dk_122 (dk_at dksX6_laysCycle_1 0 rfl rfl)
theorem dX6_laysCycle_25 : decode cX6_laysCycle 25 = .ok (.iconst 1, 1) := dk_4 (dk_at dksX6_laysCycle_1 1 rfl rfl)
theorem dX6_laysCycle_26 : decode cX6_laysCycle 26 = .ok (.iand, 1) := dk_126 (dk_at dksX6_laysCycle_1 2 rfl rfl)
theorem dX6_laysCycle_27 : decode cX6_laysCycle 27 = .ok (.ifCond .ne 9, 3) := dk_154 0 9 (dk_at dksX6_laysCycle_1 3 rfl rfl)
theorem dX6_laysCycle_30 : decode cX6_laysCycle 30 = .ok (.iinc 2 1, 3) := dk_132 2 1 (dk_at dksX6_laysCycle_1 6 rfl rfl)
theorem dX6_laysCycle_33 : decode cX6_laysCycle 33 = .ok (.goto (-11), 3) := dk_167 255 245 (dk_at dksX6_laysCycle_1 9 rfl rfl)
theorem dX6_laysCycle_36 : decode cX6_laysCycle 36 = .ok (.aload_n 0, 1) := dk_42 (dk_at dksX6_laysCycle_1 12 rfl rfl)
theorem dX6_laysCycle_37 : decode cX6_laysCycle 37 = .ok (.iload_n 2, 1) := dk_28 (dk_at dksX6_laysCycle_1 13 rfl rfl)
theorem dX6_laysCycle_38 : decode cX6_laysCycle 38 = .ok (.invokevirtual 340, 3) := dk_182 1 84 (dk_at dksX6_laysCycle_1 14 rfl rfl)
theorem dX6_laysCycle_41 : decode cX6_laysCycle 41 = .ok (.aload_n 0, 1) := dk_42 (dk_at dksX6_laysCycle_1 17 rfl rfl)
theorem dX6_laysCycle_42 : decode cX6_laysCycle 42 = .ok (.aload_n 0, 1) := dk_42 (dk_at dksX6_laysCycle_1 18 rfl rfl)
theorem dX6_laysCycle_43 : decode cX6_laysCycle 43 = .ok (.getfield 90, 3) := dk_180 0 90 (dk_at dksX6_laysCycle_1 19 rfl rfl)
theorem dX6_laysCycle_46 : decode cX6_laysCycle 46 = .ok (.iload_n 2, 1) := dk_28 (dk_at dksX6_laysCycle_1 22 rfl rfl)
theorem dX6_laysCycle_47 : decode cX6_laysCycle 47 = .ok (.iaload, 1) := dk_46 (dk_at dksX6_laysCycle_1 23 rfl rfl)
theorem dX6_laysCycle_48 : decode cX6_laysCycle 48 = .ok (.putfield 346, 3) := dk_181 1 90 (dk_at dksX6_laysCycle_2 0 rfl rfl)
theorem dX6_laysCycle_51 : decode cX6_laysCycle 51 = .ok (.iload_n 2, 1) := dk_28 (dk_at dksX6_laysCycle_2 3 rfl rfl)
theorem dX6_laysCycle_52 : decode cX6_laysCycle 52 = .ok (.istore_n 3, 1) := dk_62 (dk_at dksX6_laysCycle_2 4 rfl rfl)
theorem dX6_laysCycle_53 : decode cX6_laysCycle 53 = .ok (.iconst 0, 1) := dk_3 (dk_at dksX6_laysCycle_2 5 rfl rfl)
theorem dX6_laysCycle_54 : decode cX6_laysCycle 54 = .ok (.istore 4, 2) := dk_54 4 (dk_at dksX6_laysCycle_2 6 rfl rfl)
theorem dX6_laysCycle_56 : decode cX6_laysCycle 56 = .ok (.iload 4, 2) := dk_21 4 (dk_at dksX6_laysCycle_2 8 rfl rfl)
theorem dX6_laysCycle_58 : decode cX6_laysCycle 58 = .ok (.aload_n 0, 1) := dk_42 (dk_at dksX6_laysCycle_2 10 rfl rfl)
theorem dX6_laysCycle_59 : decode cX6_laysCycle 59 = .ok (.getfield 346, 3) := dk_180 1 90 (dk_at dksX6_laysCycle_2 11 rfl rfl)
theorem dX6_laysCycle_62 : decode cX6_laysCycle 62 = .ok (.if_icmp .ge 79, 3) := dk_162 0 79 (dk_at dksX6_laysCycle_2 14 rfl rfl)
theorem dX6_laysCycle_65 : decode cX6_laysCycle 65 = .ok (.aload_n 0, 1) := dk_42 (dk_at dksX6_laysCycle_2 17 rfl rfl)
theorem dX6_laysCycle_66 : decode cX6_laysCycle 66 = .ok (.getfield 93, 3) := dk_180 0 93 (dk_at dksX6_laysCycle_2 18 rfl rfl)
theorem dX6_laysCycle_69 : decode cX6_laysCycle 69 = .ok (.iload 4, 2) := dk_21 4 (dk_at dksX6_laysCycle_2 21 rfl rfl)
theorem dX6_laysCycle_71 : decode cX6_laysCycle 71 = .ok (.iload_n 3, 1) := dk_29 (dk_at dksX6_laysCycle_2 23 rfl rfl)
theorem dX6_laysCycle_72 : decode cX6_laysCycle 72 = .ok (.iastore, 1) := dk_79 (dk_at dksX6_laysCycle_3 0 rfl rfl)
theorem dX6_laysCycle_73 : decode cX6_laysCycle 73 = .ok (.iconst 0, 1) := dk_3 (dk_at dksX6_laysCycle_3 1 rfl rfl)
theorem dX6_laysCycle_74 : decode cX6_laysCycle 74 = .ok (.istore 5, 2) := dk_54 5 (dk_at dksX6_laysCycle_3 2 rfl rfl)
theorem dX6_laysCycle_76 : decode cX6_laysCycle 76 = .ok (.iload 4, 2) := dk_21 4 (dk_at dksX6_laysCycle_3 4 rfl rfl)
theorem dX6_laysCycle_78 : decode cX6_laysCycle 78 = .ok (.iconst 1, 1) := dk_4 (dk_at dksX6_laysCycle_3 6 rfl rfl)
theorem dX6_laysCycle_79 : decode cX6_laysCycle 79 = .ok (.iadd, 1) := dk_96 (dk_at dksX6_laysCycle_3 7 rfl rfl)
theorem dX6_laysCycle_80 : decode cX6_laysCycle 80 = .ok (.aload_n 0, 1) := dk_42 (dk_at dksX6_laysCycle_3 8 rfl rfl)
theorem dX6_laysCycle_81 : decode cX6_laysCycle 81 = .ok (.getfield 346, 3) := dk_180 1 90 (dk_at dksX6_laysCycle_3 9 rfl rfl)
theorem dX6_laysCycle_84 : decode cX6_laysCycle 84 = .ok (.if_icmp .ge 48, 3) := dk_162 0 48 (dk_at dksX6_laysCycle_3 12 rfl rfl)
theorem dX6_laysCycle_87 : decode cX6_laysCycle 87 = .ok (.aload_n 0, 1) := dk_42 (dk_at dksX6_laysCycle_3 15 rfl rfl)
theorem dX6_laysCycle_88 : decode cX6_laysCycle 88 = .ok (.getfield 87, 3) := dk_180 0 87 (dk_at dksX6_laysCycle_3 16 rfl rfl)
theorem dX6_laysCycle_91 : decode cX6_laysCycle 91 = .ok (.iload_n 3, 1) := dk_29 (dk_at dksX6_laysCycle_3 19 rfl rfl)
theorem dX6_laysCycle_92 : decode cX6_laysCycle 92 = .ok (.iaload, 1) := dk_46 (dk_at dksX6_laysCycle_3 20 rfl rfl)
theorem dX6_laysCycle_93 : decode cX6_laysCycle 93 = .ok (.iload 5, 2) := dk_21 5 (dk_at dksX6_laysCycle_3 21 rfl rfl)
theorem dX6_laysCycle_95 : decode cX6_laysCycle 95 = .ok (.ishr, 1) := dk_122 (dk_at dksX6_laysCycle_3 23 rfl rfl)
theorem dX6_laysCycle_96 : decode cX6_laysCycle 96 = .ok (.iconst 1, 1) := dk_4 (dk_at dksX6_laysCycle_4 0 rfl rfl)
theorem dX6_laysCycle_97 : decode cX6_laysCycle 97 = .ok (.iand, 1) := dk_126 (dk_at dksX6_laysCycle_4 1 rfl rfl)
theorem dX6_laysCycle_98 : decode cX6_laysCycle 98 = .ok (.ifCond .eq 28, 3) := dk_153 0 28 (dk_at dksX6_laysCycle_4 2 rfl rfl)
theorem dX6_laysCycle_101 : decode cX6_laysCycle 101 = .ok (.iload 5, 2) := dk_21 5 (dk_at dksX6_laysCycle_4 5 rfl rfl)
theorem dX6_laysCycle_103 : decode cX6_laysCycle 103 = .ok (.iload_n 2, 1) := dk_28 (dk_at dksX6_laysCycle_4 7 rfl rfl)
theorem dX6_laysCycle_104 : decode cX6_laysCycle 104 = .ok (.if_icmp .eq 22, 3) := dk_159 0 22 (dk_at dksX6_laysCycle_4 8 rfl rfl)
theorem dX6_laysCycle_107 : decode cX6_laysCycle 107 = .ok (.aload_n 0, 1) := dk_42 (dk_at dksX6_laysCycle_4 11 rfl rfl)
theorem dX6_laysCycle_108 : decode cX6_laysCycle 108 = .ok (.getfield 90, 3) := dk_180 0 90 (dk_at dksX6_laysCycle_4 12 rfl rfl)
theorem dX6_laysCycle_111 : decode cX6_laysCycle 111 = .ok (.iload 5, 2) := dk_21 5 (dk_at dksX6_laysCycle_4 15 rfl rfl)
theorem dX6_laysCycle_113 : decode cX6_laysCycle 113 = .ok (.iaload, 1) := dk_46 (dk_at dksX6_laysCycle_4 17 rfl rfl)
theorem dX6_laysCycle_114 : decode cX6_laysCycle 114 = .ok (.aload_n 0, 1) := dk_42 (dk_at dksX6_laysCycle_4 18 rfl rfl)
theorem dX6_laysCycle_115 : decode cX6_laysCycle 115 = .ok (.getfield 346, 3) := dk_180 1 90 (dk_at dksX6_laysCycle_4 19 rfl rfl)
theorem dX6_laysCycle_118 : decode cX6_laysCycle 118 = .ok (.iload 4, 2) := dk_21 4 (dk_at dksX6_laysCycle_4 22 rfl rfl)
theorem dX6_laysCycle_120 : decode cX6_laysCycle 120 = .ok (.isub, 1) := dk_100 (dk_at dksX6_laysCycle_5 0 rfl rfl)
theorem dX6_laysCycle_121 : decode cX6_laysCycle 121 = .ok (.iconst 1, 1) := dk_4 (dk_at dksX6_laysCycle_5 1 rfl rfl)
theorem dX6_laysCycle_122 : decode cX6_laysCycle 122 = .ok (.isub, 1) := dk_100 (dk_at dksX6_laysCycle_5 2 rfl rfl)
theorem dX6_laysCycle_123 : decode cX6_laysCycle 123 = .ok (.if_icmp .eq 9, 3) := dk_159 0 9 (dk_at dksX6_laysCycle_5 3 rfl rfl)
theorem dX6_laysCycle_126 : decode cX6_laysCycle 126 = .ok (.iinc 5 1, 3) := dk_132 5 1 (dk_at dksX6_laysCycle_5 6 rfl rfl)
theorem dX6_laysCycle_129 : decode cX6_laysCycle 129 = .ok (.goto (-53), 3) := dk_167 255 203 (dk_at dksX6_laysCycle_5 9 rfl rfl)
theorem dX6_laysCycle_132 : decode cX6_laysCycle 132 = .ok (.iload 5, 2) := dk_21 5 (dk_at dksX6_laysCycle_5 12 rfl rfl)
theorem dX6_laysCycle_134 : decode cX6_laysCycle 134 = .ok (.istore_n 3, 1) := dk_62 (dk_at dksX6_laysCycle_5 14 rfl rfl)
theorem dX6_laysCycle_135 : decode cX6_laysCycle 135 = .ok (.iinc 4 1, 3) := dk_132 4 1 (dk_at dksX6_laysCycle_5 15 rfl rfl)
theorem dX6_laysCycle_138 : decode cX6_laysCycle 138 = .ok (.goto (-82), 3) := dk_167 255 174 (dk_at dksX6_laysCycle_5 18 rfl rfl)
theorem dX6_laysCycle_141 : decode cX6_laysCycle 141 = .ok (.return_, 1) := dk_177 (dk_at dksX6_laysCycle_5 21 rfl rfl)
abbrev cX6_witness : ByteArray := prog_18_method_85_code
def yX6_witness : MethodName := ⟨RX6, "witness", "(I)I"⟩
def dkwX6_witness_2 : List UInt8 := [27, 46, 29, 28, 182, 1, 76, 154, 0, 9, 132, 3, 1, 167, 255, 238, 29, 172]
abbrev dktX6_witness_2 : List UInt8 := dkwX6_witness_2 ++ []
def dkwX6_witness_1 : List UInt8 := [16, 254, 172, 42, 180, 0, 93, 27, 4, 96, 42, 180, 1, 90, 112, 46, 61, 3, 62, 42, 42, 180, 0, 93]
abbrev dktX6_witness_1 : List UInt8 := dkwX6_witness_1 ++ dktX6_witness_2
def dkwX6_witness_0 : List UInt8 := [42, 3, 181, 0, 115, 27, 156, 0, 5, 2, 172, 42, 182, 1, 93, 27, 42, 180, 1, 90, 161, 0, 6]
abbrev dktX6_witness_0 : List UInt8 := dkwX6_witness_0 ++ dktX6_witness_1
theorem dksX6_witness_0 : cX6_witness.data.toList.drop 0 = dktX6_witness_0 := by decide +kernel
theorem dksX6_witness_1 : cX6_witness.data.toList.drop 23 = dktX6_witness_1 := dk_seg dksX6_witness_0 23 rfl rfl
theorem dksX6_witness_2 : cX6_witness.data.toList.drop 47 = dktX6_witness_2 := dk_seg dksX6_witness_1 24 rfl rfl
theorem dX6_witness_0 : decode cX6_witness 0 = .ok (.aload_n 0, 1) := dk_42 (dk_at dksX6_witness_0 0 rfl rfl)
theorem dX6_witness_1 : decode cX6_witness 1 = .ok (.iconst 0, 1) := dk_3 (dk_at dksX6_witness_0 1 rfl rfl)
theorem dX6_witness_2 : decode cX6_witness 2 = .ok (.putfield 115, 3) := dk_181 0 115 (dk_at dksX6_witness_0 2 rfl rfl)
theorem dX6_witness_5 : decode cX6_witness 5 = .ok (.iload_n 1, 1) := dk_27 (dk_at dksX6_witness_0 5 rfl rfl)
theorem dX6_witness_6 : decode cX6_witness 6 = .ok (.ifCond .ge 5, 3) := dk_156 0 5 (dk_at dksX6_witness_0 6 rfl rfl)
theorem dX6_witness_9 : decode cX6_witness 9 = .ok (.iconst (-1), 1) := dk_2 (dk_at dksX6_witness_0 9 rfl rfl)
theorem dX6_witness_10 : decode cX6_witness 10 = .ok (.ireturn, 1) := dk_172 (dk_at dksX6_witness_0 10 rfl rfl)
theorem dX6_witness_11 : decode cX6_witness 11 = .ok (.aload_n 0, 1) := dk_42 (dk_at dksX6_witness_0 11 rfl rfl)
theorem dX6_witness_12 : decode cX6_witness 12 = .ok (.invokevirtual 349, 3) := dk_182 1 93 (dk_at dksX6_witness_0 12 rfl rfl)
theorem dX6_witness_15 : decode cX6_witness 15 = .ok (.iload_n 1, 1) := dk_27 (dk_at dksX6_witness_0 15 rfl rfl)
theorem dX6_witness_16 : decode cX6_witness 16 = .ok (.aload_n 0, 1) := dk_42 (dk_at dksX6_witness_0 16 rfl rfl)
theorem dX6_witness_17 : decode cX6_witness 17 = .ok (.getfield 346, 3) := dk_180 1 90 (dk_at dksX6_witness_0 17 rfl rfl)
theorem dX6_witness_20 : decode cX6_witness 20 = .ok (.if_icmp .lt 6, 3) := dk_161 0 6 (dk_at dksX6_witness_0 20 rfl rfl)
theorem dX6_witness_23 : decode cX6_witness 23 = .ok (.bipush (-2), 2) := dk_16 254 (dk_at dksX6_witness_1 0 rfl rfl)
theorem dX6_witness_25 : decode cX6_witness 25 = .ok (.ireturn, 1) := dk_172 (dk_at dksX6_witness_1 2 rfl rfl)
theorem dX6_witness_26 : decode cX6_witness 26 = .ok (.aload_n 0, 1) := dk_42 (dk_at dksX6_witness_1 3 rfl rfl)
theorem dX6_witness_27 : decode cX6_witness 27 = .ok (.getfield 93, 3) := dk_180 0 93 (dk_at dksX6_witness_1 4 rfl rfl)
theorem dX6_witness_30 : decode cX6_witness 30 = .ok (.iload_n 1, 1) := dk_27 (dk_at dksX6_witness_1 7 rfl rfl)
theorem dX6_witness_31 : decode cX6_witness 31 = .ok (.iconst 1, 1) := dk_4 (dk_at dksX6_witness_1 8 rfl rfl)
theorem dX6_witness_32 : decode cX6_witness 32 = .ok (.iadd, 1) := dk_96 (dk_at dksX6_witness_1 9 rfl rfl)
theorem dX6_witness_33 : decode cX6_witness 33 = .ok (.aload_n 0, 1) := dk_42 (dk_at dksX6_witness_1 10 rfl rfl)
theorem dX6_witness_34 : decode cX6_witness 34 = .ok (.getfield 346, 3) := dk_180 1 90 (dk_at dksX6_witness_1 11 rfl rfl)
theorem dX6_witness_37 : decode cX6_witness 37 = .ok (.irem, 1) := dk_112 (dk_at dksX6_witness_1 14 rfl rfl)
theorem dX6_witness_38 : decode cX6_witness 38 = .ok (.iaload, 1) := dk_46 (dk_at dksX6_witness_1 15 rfl rfl)
theorem dX6_witness_39 : decode cX6_witness 39 = .ok (.istore_n 2, 1) := dk_61 (dk_at dksX6_witness_1 16 rfl rfl)
theorem dX6_witness_40 : decode cX6_witness 40 = .ok (.iconst 0, 1) := dk_3 (dk_at dksX6_witness_1 17 rfl rfl)
theorem dX6_witness_41 : decode cX6_witness 41 = .ok (.istore_n 3, 1) := dk_62 (dk_at dksX6_witness_1 18 rfl rfl)
theorem dX6_witness_42 : decode cX6_witness 42 = .ok (.aload_n 0, 1) := dk_42 (dk_at dksX6_witness_1 19 rfl rfl)
theorem dX6_witness_43 : decode cX6_witness 43 = .ok (.aload_n 0, 1) := dk_42 (dk_at dksX6_witness_1 20 rfl rfl)
theorem dX6_witness_44 : decode cX6_witness 44 = .ok (.getfield 93, 3) := dk_180 0 93 (dk_at dksX6_witness_1 21 rfl rfl)
theorem dX6_witness_47 : decode cX6_witness 47 = .ok (.iload_n 1, 1) := dk_27 (dk_at dksX6_witness_2 0 rfl rfl)
theorem dX6_witness_48 : decode cX6_witness 48 = .ok (.iaload, 1) := dk_46 (dk_at dksX6_witness_2 1 rfl rfl)
theorem dX6_witness_49 : decode cX6_witness 49 = .ok (.iload_n 3, 1) := dk_29 (dk_at dksX6_witness_2 2 rfl rfl)
theorem dX6_witness_50 : decode cX6_witness 50 = .ok (.iload_n 2, 1) := dk_28 (dk_at dksX6_witness_2 3 rfl rfl)
theorem dX6_witness_51 : decode cX6_witness 51 = .ok (.invokevirtual 332, 3) := dk_182 1 76 (dk_at dksX6_witness_2 4 rfl rfl)
theorem dX6_witness_54 : decode cX6_witness 54 = .ok (.ifCond .ne 9, 3) := dk_154 0 9 (dk_at dksX6_witness_2 7 rfl rfl)
theorem dX6_witness_57 : decode cX6_witness 57 = .ok (.iinc 3 1, 3) := dk_132 3 1 (dk_at dksX6_witness_2 10 rfl rfl)
theorem dX6_witness_60 : decode cX6_witness 60 = .ok (.goto (-18), 3) := dk_167 255 238 (dk_at dksX6_witness_2 13 rfl rfl)
theorem dX6_witness_63 : decode cX6_witness 63 = .ok (.iload_n 3, 1) := dk_29 (dk_at dksX6_witness_2 16 rfl rfl)
theorem dX6_witness_64 : decode cX6_witness 64 = .ok (.ireturn, 1) := dk_172 (dk_at dksX6_witness_2 17 rfl rfl)
abbrev cX6_fair : ByteArray := prog_18_method_91_code
def yX6_fair : MethodName := ⟨RX6, "fair", "(IZ)J"⟩
def dkwX6_fair_1 : List UInt8 := [153, 0, 12, 42, 180, 0, 100, 27, 47, 167, 0, 9, 42, 180, 0, 96, 27, 47, 173]
abbrev dktX6_fair_1 : List UInt8 := dkwX6_fair_1 ++ []
def dkwX6_fair_0 : List UInt8 := [42, 3, 181, 0, 115, 42, 27, 182, 1, 60, 154, 0, 7, 20, 1, 117, 173, 42, 182, 1, 119, 28]
abbrev dktX6_fair_0 : List UInt8 := dkwX6_fair_0 ++ dktX6_fair_1
theorem dksX6_fair_0 : cX6_fair.data.toList.drop 0 = dktX6_fair_0 := by decide +kernel
theorem dksX6_fair_1 : cX6_fair.data.toList.drop 22 = dktX6_fair_1 := dk_seg dksX6_fair_0 22 rfl rfl
theorem dX6_fair_0 : decode cX6_fair 0 = .ok (.aload_n 0, 1) := dk_42 (dk_at dksX6_fair_0 0 rfl rfl)
theorem dX6_fair_1 : decode cX6_fair 1 = .ok (.iconst 0, 1) := dk_3 (dk_at dksX6_fair_0 1 rfl rfl)
theorem dX6_fair_2 : decode cX6_fair 2 = .ok (.putfield 115, 3) := dk_181 0 115 (dk_at dksX6_fair_0 2 rfl rfl)
theorem dX6_fair_5 : decode cX6_fair 5 = .ok (.aload_n 0, 1) := dk_42 (dk_at dksX6_fair_0 5 rfl rfl)
theorem dX6_fair_6 : decode cX6_fair 6 = .ok (.iload_n 1, 1) := dk_27 (dk_at dksX6_fair_0 6 rfl rfl)
theorem dX6_fair_7 : decode cX6_fair 7 = .ok (.invokevirtual 316, 3) := dk_182 1 60 (dk_at dksX6_fair_0 7 rfl rfl)
theorem dX6_fair_10 : decode cX6_fair 10 = .ok (.ifCond .ne 7, 3) := dk_154 0 7 (dk_at dksX6_fair_0 10 rfl rfl)
theorem dX6_fair_13 : decode cX6_fair 13 = .ok (.ldc2_w 373, 3) := dk_20 1 117 (dk_at dksX6_fair_0 13 rfl rfl)
theorem dX6_fair_16 : decode cX6_fair 16 = .ok (.lreturn, 1) := dk_173 (dk_at dksX6_fair_0 16 rfl rfl)
theorem dX6_fair_17 : decode cX6_fair 17 = .ok (.aload_n 0, 1) := dk_42 (dk_at dksX6_fair_0 17 rfl rfl)
theorem dX6_fair_18 : decode cX6_fair 18 = .ok (.invokevirtual 375, 3) := dk_182 1 119 (dk_at dksX6_fair_0 18 rfl rfl)
theorem dX6_fair_21 : decode cX6_fair 21 = .ok (.iload_n 2, 1) := dk_28 (dk_at dksX6_fair_0 21 rfl rfl)
theorem dX6_fair_22 : decode cX6_fair 22 = .ok (.ifCond .eq 12, 3) := dk_153 0 12 (dk_at dksX6_fair_1 0 rfl rfl)
theorem dX6_fair_25 : decode cX6_fair 25 = .ok (.aload_n 0, 1) := dk_42 (dk_at dksX6_fair_1 3 rfl rfl)
theorem dX6_fair_26 : decode cX6_fair 26 = .ok (.getfield 100, 3) := dk_180 0 100 (dk_at dksX6_fair_1 4 rfl rfl)
theorem dX6_fair_29 : decode cX6_fair 29 = .ok (.iload_n 1, 1) := dk_27 (dk_at dksX6_fair_1 7 rfl rfl)
theorem dX6_fair_30 : decode cX6_fair 30 = .ok (.laload, 1) := dk_47 (dk_at dksX6_fair_1 8 rfl rfl)
theorem dX6_fair_31 : decode cX6_fair 31 = .ok (.goto 9, 3) := dk_167 0 9 (dk_at dksX6_fair_1 9 rfl rfl)
theorem dX6_fair_34 : decode cX6_fair 34 = .ok (.aload_n 0, 1) := dk_42 (dk_at dksX6_fair_1 12 rfl rfl)
theorem dX6_fair_35 : decode cX6_fair 35 = .ok (.getfield 96, 3) := dk_180 0 96 (dk_at dksX6_fair_1 13 rfl rfl)
theorem dX6_fair_38 : decode cX6_fair 38 = .ok (.iload_n 1, 1) := dk_27 (dk_at dksX6_fair_1 16 rfl rfl)
theorem dX6_fair_39 : decode cX6_fair 39 = .ok (.laload, 1) := dk_47 (dk_at dksX6_fair_1 17 rfl rfl)
theorem dX6_fair_40 : decode cX6_fair 40 = .ok (.lreturn, 1) := dk_173 (dk_at dksX6_fair_1 18 rfl rfl)
abbrev cX6_laysFair : ByteArray := prog_18_method_89_code
def yX6_laysFair : MethodName := ⟨RX6, "laysFair", "()V"⟩
def dkwX6_laysFair_7 : List UInt8 := [177]
abbrev dktX6_laysFair_7 : List UInt8 := dkwX6_laysFair_7 ++ []
def dkwX6_laysFair_6 : List UInt8 := [55, 4, 4, 60, 132, 6, 1, 167, 255, 175, 27, 153, 0, 10, 42, 32, 22, 4, 182, 1, 114, 167, 255, 147]
abbrev dktX6_laysFair_6 : List UInt8 := dkwX6_laysFair_6 ++ dktX6_laysFair_7
def dkwX6_laysFair_5 : List UInt8 := [105, 32, 42, 180, 1, 104, 105, 148, 155, 0, 6, 167, 0, 16, 42, 180, 1, 100, 65, 42, 180, 1, 104]
abbrev dktX6_laysFair_5 : List UInt8 := dkwX6_laysFair_5 ++ dktX6_laysFair_6
def dkwX6_laysFair_4 : List UInt8 := [180, 1, 100, 42, 180, 1, 104, 21, 7, 133, 105, 182, 1, 107, 27, 153, 0, 23, 42, 180, 1, 100, 22, 4]
abbrev dktX6_laysFair_4 : List UInt8 := dkwX6_laysFair_4 ++ dktX6_laysFair_5
def dkwX6_laysFair_3 : List UInt8 := [182, 0, 248, 162, 0, 78, 42, 21, 6, 182, 1, 111, 54, 7, 21, 7, 154, 0, 6, 167, 0, 56, 42, 42]
abbrev dktX6_laysFair_3 : List UInt8 := dkwX6_laysFair_3 ++ dktX6_laysFair_4
def dkwX6_laysFair_2 : List UInt8 := [167, 255, 212, 4, 60, 27, 153, 0, 111, 3, 60, 9, 65, 10, 55, 4, 3, 54, 6, 21, 6, 42]
abbrev dktX6_laysFair_2 : List UInt8 := dkwX6_laysFair_2 ++ dktX6_laysFair_3
def dkwX6_laysFair_1 : List UInt8 := [42, 180, 0, 103, 27, 42, 27, 182, 1, 27, 154, 0, 7, 4, 167, 0, 4, 3, 84, 132, 1, 1]
abbrev dktX6_laysFair_1 : List UInt8 := dkwX6_laysFair_1 ++ dktX6_laysFair_2
def dkwX6_laysFair_0 : List UInt8 := [3, 60, 27, 42, 182, 0, 251, 162, 0, 42, 42, 180, 0, 96, 27, 9, 80, 42, 180, 0, 100, 27, 10, 80]
abbrev dktX6_laysFair_0 : List UInt8 := dkwX6_laysFair_0 ++ dktX6_laysFair_1
theorem dksX6_laysFair_0 : cX6_laysFair.data.toList.drop 0 = dktX6_laysFair_0 := by decide +kernel
theorem dksX6_laysFair_1 : cX6_laysFair.data.toList.drop 24 = dktX6_laysFair_1 := dk_seg dksX6_laysFair_0 24 rfl rfl
theorem dksX6_laysFair_2 : cX6_laysFair.data.toList.drop 46 = dktX6_laysFair_2 := dk_seg dksX6_laysFair_1 22 rfl rfl
theorem dksX6_laysFair_3 : cX6_laysFair.data.toList.drop 68 = dktX6_laysFair_3 := dk_seg dksX6_laysFair_2 22 rfl rfl
theorem dksX6_laysFair_4 : cX6_laysFair.data.toList.drop 92 = dktX6_laysFair_4 := dk_seg dksX6_laysFair_3 24 rfl rfl
theorem dksX6_laysFair_5 : cX6_laysFair.data.toList.drop 116 = dktX6_laysFair_5 := dk_seg dksX6_laysFair_4 24 rfl rfl
theorem dksX6_laysFair_6 : cX6_laysFair.data.toList.drop 139 = dktX6_laysFair_6 := dk_seg dksX6_laysFair_5 23 rfl rfl
theorem dksX6_laysFair_7 : cX6_laysFair.data.toList.drop 163 = dktX6_laysFair_7 := dk_seg dksX6_laysFair_6 24 rfl rfl
theorem dX6_laysFair_0 : decode cX6_laysFair 0 = .ok (.iconst 0, 1) := dk_3 (dk_at dksX6_laysFair_0 0 rfl rfl)
theorem dX6_laysFair_1 : decode cX6_laysFair 1 = .ok (.istore_n 1, 1) := dk_60 (dk_at dksX6_laysFair_0 1 rfl rfl)
theorem dX6_laysFair_2 : decode cX6_laysFair 2 = .ok (.iload_n 1, 1) := dk_27 (dk_at dksX6_laysFair_0 2 rfl rfl)
theorem dX6_laysFair_3 : decode cX6_laysFair 3 = .ok (.aload_n 0, 1) := dk_42 (dk_at dksX6_laysFair_0 3 rfl rfl)
theorem dX6_laysFair_4 : decode cX6_laysFair 4 = .ok (.invokevirtual 251, 3) := dk_182 0 251 (dk_at dksX6_laysFair_0 4 rfl rfl)
theorem dX6_laysFair_7 : decode cX6_laysFair 7 = .ok (.if_icmp .ge 42, 3) := dk_162 0 42 (dk_at dksX6_laysFair_0 7 rfl rfl)
theorem dX6_laysFair_10 : decode cX6_laysFair 10 = .ok (.aload_n 0, 1) := dk_42 (dk_at dksX6_laysFair_0 10 rfl rfl)
theorem dX6_laysFair_11 : decode cX6_laysFair 11 = .ok (.getfield 96, 3) := dk_180 0 96 (dk_at dksX6_laysFair_0 11 rfl rfl)
theorem dX6_laysFair_14 : decode cX6_laysFair 14 = .ok (.iload_n 1, 1) := dk_27 (dk_at dksX6_laysFair_0 14 rfl rfl)
theorem dX6_laysFair_15 : decode cX6_laysFair 15 = .ok (.lconst 0, 1) := dk_9 (dk_at dksX6_laysFair_0 15 rfl rfl)
theorem dX6_laysFair_16 : decode cX6_laysFair 16 = .ok (.lastore, 1) := dk_80 (dk_at dksX6_laysFair_0 16 rfl rfl)
theorem dX6_laysFair_17 : decode cX6_laysFair 17 = .ok (.aload_n 0, 1) := dk_42 (dk_at dksX6_laysFair_0 17 rfl rfl)
theorem dX6_laysFair_18 : decode cX6_laysFair 18 = .ok (.getfield 100, 3) := dk_180 0 100 (dk_at dksX6_laysFair_0 18 rfl rfl)
theorem dX6_laysFair_21 : decode cX6_laysFair 21 = .ok (.iload_n 1, 1) := dk_27 (dk_at dksX6_laysFair_0 21 rfl rfl)
theorem dX6_laysFair_22 : decode cX6_laysFair 22 = .ok (.lconst 1, 1) := dk_10 (dk_at dksX6_laysFair_0 22 rfl rfl)
theorem dX6_laysFair_23 : decode cX6_laysFair 23 = .ok (.lastore, 1) := dk_80 (dk_at dksX6_laysFair_0 23 rfl rfl)
theorem dX6_laysFair_24 : decode cX6_laysFair 24 = .ok (.aload_n 0, 1) := dk_42 (dk_at dksX6_laysFair_1 0 rfl rfl)
theorem dX6_laysFair_25 : decode cX6_laysFair 25 = .ok (.getfield 103, 3) := dk_180 0 103 (dk_at dksX6_laysFair_1 1 rfl rfl)
theorem dX6_laysFair_28 : decode cX6_laysFair 28 = .ok (.iload_n 1, 1) := dk_27 (dk_at dksX6_laysFair_1 4 rfl rfl)
theorem dX6_laysFair_29 : decode cX6_laysFair 29 = .ok (.aload_n 0, 1) := dk_42 (dk_at dksX6_laysFair_1 5 rfl rfl)
theorem dX6_laysFair_30 : decode cX6_laysFair 30 = .ok (.iload_n 1, 1) := dk_27 (dk_at dksX6_laysFair_1 6 rfl rfl)
theorem dX6_laysFair_31 : decode cX6_laysFair 31 = .ok (.invokevirtual 283, 3) := dk_182 1 27 (dk_at dksX6_laysFair_1 7 rfl rfl)
theorem dX6_laysFair_34 : decode cX6_laysFair 34 = .ok (.ifCond .ne 7, 3) := dk_154 0 7 (dk_at dksX6_laysFair_1 10 rfl rfl)
theorem dX6_laysFair_37 : decode cX6_laysFair 37 = .ok (.iconst 1, 1) := dk_4 (dk_at dksX6_laysFair_1 13 rfl rfl)
theorem dX6_laysFair_38 : decode cX6_laysFair 38 = .ok (.goto 4, 3) := dk_167 0 4 (dk_at dksX6_laysFair_1 14 rfl rfl)
theorem dX6_laysFair_41 : decode cX6_laysFair 41 = .ok (.iconst 0, 1) := dk_3 (dk_at dksX6_laysFair_1 17 rfl rfl)
theorem dX6_laysFair_42 : decode cX6_laysFair 42 = .ok (.bastore, 1) := dk_84 (dk_at dksX6_laysFair_1 18 rfl rfl)
theorem dX6_laysFair_43 : decode cX6_laysFair 43 = .ok (.iinc 1 1, 3) := dk_132 1 1 (dk_at dksX6_laysFair_1 19 rfl rfl)
theorem dX6_laysFair_46 : decode cX6_laysFair 46 = .ok (.goto (-44), 3) := dk_167 255 212 (dk_at dksX6_laysFair_2 0 rfl rfl)
theorem dX6_laysFair_49 : decode cX6_laysFair 49 = .ok (.iconst 1, 1) := dk_4 (dk_at dksX6_laysFair_2 3 rfl rfl)
theorem dX6_laysFair_50 : decode cX6_laysFair 50 = .ok (.istore_n 1, 1) := dk_60 (dk_at dksX6_laysFair_2 4 rfl rfl)
theorem dX6_laysFair_51 : decode cX6_laysFair 51 = .ok (.iload_n 1, 1) := dk_27 (dk_at dksX6_laysFair_2 5 rfl rfl)
theorem dX6_laysFair_52 : decode cX6_laysFair 52 = .ok (.ifCond .eq 111, 3) := dk_153 0 111 (dk_at dksX6_laysFair_2 6 rfl rfl)
theorem dX6_laysFair_55 : decode cX6_laysFair 55 = .ok (.iconst 0, 1) := dk_3 (dk_at dksX6_laysFair_2 9 rfl rfl)
theorem dX6_laysFair_56 : decode cX6_laysFair 56 = .ok (.istore_n 1, 1) := dk_60 (dk_at dksX6_laysFair_2 10 rfl rfl)
theorem dX6_laysFair_57 : decode cX6_laysFair 57 = .ok (.lconst 0, 1) := dk_9 (dk_at dksX6_laysFair_2 11 rfl rfl)
theorem dX6_laysFair_58 : decode cX6_laysFair 58 = .ok (.lstore_n 2, 1) := dk_65 (dk_at dksX6_laysFair_2 12 rfl rfl)
theorem dX6_laysFair_59 : decode cX6_laysFair 59 = .ok (.lconst 1, 1) := dk_10 (dk_at dksX6_laysFair_2 13 rfl rfl)
theorem dX6_laysFair_60 : decode cX6_laysFair 60 = .ok (.lstore 4, 2) := dk_55 4 (dk_at dksX6_laysFair_2 14 rfl rfl)
theorem dX6_laysFair_62 : decode cX6_laysFair 62 = .ok (.iconst 0, 1) := dk_3 (dk_at dksX6_laysFair_2 16 rfl rfl)
theorem dX6_laysFair_63 : decode cX6_laysFair 63 = .ok (.istore 6, 2) := dk_54 6 (dk_at dksX6_laysFair_2 17 rfl rfl)
theorem dX6_laysFair_65 : decode cX6_laysFair 65 = .ok (.iload 6, 2) := dk_21 6 (dk_at dksX6_laysFair_2 19 rfl rfl)
theorem dX6_laysFair_67 : decode cX6_laysFair 67 = .ok (.aload_n 0, 1) := dk_42 (dk_at dksX6_laysFair_2 21 rfl rfl)
theorem dX6_laysFair_68 : decode cX6_laysFair 68 = .ok (.invokevirtual 248, 3) := dk_182 0 248 (dk_at dksX6_laysFair_3 0 rfl rfl)
theorem dX6_laysFair_71 : decode cX6_laysFair 71 = .ok (.if_icmp .ge 78, 3) := dk_162 0 78 (dk_at dksX6_laysFair_3 3 rfl rfl)
theorem dX6_laysFair_74 : decode cX6_laysFair 74 = .ok (.aload_n 0, 1) := dk_42 (dk_at dksX6_laysFair_3 6 rfl rfl)
theorem dX6_laysFair_75 : decode cX6_laysFair 75 = .ok (.iload 6, 2) := dk_21 6 (dk_at dksX6_laysFair_3 7 rfl rfl)
theorem dX6_laysFair_77 : decode cX6_laysFair 77 = .ok (.invokevirtual 367, 3) := dk_182 1 111 (dk_at dksX6_laysFair_3 9 rfl rfl)
theorem dX6_laysFair_80 : decode cX6_laysFair 80 = .ok (.istore 7, 2) := dk_54 7 (dk_at dksX6_laysFair_3 12 rfl rfl)
theorem dX6_laysFair_82 : decode cX6_laysFair 82 = .ok (.iload 7, 2) := dk_21 7 (dk_at dksX6_laysFair_3 14 rfl rfl)
theorem dX6_laysFair_84 : decode cX6_laysFair 84 = .ok (.ifCond .ne 6, 3) := dk_154 0 6 (dk_at dksX6_laysFair_3 16 rfl rfl)
theorem dX6_laysFair_87 : decode cX6_laysFair 87 = .ok (.goto 56, 3) := dk_167 0 56 (dk_at dksX6_laysFair_3 19 rfl rfl)
theorem dX6_laysFair_90 : decode cX6_laysFair 90 = .ok (.aload_n 0, 1) := dk_42 (dk_at dksX6_laysFair_3 22 rfl rfl)
theorem dX6_laysFair_91 : decode cX6_laysFair 91 = .ok (.aload_n 0, 1) := dk_42 (dk_at dksX6_laysFair_3 23 rfl rfl)
theorem dX6_laysFair_92 : decode cX6_laysFair 92 = .ok (.getfield 356, 3) := dk_180 1 100 (dk_at dksX6_laysFair_4 0 rfl rfl)
theorem dX6_laysFair_95 : decode cX6_laysFair 95 = .ok (.aload_n 0, 1) := dk_42 (dk_at dksX6_laysFair_4 3 rfl rfl)
theorem dX6_laysFair_96 : decode cX6_laysFair 96 = .ok (.getfield 360, 3) := dk_180 1 104 (dk_at dksX6_laysFair_4 4 rfl rfl)
theorem dX6_laysFair_99 : decode cX6_laysFair 99 = .ok (.iload 7, 2) := dk_21 7 (dk_at dksX6_laysFair_4 7 rfl rfl)
theorem dX6_laysFair_101 : decode cX6_laysFair 101 = .ok (.i2l, 1) := dk_133 (dk_at dksX6_laysFair_4 9 rfl rfl)
theorem dX6_laysFair_102 : decode cX6_laysFair 102 = .ok (.lmul, 1) := dk_105 (dk_at dksX6_laysFair_4 10 rfl rfl)
theorem dX6_laysFair_103 : decode cX6_laysFair 103 = .ok (.invokevirtual 363, 3) := dk_182 1 107 (dk_at dksX6_laysFair_4 11 rfl rfl)
theorem dX6_laysFair_106 : decode cX6_laysFair 106 = .ok (.iload_n 1, 1) := dk_27 (dk_at dksX6_laysFair_4 14 rfl rfl)
theorem dX6_laysFair_107 : decode cX6_laysFair 107 = .ok (.ifCond .eq 23, 3) := dk_153 0 23 (dk_at dksX6_laysFair_4 15 rfl rfl)
theorem dX6_laysFair_110 : decode cX6_laysFair 110 = .ok (.aload_n 0, 1) := dk_42 (dk_at dksX6_laysFair_4 18 rfl rfl)
theorem dX6_laysFair_111 : decode cX6_laysFair 111 = .ok (.getfield 356, 3) := dk_180 1 100 (dk_at dksX6_laysFair_4 19 rfl rfl)
theorem dX6_laysFair_114 : decode cX6_laysFair 114 = .ok (.lload 4, 2) := dk_22 4 (dk_at dksX6_laysFair_4 22 rfl rfl)
theorem dX6_laysFair_116 : decode cX6_laysFair 116 = .ok (.lmul, 1) := dk_105 (dk_at dksX6_laysFair_5 0 rfl rfl)
theorem dX6_laysFair_117 : decode cX6_laysFair 117 = .ok (.lload_n 2, 1) := dk_32 (dk_at dksX6_laysFair_5 1 rfl rfl)
theorem dX6_laysFair_118 : decode cX6_laysFair 118 = .ok (.aload_n 0, 1) := dk_42 (dk_at dksX6_laysFair_5 2 rfl rfl)
theorem dX6_laysFair_119 : decode cX6_laysFair 119 = .ok (.getfield 360, 3) := dk_180 1 104 (dk_at dksX6_laysFair_5 3 rfl rfl)
theorem dX6_laysFair_122 : decode cX6_laysFair 122 = .ok (.lmul, 1) := dk_105 (dk_at dksX6_laysFair_5 6 rfl rfl)
theorem dX6_laysFair_123 : decode cX6_laysFair 123 = .ok (.lcmp, 1) := dk_148 (dk_at dksX6_laysFair_5 7 rfl rfl)
theorem dX6_laysFair_124 : decode cX6_laysFair 124 = .ok (.ifCond .lt 6, 3) := dk_155 0 6 (dk_at dksX6_laysFair_5 8 rfl rfl)
theorem dX6_laysFair_127 : decode cX6_laysFair 127 = .ok (.goto 16, 3) := dk_167 0 16 (dk_at dksX6_laysFair_5 11 rfl rfl)
theorem dX6_laysFair_130 : decode cX6_laysFair 130 = .ok (.aload_n 0, 1) := dk_42 (dk_at dksX6_laysFair_5 14 rfl rfl)
theorem dX6_laysFair_131 : decode cX6_laysFair 131 = .ok (.getfield 356, 3) := dk_180 1 100 (dk_at dksX6_laysFair_5 15 rfl rfl)
theorem dX6_laysFair_134 : decode cX6_laysFair 134 = .ok (.lstore_n 2, 1) := dk_65 (dk_at dksX6_laysFair_5 18 rfl rfl)
theorem dX6_laysFair_135 : decode cX6_laysFair 135 = .ok (.aload_n 0, 1) := dk_42 (dk_at dksX6_laysFair_5 19 rfl rfl)
theorem dX6_laysFair_136 : decode cX6_laysFair 136 = .ok (.getfield 360, 3) := dk_180 1 104 (dk_at dksX6_laysFair_5 20 rfl rfl)
theorem dX6_laysFair_139 : decode cX6_laysFair 139 = .ok (.lstore 4, 2) := dk_55 4 (dk_at dksX6_laysFair_6 0 rfl rfl)
theorem dX6_laysFair_141 : decode cX6_laysFair 141 = .ok (.iconst 1, 1) := dk_4 (dk_at dksX6_laysFair_6 2 rfl rfl)
theorem dX6_laysFair_142 : decode cX6_laysFair 142 = .ok (.istore_n 1, 1) := dk_60 (dk_at dksX6_laysFair_6 3 rfl rfl)
theorem dX6_laysFair_143 : decode cX6_laysFair 143 = .ok (.iinc 6 1, 3) := dk_132 6 1 (dk_at dksX6_laysFair_6 4 rfl rfl)
theorem dX6_laysFair_146 : decode cX6_laysFair 146 = .ok (.goto (-81), 3) := dk_167 255 175 (dk_at dksX6_laysFair_6 7 rfl rfl)
theorem dX6_laysFair_149 : decode cX6_laysFair 149 = .ok (.iload_n 1, 1) := dk_27 (dk_at dksX6_laysFair_6 10 rfl rfl)
theorem dX6_laysFair_150 : decode cX6_laysFair 150 = .ok (.ifCond .eq 10, 3) := dk_153 0 10 (dk_at dksX6_laysFair_6 11 rfl rfl)
theorem dX6_laysFair_153 : decode cX6_laysFair 153 = .ok (.aload_n 0, 1) := dk_42 (dk_at dksX6_laysFair_6 14 rfl rfl)
theorem dX6_laysFair_154 : decode cX6_laysFair 154 = .ok (.lload_n 2, 1) := dk_32 (dk_at dksX6_laysFair_6 15 rfl rfl)
theorem dX6_laysFair_155 : decode cX6_laysFair 155 = .ok (.lload 4, 2) := dk_22 4 (dk_at dksX6_laysFair_6 16 rfl rfl)
theorem dX6_laysFair_157 : decode cX6_laysFair 157 = .ok (.invokevirtual 370, 3) := dk_182 1 114 (dk_at dksX6_laysFair_6 18 rfl rfl)
theorem dX6_laysFair_160 : decode cX6_laysFair 160 = .ok (.goto (-109), 3) := dk_167 255 147 (dk_at dksX6_laysFair_6 21 rfl rfl)
theorem dX6_laysFair_163 : decode cX6_laysFair 163 = .ok (.return_, 1) := dk_177 (dk_at dksX6_laysFair_7 0 rfl rfl)
abbrev cX6_leftOf : ByteArray := prog_18_method_88_code
def yX6_leftOf : MethodName := ⟨RX6, "leftOf", "(I)I"⟩
def dkwX6_leftOf_4 : List UInt8 := [167, 0, 6, 132, 2, 1, 132, 3, 1, 167, 255, 171, 28, 172]
abbrev dktX6_leftOf_4 : List UInt8 := dkwX6_leftOf_4 ++ []
def dkwX6_leftOf_3 : List UInt8 := [29, 47, 42, 180, 1, 104, 105, 101, 42, 180, 1, 104, 42, 180, 0, 100, 29, 47, 105, 182, 1, 107]
abbrev dktX6_leftOf_3 : List UInt8 := dkwX6_leftOf_3 ++ dktX6_leftOf_4
def dkwX6_leftOf_2 : List UInt8 := [180, 0, 103, 29, 51, 153, 0, 44, 42, 42, 180, 1, 100, 42, 180, 0, 100, 29, 47, 105, 42, 180, 0, 96]
abbrev dktX6_leftOf_2 : List UInt8 := dkwX6_leftOf_2 ++ dktX6_leftOf_3
def dkwX6_leftOf_1 : List UInt8 := [42, 29, 182, 1, 27, 153, 0, 69, 42, 29, 27, 182, 1, 5, 2, 160, 0, 6, 167, 0, 56, 42]
abbrev dktX6_leftOf_1 : List UInt8 := dkwX6_leftOf_1 ++ dktX6_leftOf_2
def dkwX6_leftOf_0 : List UInt8 := [42, 42, 180, 0, 23, 27, 46, 133, 10, 182, 1, 107, 3, 61, 3, 62, 29, 42, 182, 0, 251, 162, 0, 83]
abbrev dktX6_leftOf_0 : List UInt8 := dkwX6_leftOf_0 ++ dktX6_leftOf_1
theorem dksX6_leftOf_0 : cX6_leftOf.data.toList.drop 0 = dktX6_leftOf_0 := by decide +kernel
theorem dksX6_leftOf_1 : cX6_leftOf.data.toList.drop 24 = dktX6_leftOf_1 := dk_seg dksX6_leftOf_0 24 rfl rfl
theorem dksX6_leftOf_2 : cX6_leftOf.data.toList.drop 46 = dktX6_leftOf_2 := dk_seg dksX6_leftOf_1 22 rfl rfl
theorem dksX6_leftOf_3 : cX6_leftOf.data.toList.drop 70 = dktX6_leftOf_3 := dk_seg dksX6_leftOf_2 24 rfl rfl
theorem dksX6_leftOf_4 : cX6_leftOf.data.toList.drop 92 = dktX6_leftOf_4 := dk_seg dksX6_leftOf_3 22 rfl rfl
theorem dX6_leftOf_0 : decode cX6_leftOf 0 = .ok (.aload_n 0, 1) := dk_42 (dk_at dksX6_leftOf_0 0 rfl rfl)
theorem dX6_leftOf_1 : decode cX6_leftOf 1 = .ok (.aload_n 0, 1) := dk_42 (dk_at dksX6_leftOf_0 1 rfl rfl)
theorem dX6_leftOf_2 : decode cX6_leftOf 2 = .ok (.getfield 23, 3) := dk_180 0 23 (dk_at dksX6_leftOf_0 2 rfl rfl)
theorem dX6_leftOf_5 : decode cX6_leftOf 5 = .ok (.iload_n 1, 1) := dk_27 (dk_at dksX6_leftOf_0 5 rfl rfl)
theorem dX6_leftOf_6 : decode cX6_leftOf 6 = .ok (.iaload, 1) := dk_46 (dk_at dksX6_leftOf_0 6 rfl rfl)
theorem dX6_leftOf_7 : decode cX6_leftOf 7 = .ok (.i2l, 1) := dk_133 (dk_at dksX6_leftOf_0 7 rfl rfl)
theorem dX6_leftOf_8 : decode cX6_leftOf 8 = .ok (.lconst 1, 1) := dk_10 (dk_at dksX6_leftOf_0 8 rfl rfl)
theorem dX6_leftOf_9 : decode cX6_leftOf 9 = .ok (.invokevirtual 363, 3) := dk_182 1 107 (dk_at dksX6_leftOf_0 9 rfl rfl)
theorem dX6_leftOf_12 : decode cX6_leftOf 12 = .ok (.iconst 0, 1) := dk_3 (dk_at dksX6_leftOf_0 12 rfl rfl)
theorem dX6_leftOf_13 : decode cX6_leftOf 13 = .ok (.istore_n 2, 1) := dk_61 (dk_at dksX6_leftOf_0 13 rfl rfl)
theorem dX6_leftOf_14 : decode cX6_leftOf 14 = .ok (.iconst 0, 1) := dk_3 (dk_at dksX6_leftOf_0 14 rfl rfl)
theorem dX6_leftOf_15 : decode cX6_leftOf 15 = .ok (.istore_n 3, 1) := dk_62 (dk_at dksX6_leftOf_0 15 rfl rfl)
theorem dX6_leftOf_16 : decode cX6_leftOf 16 = .ok (.iload_n 3, 1) := dk_29 (dk_at dksX6_leftOf_0 16 rfl rfl)
theorem dX6_leftOf_17 : decode cX6_leftOf 17 = .ok (.aload_n 0, 1) := dk_42 (dk_at dksX6_leftOf_0 17 rfl rfl)
theorem dX6_leftOf_18 : decode cX6_leftOf 18 = .ok (.invokevirtual 251, 3) := dk_182 0 251 (dk_at dksX6_leftOf_0 18 rfl rfl)
theorem dX6_leftOf_21 : decode cX6_leftOf 21 = .ok (.if_icmp .ge 83, 3) := dk_162 0 83 (dk_at dksX6_leftOf_0 21 rfl rfl)
theorem dX6_leftOf_24 : decode cX6_leftOf 24 = .ok (.aload_n 0, 1) := dk_42 (dk_at dksX6_leftOf_1 0 rfl rfl)
theorem dX6_leftOf_25 : decode cX6_leftOf 25 = .ok (.iload_n 3, 1) := dk_29 (dk_at dksX6_leftOf_1 1 rfl rfl)
theorem dX6_leftOf_26 : decode cX6_leftOf 26 = .ok (.invokevirtual 283, 3) := dk_182 1 27 (dk_at dksX6_leftOf_1 2 rfl rfl)
theorem dX6_leftOf_29 : decode cX6_leftOf 29 = .ok (.ifCond .eq 69, 3) := dk_153 0 69 (dk_at dksX6_leftOf_1 5 rfl rfl)
theorem dX6_leftOf_32 : decode cX6_leftOf 32 = .ok (.aload_n 0, 1) := dk_42 (dk_at dksX6_leftOf_1 8 rfl rfl)
theorem dX6_leftOf_33 : decode cX6_leftOf 33 = .ok (.iload_n 3, 1) := dk_29 (dk_at dksX6_leftOf_1 9 rfl rfl)
theorem dX6_leftOf_34 : decode cX6_leftOf 34 = .ok (.iload_n 1, 1) := dk_27 (dk_at dksX6_leftOf_1 10 rfl rfl)
theorem dX6_leftOf_35 : decode cX6_leftOf 35 = .ok (.invokevirtual 261, 3) := dk_182 1 5 (dk_at dksX6_leftOf_1 11 rfl rfl)
theorem dX6_leftOf_38 : decode cX6_leftOf 38 = .ok (.iconst (-1), 1) := dk_2 (dk_at dksX6_leftOf_1 14 rfl rfl)
theorem dX6_leftOf_39 : decode cX6_leftOf 39 = .ok (.if_icmp .ne 6, 3) := dk_160 0 6 (dk_at dksX6_leftOf_1 15 rfl rfl)
theorem dX6_leftOf_42 : decode cX6_leftOf 42 = .ok (.goto 56, 3) := dk_167 0 56 (dk_at dksX6_leftOf_1 18 rfl rfl)
theorem dX6_leftOf_45 : decode cX6_leftOf 45 = .ok (.aload_n 0, 1) := dk_42 (dk_at dksX6_leftOf_1 21 rfl rfl)
theorem dX6_leftOf_46 : decode cX6_leftOf 46 = .ok (.getfield 103, 3) := dk_180 0 103 (dk_at dksX6_leftOf_2 0 rfl rfl)
theorem dX6_leftOf_49 : decode cX6_leftOf 49 = .ok (.iload_n 3, 1) := dk_29 (dk_at dksX6_leftOf_2 3 rfl rfl)
theorem dX6_leftOf_50 : decode cX6_leftOf 50 = .ok (.baload, 1) := dk_51 (dk_at dksX6_leftOf_2 4 rfl rfl)
theorem dX6_leftOf_51 : decode cX6_leftOf 51 = .ok (.ifCond .eq 44, 3) := dk_153 0 44 (dk_at dksX6_leftOf_2 5 rfl rfl)
theorem dX6_leftOf_54 : decode cX6_leftOf 54 = .ok (.aload_n 0, 1) := dk_42 (dk_at dksX6_leftOf_2 8 rfl rfl)
theorem dX6_leftOf_55 : decode cX6_leftOf 55 = .ok (.aload_n 0, 1) := dk_42 (dk_at dksX6_leftOf_2 9 rfl rfl)
theorem dX6_leftOf_56 : decode cX6_leftOf 56 = .ok (.getfield 356, 3) := dk_180 1 100 (dk_at dksX6_leftOf_2 10 rfl rfl)
theorem dX6_leftOf_59 : decode cX6_leftOf 59 = .ok (.aload_n 0, 1) := dk_42 (dk_at dksX6_leftOf_2 13 rfl rfl)
theorem dX6_leftOf_60 : decode cX6_leftOf 60 = .ok (.getfield 100, 3) := dk_180 0 100 (dk_at dksX6_leftOf_2 14 rfl rfl)
theorem dX6_leftOf_63 : decode cX6_leftOf 63 = .ok (.iload_n 3, 1) := dk_29 (dk_at dksX6_leftOf_2 17 rfl rfl)
theorem dX6_leftOf_64 : decode cX6_leftOf 64 = .ok (.laload, 1) := dk_47 (dk_at dksX6_leftOf_2 18 rfl rfl)
theorem dX6_leftOf_65 : decode cX6_leftOf 65 = .ok (.lmul, 1) := dk_105 (dk_at dksX6_leftOf_2 19 rfl rfl)
theorem dX6_leftOf_66 : decode cX6_leftOf 66 = .ok (.aload_n 0, 1) := dk_42 (dk_at dksX6_leftOf_2 20 rfl rfl)
theorem dX6_leftOf_67 : decode cX6_leftOf 67 = .ok (.getfield 96, 3) := dk_180 0 96 (dk_at dksX6_leftOf_2 21 rfl rfl)
theorem dX6_leftOf_70 : decode cX6_leftOf 70 = .ok (.iload_n 3, 1) := dk_29 (dk_at dksX6_leftOf_3 0 rfl rfl)
theorem dX6_leftOf_71 : decode cX6_leftOf 71 = .ok (.laload, 1) := dk_47 (dk_at dksX6_leftOf_3 1 rfl rfl)
theorem dX6_leftOf_72 : decode cX6_leftOf 72 = .ok (.aload_n 0, 1) := dk_42 (dk_at dksX6_leftOf_3 2 rfl rfl)
theorem dX6_leftOf_73 : decode cX6_leftOf 73 = .ok (.getfield 360, 3) := dk_180 1 104 (dk_at dksX6_leftOf_3 3 rfl rfl)
theorem dX6_leftOf_76 : decode cX6_leftOf 76 = .ok (.lmul, 1) := dk_105 (dk_at dksX6_leftOf_3 6 rfl rfl)
theorem dX6_leftOf_77 : decode cX6_leftOf 77 = .ok (.lsub, 1) := dk_101 (dk_at dksX6_leftOf_3 7 rfl rfl)
theorem dX6_leftOf_78 : decode cX6_leftOf 78 = .ok (.aload_n 0, 1) := dk_42 (dk_at dksX6_leftOf_3 8 rfl rfl)
theorem dX6_leftOf_79 : decode cX6_leftOf 79 = .ok (.getfield 360, 3) := dk_180 1 104 (dk_at dksX6_leftOf_3 9 rfl rfl)
theorem dX6_leftOf_82 : decode cX6_leftOf 82 = .ok (.aload_n 0, 1) := dk_42 (dk_at dksX6_leftOf_3 12 rfl rfl)
theorem dX6_leftOf_83 : decode cX6_leftOf 83 = .ok (.getfield 100, 3) := dk_180 0 100 (dk_at dksX6_leftOf_3 13 rfl rfl)
theorem dX6_leftOf_86 : decode cX6_leftOf 86 = .ok (.iload_n 3, 1) := dk_29 (dk_at dksX6_leftOf_3 16 rfl rfl)
theorem dX6_leftOf_87 : decode cX6_leftOf 87 = .ok (.laload, 1) := dk_47 (dk_at dksX6_leftOf_3 17 rfl rfl)
theorem dX6_leftOf_88 : decode cX6_leftOf 88 = .ok (.lmul, 1) := dk_105 (dk_at dksX6_leftOf_3 18 rfl rfl)
theorem dX6_leftOf_89 : decode cX6_leftOf 89 = .ok (.invokevirtual 363, 3) := dk_182 1 107 (dk_at dksX6_leftOf_3 19 rfl rfl)
theorem dX6_leftOf_92 : decode cX6_leftOf 92 = .ok (.goto 6, 3) := dk_167 0 6 (dk_at dksX6_leftOf_4 0 rfl rfl)
theorem dX6_leftOf_95 : decode cX6_leftOf 95 = .ok (.iinc 2 1, 3) := dk_132 2 1 (dk_at dksX6_leftOf_4 3 rfl rfl)
theorem dX6_leftOf_98 : decode cX6_leftOf 98 = .ok (.iinc 3 1, 3) := dk_132 3 1 (dk_at dksX6_leftOf_4 6 rfl rfl)
theorem dX6_leftOf_101 : decode cX6_leftOf 101 = .ok (.goto (-85), 3) := dk_167 255 171 (dk_at dksX6_leftOf_4 9 rfl rfl)
theorem dX6_leftOf_104 : decode cX6_leftOf 104 = .ok (.iload_n 2, 1) := dk_28 (dk_at dksX6_leftOf_4 12 rfl rfl)
theorem dX6_leftOf_105 : decode cX6_leftOf 105 = .ok (.ireturn, 1) := dk_172 (dk_at dksX6_leftOf_4 13 rfl rfl)
abbrev cX6_tells : ByteArray := prog_18_method_87_code
def yX6_tells : MethodName := ⟨RX6, "tells", "(JJ)V"⟩
def dkwX6_tells_0 : List UInt8 := [31, 33, 184, 1, 96, 55, 5, 42, 31, 22, 5, 109, 181, 1, 100, 42, 33, 22, 5, 109, 181, 1, 104, 177]
abbrev dktX6_tells_0 : List UInt8 := dkwX6_tells_0 ++ []
theorem dksX6_tells_0 : cX6_tells.data.toList.drop 0 = dktX6_tells_0 := by decide +kernel
theorem dX6_tells_0 : decode cX6_tells 0 = .ok (.lload_n 1, 1) := dk_31 (dk_at dksX6_tells_0 0 rfl rfl)
theorem dX6_tells_1 : decode cX6_tells 1 = .ok (.lload_n 3, 1) := dk_33 (dk_at dksX6_tells_0 1 rfl rfl)
theorem dX6_tells_2 : decode cX6_tells 2 = .ok (.invokestatic 352, 3) := dk_184 1 96 (dk_at dksX6_tells_0 2 rfl rfl)
theorem dX6_tells_5 : decode cX6_tells 5 = .ok (.lstore 5, 2) := dk_55 5 (dk_at dksX6_tells_0 5 rfl rfl)
theorem dX6_tells_7 : decode cX6_tells 7 = .ok (.aload_n 0, 1) := dk_42 (dk_at dksX6_tells_0 7 rfl rfl)
theorem dX6_tells_8 : decode cX6_tells 8 = .ok (.lload_n 1, 1) := dk_31 (dk_at dksX6_tells_0 8 rfl rfl)
theorem dX6_tells_9 : decode cX6_tells 9 = .ok (.lload 5, 2) := dk_22 5 (dk_at dksX6_tells_0 9 rfl rfl)
theorem dX6_tells_11 : decode cX6_tells 11 = .ok (.ldiv, 1) := dk_109 (dk_at dksX6_tells_0 11 rfl rfl)
theorem dX6_tells_12 : decode cX6_tells 12 = .ok (.putfield 356, 3) := dk_181 1 100 (dk_at dksX6_tells_0 12 rfl rfl)
theorem dX6_tells_15 : decode cX6_tells 15 = .ok (.aload_n 0, 1) := dk_42 (dk_at dksX6_tells_0 15 rfl rfl)
theorem dX6_tells_16 : decode cX6_tells 16 = .ok (.lload_n 3, 1) := dk_33 (dk_at dksX6_tells_0 16 rfl rfl)
theorem dX6_tells_17 : decode cX6_tells 17 = .ok (.lload 5, 2) := dk_22 5 (dk_at dksX6_tells_0 17 rfl rfl)
theorem dX6_tells_19 : decode cX6_tells 19 = .ok (.ldiv, 1) := dk_109 (dk_at dksX6_tells_0 19 rfl rfl)
theorem dX6_tells_20 : decode cX6_tells 20 = .ok (.putfield 360, 3) := dk_181 1 104 (dk_at dksX6_tells_0 20 rfl rfl)
theorem dX6_tells_23 : decode cX6_tells 23 = .ok (.return_, 1) := dk_177 (dk_at dksX6_tells_0 23 rfl rfl)
abbrev cX6_divisor : ByteArray := prog_18_method_86_code
def yX6_divisor : MethodName := ⟨RX6, "divisor", "(JJ)J"⟩
def dkwX6_divisor_1 : List UInt8 := [22, 4, 22, 6, 113, 55, 8, 22, 6, 55, 4, 22, 8, 55, 6, 167, 255, 234, 22, 4, 173]
abbrev dktX6_divisor_1 : List UInt8 := dkwX6_divisor_1 ++ []
def dkwX6_divisor_0 : List UInt8 := [30, 9, 148, 156, 0, 8, 30, 117, 167, 0, 4, 30, 55, 4, 32, 55, 6, 22, 6, 9, 148, 153, 0, 21]
abbrev dktX6_divisor_0 : List UInt8 := dkwX6_divisor_0 ++ dktX6_divisor_1
theorem dksX6_divisor_0 : cX6_divisor.data.toList.drop 0 = dktX6_divisor_0 := by decide +kernel
theorem dksX6_divisor_1 : cX6_divisor.data.toList.drop 24 = dktX6_divisor_1 := dk_seg dksX6_divisor_0 24 rfl rfl
theorem dX6_divisor_0 : decode cX6_divisor 0 = .ok (.lload_n 0, 1) := dk_30 (dk_at dksX6_divisor_0 0 rfl rfl)
theorem dX6_divisor_1 : decode cX6_divisor 1 = .ok (.lconst 0, 1) := dk_9 (dk_at dksX6_divisor_0 1 rfl rfl)
theorem dX6_divisor_2 : decode cX6_divisor 2 = .ok (.lcmp, 1) := dk_148 (dk_at dksX6_divisor_0 2 rfl rfl)
theorem dX6_divisor_3 : decode cX6_divisor 3 = .ok (.ifCond .ge 8, 3) := dk_156 0 8 (dk_at dksX6_divisor_0 3 rfl rfl)
theorem dX6_divisor_6 : decode cX6_divisor 6 = .ok (.lload_n 0, 1) := dk_30 (dk_at dksX6_divisor_0 6 rfl rfl)
theorem dX6_divisor_7 : decode cX6_divisor 7 = .ok (.lneg, 1) := dk_117 (dk_at dksX6_divisor_0 7 rfl rfl)
theorem dX6_divisor_8 : decode cX6_divisor 8 = .ok (.goto 4, 3) := dk_167 0 4 (dk_at dksX6_divisor_0 8 rfl rfl)
theorem dX6_divisor_11 : decode cX6_divisor 11 = .ok (.lload_n 0, 1) := dk_30 (dk_at dksX6_divisor_0 11 rfl rfl)
theorem dX6_divisor_12 : decode cX6_divisor 12 = .ok (.lstore 4, 2) := dk_55 4 (dk_at dksX6_divisor_0 12 rfl rfl)
theorem dX6_divisor_14 : decode cX6_divisor 14 = .ok (.lload_n 2, 1) := dk_32 (dk_at dksX6_divisor_0 14 rfl rfl)
theorem dX6_divisor_15 : decode cX6_divisor 15 = .ok (.lstore 6, 2) := dk_55 6 (dk_at dksX6_divisor_0 15 rfl rfl)
theorem dX6_divisor_17 : decode cX6_divisor 17 = .ok (.lload 6, 2) := dk_22 6 (dk_at dksX6_divisor_0 17 rfl rfl)
theorem dX6_divisor_19 : decode cX6_divisor 19 = .ok (.lconst 0, 1) := dk_9 (dk_at dksX6_divisor_0 19 rfl rfl)
theorem dX6_divisor_20 : decode cX6_divisor 20 = .ok (.lcmp, 1) := dk_148 (dk_at dksX6_divisor_0 20 rfl rfl)
theorem dX6_divisor_21 : decode cX6_divisor 21 = .ok (.ifCond .eq 21, 3) := dk_153 0 21 (dk_at dksX6_divisor_0 21 rfl rfl)
theorem dX6_divisor_24 : decode cX6_divisor 24 = .ok (.lload 4, 2) := dk_22 4 (dk_at dksX6_divisor_1 0 rfl rfl)
theorem dX6_divisor_26 : decode cX6_divisor 26 = .ok (.lload 6, 2) := dk_22 6 (dk_at dksX6_divisor_1 2 rfl rfl)
theorem dX6_divisor_28 : decode cX6_divisor 28 = .ok (.lrem, 1) := dk_113 (dk_at dksX6_divisor_1 4 rfl rfl)
theorem dX6_divisor_29 : decode cX6_divisor 29 = .ok (.lstore 8, 2) := dk_55 8 (dk_at dksX6_divisor_1 5 rfl rfl)
theorem dX6_divisor_31 : decode cX6_divisor 31 = .ok (.lload 6, 2) := dk_22 6 (dk_at dksX6_divisor_1 7 rfl rfl)
theorem dX6_divisor_33 : decode cX6_divisor 33 = .ok (.lstore 4, 2) := dk_55 4 (dk_at dksX6_divisor_1 9 rfl rfl)
theorem dX6_divisor_35 : decode cX6_divisor 35 = .ok (.lload 8, 2) := dk_22 8 (dk_at dksX6_divisor_1 11 rfl rfl)
theorem dX6_divisor_37 : decode cX6_divisor 37 = .ok (.lstore 6, 2) := dk_55 6 (dk_at dksX6_divisor_1 13 rfl rfl)
theorem dX6_divisor_39 : decode cX6_divisor 39 = .ok (.goto (-22), 3) := dk_167 255 234 (dk_at dksX6_divisor_1 15 rfl rfl)
theorem dX6_divisor_42 : decode cX6_divisor 42 = .ok (.lload 4, 2) := dk_22 4 (dk_at dksX6_divisor_1 18 rfl rfl)
theorem dX6_divisor_44 : decode cX6_divisor 44 = .ok (.lreturn, 1) := dk_173 (dk_at dksX6_divisor_1 20 rfl rfl)
abbrev cX6_stops : ByteArray := prog_18_method_90_code
def yX6_stops : MethodName := ⟨RX6, "stops", "(JJ)V"⟩
def dkwX6_stops_7 : List UInt8 := [21, 6, 31, 80, 42, 180, 0, 100, 21, 6, 33, 80, 132, 6, 1, 167, 255, 145, 177]
abbrev dktX6_stops_7 : List UInt8 := dkwX6_stops_7 ++ []
def dkwX6_stops_6 : List UInt8 := [154, 0, 35, 21, 7, 154, 0, 6, 167, 0, 27, 42, 180, 0, 103, 21, 6, 4, 84, 42, 180, 0, 96]
abbrev dktX6_stops_6 : List UInt8 := dkwX6_stops_6 ++ dktX6_stops_7
def dkwX6_stops_5 : List UInt8 := [160, 0, 7, 4, 167, 0, 4, 3, 54, 7, 132, 8, 1, 167, 255, 208, 42, 180, 0, 103, 21, 6, 51]
abbrev dktX6_stops_5 : List UInt8 := dkwX6_stops_5 ++ dktX6_stops_6
def dkwX6_stops_4 : List UInt8 := [21, 7, 154, 0, 24, 21, 5, 42, 180, 0, 50, 8, 21, 6, 104, 21, 8, 96, 46, 122, 4, 126, 4]
abbrev dktX6_stops_4 : List UInt8 := dkwX6_stops_4 ++ dktX6_stops_5
def dkwX6_stops_3 : List UInt8 := [182, 0, 251, 162, 0, 108, 3, 54, 7, 3, 54, 8, 21, 8, 42, 180, 0, 47, 21, 6, 46, 162, 0, 42]
abbrev dktX6_stops_3 : List UInt8 := dkwX6_stops_3 ++ dktX6_stops_4
def dkwX6_stops_2 : List UInt8 := [154, 0, 12, 21, 5, 4, 21, 6, 120, 128, 54, 5, 132, 6, 1, 167, 255, 202, 3, 54, 6, 21, 6, 42]
abbrev dktX6_stops_2 : List UInt8 := dkwX6_stops_2 ++ dktX6_stops_3
def dkwX6_stops_1 : List UInt8 := [21, 7, 158, 0, 32, 42, 180, 1, 100, 33, 105, 31, 42, 180, 1, 104, 105, 21, 7, 133, 105, 148]
abbrev dktX6_stops_1 : List UInt8 := dkwX6_stops_1 ++ dktX6_stops_2
def dkwX6_stops_0 : List UInt8 := [3, 54, 5, 3, 54, 6, 21, 6, 42, 182, 0, 248, 162, 0, 51, 42, 21, 6, 182, 1, 111, 54, 7]
abbrev dktX6_stops_0 : List UInt8 := dkwX6_stops_0 ++ dktX6_stops_1
theorem dksX6_stops_0 : cX6_stops.data.toList.drop 0 = dktX6_stops_0 := by decide +kernel
theorem dksX6_stops_1 : cX6_stops.data.toList.drop 23 = dktX6_stops_1 := dk_seg dksX6_stops_0 23 rfl rfl
theorem dksX6_stops_2 : cX6_stops.data.toList.drop 45 = dktX6_stops_2 := dk_seg dksX6_stops_1 22 rfl rfl
theorem dksX6_stops_3 : cX6_stops.data.toList.drop 69 = dktX6_stops_3 := dk_seg dksX6_stops_2 24 rfl rfl
theorem dksX6_stops_4 : cX6_stops.data.toList.drop 93 = dktX6_stops_4 := dk_seg dksX6_stops_3 24 rfl rfl
theorem dksX6_stops_5 : cX6_stops.data.toList.drop 116 = dktX6_stops_5 := dk_seg dksX6_stops_4 23 rfl rfl
theorem dksX6_stops_6 : cX6_stops.data.toList.drop 139 = dktX6_stops_6 := dk_seg dksX6_stops_5 23 rfl rfl
theorem dksX6_stops_7 : cX6_stops.data.toList.drop 162 = dktX6_stops_7 := dk_seg dksX6_stops_6 23 rfl rfl
theorem dX6_stops_0 : decode cX6_stops 0 = .ok (.iconst 0, 1) := dk_3 (dk_at dksX6_stops_0 0 rfl rfl)
theorem dX6_stops_1 : decode cX6_stops 1 = .ok (.istore 5, 2) := dk_54 5 (dk_at dksX6_stops_0 1 rfl rfl)
theorem dX6_stops_3 : decode cX6_stops 3 = .ok (.iconst 0, 1) := dk_3 (dk_at dksX6_stops_0 3 rfl rfl)
theorem dX6_stops_4 : decode cX6_stops 4 = .ok (.istore 6, 2) := dk_54 6 (dk_at dksX6_stops_0 4 rfl rfl)
theorem dX6_stops_6 : decode cX6_stops 6 = .ok (.iload 6, 2) := dk_21 6 (dk_at dksX6_stops_0 6 rfl rfl)
theorem dX6_stops_8 : decode cX6_stops 8 = .ok (.aload_n 0, 1) := dk_42 (dk_at dksX6_stops_0 8 rfl rfl)
theorem dX6_stops_9 : decode cX6_stops 9 = .ok (.invokevirtual 248, 3) := dk_182 0 248 (dk_at dksX6_stops_0 9 rfl rfl)
theorem dX6_stops_12 : decode cX6_stops 12 = .ok (.if_icmp .ge 51, 3) := dk_162 0 51 (dk_at dksX6_stops_0 12 rfl rfl)
theorem dX6_stops_15 : decode cX6_stops 15 = .ok (.aload_n 0, 1) := dk_42 (dk_at dksX6_stops_0 15 rfl rfl)
theorem dX6_stops_16 : decode cX6_stops 16 = .ok (.iload 6, 2) := dk_21 6 (dk_at dksX6_stops_0 16 rfl rfl)
theorem dX6_stops_18 : decode cX6_stops 18 = .ok (.invokevirtual 367, 3) := dk_182 1 111 (dk_at dksX6_stops_0 18 rfl rfl)
theorem dX6_stops_21 : decode cX6_stops 21 = .ok (.istore 7, 2) := dk_54 7 (dk_at dksX6_stops_0 21 rfl rfl)
theorem dX6_stops_23 : decode cX6_stops 23 = .ok (.iload 7, 2) := dk_21 7 (dk_at dksX6_stops_1 0 rfl rfl)
theorem dX6_stops_25 : decode cX6_stops 25 = .ok (.ifCond .le 32, 3) := dk_158 0 32 (dk_at dksX6_stops_1 2 rfl rfl)
theorem dX6_stops_28 : decode cX6_stops 28 = .ok (.aload_n 0, 1) := dk_42 (dk_at dksX6_stops_1 5 rfl rfl)
theorem dX6_stops_29 : decode cX6_stops 29 = .ok (.getfield 356, 3) := dk_180 1 100 (dk_at dksX6_stops_1 6 rfl rfl)
theorem dX6_stops_32 : decode cX6_stops 32 = .ok (.lload_n 3, 1) := dk_33 (dk_at dksX6_stops_1 9 rfl rfl)
theorem dX6_stops_33 : decode cX6_stops 33 = .ok (.lmul, 1) := dk_105 (dk_at dksX6_stops_1 10 rfl rfl)
theorem dX6_stops_34 : decode cX6_stops 34 = .ok (.lload_n 1, 1) := dk_31 (dk_at dksX6_stops_1 11 rfl rfl)
theorem dX6_stops_35 : decode cX6_stops 35 = .ok (.aload_n 0, 1) := dk_42 (dk_at dksX6_stops_1 12 rfl rfl)
theorem dX6_stops_36 : decode cX6_stops 36 = .ok (.getfield 360, 3) := dk_180 1 104 (dk_at dksX6_stops_1 13 rfl rfl)
theorem dX6_stops_39 : decode cX6_stops 39 = .ok (.lmul, 1) := dk_105 (dk_at dksX6_stops_1 16 rfl rfl)
theorem dX6_stops_40 : decode cX6_stops 40 = .ok (.iload 7, 2) := dk_21 7 (dk_at dksX6_stops_1 17 rfl rfl)
theorem dX6_stops_42 : decode cX6_stops 42 = .ok (.i2l, 1) := dk_133 (dk_at dksX6_stops_1 19 rfl rfl)
theorem dX6_stops_43 : decode cX6_stops 43 = .ok (.lmul, 1) := dk_105 (dk_at dksX6_stops_1 20 rfl rfl)
theorem dX6_stops_44 : decode cX6_stops 44 = .ok (.lcmp, 1) := dk_148 (dk_at dksX6_stops_1 21 rfl rfl)
theorem dX6_stops_45 : decode cX6_stops 45 = .ok (.ifCond .ne 12, 3) := dk_154 0 12 (dk_at dksX6_stops_2 0 rfl rfl)
theorem dX6_stops_48 : decode cX6_stops 48 = .ok (.iload 5, 2) := dk_21 5 (dk_at dksX6_stops_2 3 rfl rfl)
theorem dX6_stops_50 : decode cX6_stops 50 = .ok (.iconst 1, 1) := dk_4 (dk_at dksX6_stops_2 5 rfl rfl)
theorem dX6_stops_51 : decode cX6_stops 51 = .ok (.iload 6, 2) := dk_21 6 (dk_at dksX6_stops_2 6 rfl rfl)
theorem dX6_stops_53 : decode cX6_stops 53 = .ok (.ishl, 1) := dk_120 (dk_at dksX6_stops_2 8 rfl rfl)
theorem dX6_stops_54 : decode cX6_stops 54 = .ok (.ior, 1) := dk_128 (dk_at dksX6_stops_2 9 rfl rfl)
theorem dX6_stops_55 : decode cX6_stops 55 = .ok (.istore 5, 2) := dk_54 5 (dk_at dksX6_stops_2 10 rfl rfl)
theorem dX6_stops_57 : decode cX6_stops 57 = .ok (.iinc 6 1, 3) := dk_132 6 1 (dk_at dksX6_stops_2 12 rfl rfl)
theorem dX6_stops_60 : decode cX6_stops 60 = .ok (.goto (-54), 3) := dk_167 255 202 (dk_at dksX6_stops_2 15 rfl rfl)
theorem dX6_stops_63 : decode cX6_stops 63 = .ok (.iconst 0, 1) := dk_3 (dk_at dksX6_stops_2 18 rfl rfl)
theorem dX6_stops_64 : decode cX6_stops 64 = .ok (.istore 6, 2) := dk_54 6 (dk_at dksX6_stops_2 19 rfl rfl)
theorem dX6_stops_66 : decode cX6_stops 66 = .ok (.iload 6, 2) := dk_21 6 (dk_at dksX6_stops_2 21 rfl rfl)
theorem dX6_stops_68 : decode cX6_stops 68 = .ok (.aload_n 0, 1) := dk_42 (dk_at dksX6_stops_2 23 rfl rfl)
theorem dX6_stops_69 : decode cX6_stops 69 = .ok (.invokevirtual 251, 3) := dk_182 0 251 (dk_at dksX6_stops_3 0 rfl rfl)
theorem dX6_stops_72 : decode cX6_stops 72 = .ok (.if_icmp .ge 108, 3) := dk_162 0 108 (dk_at dksX6_stops_3 3 rfl rfl)
theorem dX6_stops_75 : decode cX6_stops 75 = .ok (.iconst 0, 1) := dk_3 (dk_at dksX6_stops_3 6 rfl rfl)
theorem dX6_stops_76 : decode cX6_stops 76 = .ok (.istore 7, 2) := dk_54 7 (dk_at dksX6_stops_3 7 rfl rfl)
theorem dX6_stops_78 : decode cX6_stops 78 = .ok (.iconst 0, 1) := dk_3 (dk_at dksX6_stops_3 9 rfl rfl)
theorem dX6_stops_79 : decode cX6_stops 79 = .ok (.istore 8, 2) := dk_54 8 (dk_at dksX6_stops_3 10 rfl rfl)
theorem dX6_stops_81 : decode cX6_stops 81 = .ok (.iload 8, 2) := dk_21 8 (dk_at dksX6_stops_3 12 rfl rfl)
theorem dX6_stops_83 : decode cX6_stops 83 = .ok (.aload_n 0, 1) := dk_42 (dk_at dksX6_stops_3 14 rfl rfl)
theorem dX6_stops_84 : decode cX6_stops 84 = .ok (.getfield 47, 3) := dk_180 0 47 (dk_at dksX6_stops_3 15 rfl rfl)
theorem dX6_stops_87 : decode cX6_stops 87 = .ok (.iload 6, 2) := dk_21 6 (dk_at dksX6_stops_3 18 rfl rfl)
theorem dX6_stops_89 : decode cX6_stops 89 = .ok (.iaload, 1) := dk_46 (dk_at dksX6_stops_3 20 rfl rfl)
theorem dX6_stops_90 : decode cX6_stops 90 = .ok (.if_icmp .ge 42, 3) := dk_162 0 42 (dk_at dksX6_stops_3 21 rfl rfl)
theorem dX6_stops_93 : decode cX6_stops 93 = .ok (.iload 7, 2) := dk_21 7 (dk_at dksX6_stops_4 0 rfl rfl)
theorem dX6_stops_95 : decode cX6_stops 95 = .ok (.ifCond .ne 24, 3) := dk_154 0 24 (dk_at dksX6_stops_4 2 rfl rfl)
theorem dX6_stops_98 : decode cX6_stops 98 = .ok (.iload 5, 2) := dk_21 5 (dk_at dksX6_stops_4 5 rfl rfl)
theorem dX6_stops_100 : decode cX6_stops 100 = .ok (.aload_n 0, 1) := dk_42 (dk_at dksX6_stops_4 7 rfl rfl)
theorem dX6_stops_101 : decode cX6_stops 101 = .ok (.getfield 50, 3) := dk_180 0 50 (dk_at dksX6_stops_4 8 rfl rfl)
theorem dX6_stops_104 : decode cX6_stops 104 = .ok (.iconst 5, 1) := dk_8 (dk_at dksX6_stops_4 11 rfl rfl)
theorem dX6_stops_105 : decode cX6_stops 105 = .ok (.iload 6, 2) := dk_21 6 (dk_at dksX6_stops_4 12 rfl rfl)
theorem dX6_stops_107 : decode cX6_stops 107 = .ok (.imul, 1) := dk_104 (dk_at dksX6_stops_4 14 rfl rfl)
theorem dX6_stops_108 : decode cX6_stops 108 = .ok (.iload 8, 2) := dk_21 8 (dk_at dksX6_stops_4 15 rfl rfl)
theorem dX6_stops_110 : decode cX6_stops 110 = .ok (.iadd, 1) := dk_96 (dk_at dksX6_stops_4 17 rfl rfl)
theorem dX6_stops_111 : decode cX6_stops 111 = .ok (.iaload, 1) := dk_46 (dk_at dksX6_stops_4 18 rfl rfl)
theorem dX6_stops_112 : decode cX6_stops 112 = .ok (.ishr, 1) := dk_122 (dk_at dksX6_stops_4 19 rfl rfl)
theorem dX6_stops_113 : decode cX6_stops 113 = .ok (.iconst 1, 1) := dk_4 (dk_at dksX6_stops_4 20 rfl rfl)
theorem dX6_stops_114 : decode cX6_stops 114 = .ok (.iand, 1) := dk_126 (dk_at dksX6_stops_4 21 rfl rfl)
theorem dX6_stops_115 : decode cX6_stops 115 = .ok (.iconst 1, 1) := dk_4 (dk_at dksX6_stops_4 22 rfl rfl)
theorem dX6_stops_116 : decode cX6_stops 116 = .ok (.if_icmp .ne 7, 3) := dk_160 0 7 (dk_at dksX6_stops_5 0 rfl rfl)
theorem dX6_stops_119 : decode cX6_stops 119 = .ok (.iconst 1, 1) := dk_4 (dk_at dksX6_stops_5 3 rfl rfl)
theorem dX6_stops_120 : decode cX6_stops 120 = .ok (.goto 4, 3) := dk_167 0 4 (dk_at dksX6_stops_5 4 rfl rfl)
theorem dX6_stops_123 : decode cX6_stops 123 = .ok (.iconst 0, 1) := dk_3 (dk_at dksX6_stops_5 7 rfl rfl)
theorem dX6_stops_124 : decode cX6_stops 124 = .ok (.istore 7, 2) := dk_54 7 (dk_at dksX6_stops_5 8 rfl rfl)
theorem dX6_stops_126 : decode cX6_stops 126 = .ok (.iinc 8 1, 3) := dk_132 8 1 (dk_at dksX6_stops_5 10 rfl rfl)
theorem dX6_stops_129 : decode cX6_stops 129 = .ok (.goto (-48), 3) := dk_167 255 208 (dk_at dksX6_stops_5 13 rfl rfl)
theorem dX6_stops_132 : decode cX6_stops 132 = .ok (.aload_n 0, 1) := dk_42 (dk_at dksX6_stops_5 16 rfl rfl)
theorem dX6_stops_133 : decode cX6_stops 133 = .ok (.getfield 103, 3) := dk_180 0 103 (dk_at dksX6_stops_5 17 rfl rfl)
theorem dX6_stops_136 : decode cX6_stops 136 = .ok (.iload 6, 2) := dk_21 6 (dk_at dksX6_stops_5 20 rfl rfl)
theorem dX6_stops_138 : decode cX6_stops 138 = .ok (.baload, 1) := dk_51 (dk_at dksX6_stops_5 22 rfl rfl)
theorem dX6_stops_139 : decode cX6_stops 139 = .ok (.ifCond .ne 35, 3) := dk_154 0 35 (dk_at dksX6_stops_6 0 rfl rfl)
theorem dX6_stops_142 : decode cX6_stops 142 = .ok (.iload 7, 2) := dk_21 7 (dk_at dksX6_stops_6 3 rfl rfl)
theorem dX6_stops_144 : decode cX6_stops 144 = .ok (.ifCond .ne 6, 3) := dk_154 0 6 (dk_at dksX6_stops_6 5 rfl rfl)
theorem dX6_stops_147 : decode cX6_stops 147 = .ok (.goto 27, 3) := dk_167 0 27 (dk_at dksX6_stops_6 8 rfl rfl)
theorem dX6_stops_150 : decode cX6_stops 150 = .ok (.aload_n 0, 1) := dk_42 (dk_at dksX6_stops_6 11 rfl rfl)
theorem dX6_stops_151 : decode cX6_stops 151 = .ok (.getfield 103, 3) := dk_180 0 103 (dk_at dksX6_stops_6 12 rfl rfl)
theorem dX6_stops_154 : decode cX6_stops 154 = .ok (.iload 6, 2) := dk_21 6 (dk_at dksX6_stops_6 15 rfl rfl)
theorem dX6_stops_156 : decode cX6_stops 156 = .ok (.iconst 1, 1) := dk_4 (dk_at dksX6_stops_6 17 rfl rfl)
theorem dX6_stops_157 : decode cX6_stops 157 = .ok (.bastore, 1) := dk_84 (dk_at dksX6_stops_6 18 rfl rfl)
theorem dX6_stops_158 : decode cX6_stops 158 = .ok (.aload_n 0, 1) := dk_42 (dk_at dksX6_stops_6 19 rfl rfl)
theorem dX6_stops_159 : decode cX6_stops 159 = .ok (.getfield 96, 3) := dk_180 0 96 (dk_at dksX6_stops_6 20 rfl rfl)
theorem dX6_stops_162 : decode cX6_stops 162 = .ok (.iload 6, 2) := dk_21 6 (dk_at dksX6_stops_7 0 rfl rfl)
theorem dX6_stops_164 : decode cX6_stops 164 = .ok (.lload_n 1, 1) := dk_31 (dk_at dksX6_stops_7 2 rfl rfl)
theorem dX6_stops_165 : decode cX6_stops 165 = .ok (.lastore, 1) := dk_80 (dk_at dksX6_stops_7 3 rfl rfl)
theorem dX6_stops_166 : decode cX6_stops 166 = .ok (.aload_n 0, 1) := dk_42 (dk_at dksX6_stops_7 4 rfl rfl)
theorem dX6_stops_167 : decode cX6_stops 167 = .ok (.getfield 100, 3) := dk_180 0 100 (dk_at dksX6_stops_7 5 rfl rfl)
theorem dX6_stops_170 : decode cX6_stops 170 = .ok (.iload 6, 2) := dk_21 6 (dk_at dksX6_stops_7 8 rfl rfl)
theorem dX6_stops_172 : decode cX6_stops 172 = .ok (.lload_n 3, 1) := dk_33 (dk_at dksX6_stops_7 10 rfl rfl)
theorem dX6_stops_173 : decode cX6_stops 173 = .ok (.lastore, 1) := dk_80 (dk_at dksX6_stops_7 11 rfl rfl)
theorem dX6_stops_174 : decode cX6_stops 174 = .ok (.iinc 6 1, 3) := dk_132 6 1 (dk_at dksX6_stops_7 12 rfl rfl)
theorem dX6_stops_177 : decode cX6_stops 177 = .ok (.goto (-111), 3) := dk_167 255 145 (dk_at dksX6_stops_7 15 rfl rfl)
theorem dX6_stops_180 : decode cX6_stops 180 = .ok (.return_, 1) := dk_177 (dk_at dksX6_stops_7 18 rfl rfl)
abbrev cX6_full : ByteArray := prog_18_method_92_code
def yX6_full : MethodName := ⟨RX6, "full", "()I"⟩
def dkwX6_full_2 : List UInt8 := [167, 255, 224, 27, 172]
abbrev dktX6_full_2 : List UInt8 := dkwX6_full_2 ++ []
def dkwX6_full_1 : List UInt8 := [182, 1, 111, 87, 42, 180, 1, 100, 9, 148, 154, 0, 9, 27, 4, 28, 120, 128, 60, 132, 2, 1]
abbrev dktX6_full_1 : List UInt8 := dkwX6_full_1 ++ dktX6_full_2
def dkwX6_full_0 : List UInt8 := [42, 3, 181, 0, 115, 42, 182, 1, 119, 3, 60, 3, 61, 28, 42, 182, 0, 248, 162, 0, 30, 42, 28]
abbrev dktX6_full_0 : List UInt8 := dkwX6_full_0 ++ dktX6_full_1
theorem dksX6_full_0 : cX6_full.data.toList.drop 0 = dktX6_full_0 := by decide +kernel
theorem dksX6_full_1 : cX6_full.data.toList.drop 23 = dktX6_full_1 := dk_seg dksX6_full_0 23 rfl rfl
theorem dksX6_full_2 : cX6_full.data.toList.drop 45 = dktX6_full_2 := dk_seg dksX6_full_1 22 rfl rfl
theorem dX6_full_0 : decode cX6_full 0 = .ok (.aload_n 0, 1) := dk_42 (dk_at dksX6_full_0 0 rfl rfl)
theorem dX6_full_1 : decode cX6_full 1 = .ok (.iconst 0, 1) := dk_3 (dk_at dksX6_full_0 1 rfl rfl)
theorem dX6_full_2 : decode cX6_full 2 = .ok (.putfield 115, 3) := dk_181 0 115 (dk_at dksX6_full_0 2 rfl rfl)
theorem dX6_full_5 : decode cX6_full 5 = .ok (.aload_n 0, 1) := dk_42 (dk_at dksX6_full_0 5 rfl rfl)
theorem dX6_full_6 : decode cX6_full 6 = .ok (.invokevirtual 375, 3) := dk_182 1 119 (dk_at dksX6_full_0 6 rfl rfl)
theorem dX6_full_9 : decode cX6_full 9 = .ok (.iconst 0, 1) := dk_3 (dk_at dksX6_full_0 9 rfl rfl)
theorem dX6_full_10 : decode cX6_full 10 = .ok (.istore_n 1, 1) := dk_60 (dk_at dksX6_full_0 10 rfl rfl)
theorem dX6_full_11 : decode cX6_full 11 = .ok (.iconst 0, 1) := dk_3 (dk_at dksX6_full_0 11 rfl rfl)
theorem dX6_full_12 : decode cX6_full 12 = .ok (.istore_n 2, 1) := dk_61 (dk_at dksX6_full_0 12 rfl rfl)
theorem dX6_full_13 : decode cX6_full 13 = .ok (.iload_n 2, 1) := dk_28 (dk_at dksX6_full_0 13 rfl rfl)
theorem dX6_full_14 : decode cX6_full 14 = .ok (.aload_n 0, 1) := dk_42 (dk_at dksX6_full_0 14 rfl rfl)
theorem dX6_full_15 : decode cX6_full 15 = .ok (.invokevirtual 248, 3) := dk_182 0 248 (dk_at dksX6_full_0 15 rfl rfl)
theorem dX6_full_18 : decode cX6_full 18 = .ok (.if_icmp .ge 30, 3) := dk_162 0 30 (dk_at dksX6_full_0 18 rfl rfl)
theorem dX6_full_21 : decode cX6_full 21 = .ok (.aload_n 0, 1) := dk_42 (dk_at dksX6_full_0 21 rfl rfl)
theorem dX6_full_22 : decode cX6_full 22 = .ok (.iload_n 2, 1) := dk_28 (dk_at dksX6_full_0 22 rfl rfl)
theorem dX6_full_23 : decode cX6_full 23 = .ok (.invokevirtual 367, 3) := dk_182 1 111 (dk_at dksX6_full_1 0 rfl rfl)
theorem dX6_full_26 : decode cX6_full 26 = .ok (.pop, 1) := dk_87 (dk_at dksX6_full_1 3 rfl rfl)
theorem dX6_full_27 : decode cX6_full 27 = .ok (.aload_n 0, 1) := dk_42 (dk_at dksX6_full_1 4 rfl rfl)
theorem dX6_full_28 : decode cX6_full 28 = .ok (.getfield 356, 3) := dk_180 1 100 (dk_at dksX6_full_1 5 rfl rfl)
theorem dX6_full_31 : decode cX6_full 31 = .ok (.lconst 0, 1) := dk_9 (dk_at dksX6_full_1 8 rfl rfl)
theorem dX6_full_32 : decode cX6_full 32 = .ok (.lcmp, 1) := dk_148 (dk_at dksX6_full_1 9 rfl rfl)
theorem dX6_full_33 : decode cX6_full 33 = .ok (.ifCond .ne 9, 3) := dk_154 0 9 (dk_at dksX6_full_1 10 rfl rfl)
theorem dX6_full_36 : decode cX6_full 36 = .ok (.iload_n 1, 1) := dk_27 (dk_at dksX6_full_1 13 rfl rfl)
theorem dX6_full_37 : decode cX6_full 37 = .ok (.iconst 1, 1) := dk_4 (dk_at dksX6_full_1 14 rfl rfl)
theorem dX6_full_38 : decode cX6_full 38 = .ok (.iload_n 2, 1) := dk_28 (dk_at dksX6_full_1 15 rfl rfl)
theorem dX6_full_39 : decode cX6_full 39 = .ok (.ishl, 1) := dk_120 (dk_at dksX6_full_1 16 rfl rfl)
theorem dX6_full_40 : decode cX6_full 40 = .ok (.ior, 1) := dk_128 (dk_at dksX6_full_1 17 rfl rfl)
theorem dX6_full_41 : decode cX6_full 41 = .ok (.istore_n 1, 1) := dk_60 (dk_at dksX6_full_1 18 rfl rfl)
theorem dX6_full_42 : decode cX6_full 42 = .ok (.iinc 2 1, 3) := dk_132 2 1 (dk_at dksX6_full_1 19 rfl rfl)
theorem dX6_full_45 : decode cX6_full 45 = .ok (.goto (-32), 3) := dk_167 255 224 (dk_at dksX6_full_2 0 rfl rfl)
theorem dX6_full_48 : decode cX6_full 48 = .ok (.iload_n 1, 1) := dk_27 (dk_at dksX6_full_2 3 rfl rfl)
theorem dX6_full_49 : decode cX6_full 49 = .ok (.ireturn, 1) := dk_172 (dk_at dksX6_full_2 4 rfl rfl)
abbrev cX6_ahead : ByteArray := prog_18_method_94_code
def yX6_ahead : MethodName := ⟨RX6, "ahead", "(III)I"⟩
def dkwX6_ahead_6 : List UInt8 := [21, 5, 100, 54, 6, 42, 180, 0, 60, 3, 42, 180, 0, 57, 3, 184, 0, 254, 21, 6, 172]
abbrev dktX6_ahead_6 : List UInt8 := dkwX6_ahead_6 ++ []
def dkwX6_ahead_5 : List UInt8 := [167, 0, 27, 29, 4, 160, 0, 8, 21, 4, 167, 0, 17, 42, 180, 0, 57, 16, 24, 27, 104, 6, 96, 46]
abbrev dktX6_ahead_5 : List UInt8 := dkwX6_ahead_5 ++ dktX6_ahead_6
def dkwX6_ahead_4 : List UInt8 := [167, 0, 5, 21, 4, 54, 4, 132, 6, 1, 167, 255, 221, 29, 154, 0, 11, 42, 27, 182, 1, 8]
abbrev dktX6_ahead_4 : List UInt8 := dkwX6_ahead_4 ++ dktX6_ahead_5
def dkwX6_ahead_3 : List UInt8 := [162, 0, 35, 42, 182, 1, 57, 42, 27, 182, 1, 8, 21, 4, 164, 0, 11, 42, 27, 182, 1, 8]
abbrev dktX6_ahead_3 : List UInt8 := dkwX6_ahead_3 ++ dktX6_ahead_4
def dkwX6_ahead_2 : List UInt8 := [182, 1, 8, 54, 4, 42, 180, 0, 57, 16, 24, 27, 104, 6, 96, 46, 54, 5, 3, 54, 6, 21, 6, 28]
abbrev dktX6_ahead_2 : List UInt8 := dkwX6_ahead_2 ++ dktX6_ahead_3
def dkwX6_ahead_1 : List UInt8 := [29, 5, 164, 0, 5, 2, 172, 42, 180, 0, 57, 3, 42, 180, 0, 60, 3, 184, 0, 254, 42, 27]
abbrev dktX6_ahead_1 : List UInt8 := dkwX6_ahead_1 ++ dktX6_ahead_2
def dkwX6_ahead_0 : List UInt8 := [42, 3, 181, 0, 115, 42, 27, 182, 1, 63, 153, 0, 19, 28, 184, 1, 122, 153, 0, 12, 29, 155, 0, 8]
abbrev dktX6_ahead_0 : List UInt8 := dkwX6_ahead_0 ++ dktX6_ahead_1
theorem dksX6_ahead_0 : cX6_ahead.data.toList.drop 0 = dktX6_ahead_0 := by decide +kernel
theorem dksX6_ahead_1 : cX6_ahead.data.toList.drop 24 = dktX6_ahead_1 := dk_seg dksX6_ahead_0 24 rfl rfl
theorem dksX6_ahead_2 : cX6_ahead.data.toList.drop 46 = dktX6_ahead_2 := dk_seg dksX6_ahead_1 22 rfl rfl
theorem dksX6_ahead_3 : cX6_ahead.data.toList.drop 70 = dktX6_ahead_3 := dk_seg dksX6_ahead_2 24 rfl rfl
theorem dksX6_ahead_4 : cX6_ahead.data.toList.drop 92 = dktX6_ahead_4 := dk_seg dksX6_ahead_3 22 rfl rfl
theorem dksX6_ahead_5 : cX6_ahead.data.toList.drop 114 = dktX6_ahead_5 := dk_seg dksX6_ahead_4 22 rfl rfl
theorem dksX6_ahead_6 : cX6_ahead.data.toList.drop 138 = dktX6_ahead_6 := dk_seg dksX6_ahead_5 24 rfl rfl
theorem dX6_ahead_0 : decode cX6_ahead 0 = .ok (.aload_n 0, 1) := dk_42 (dk_at dksX6_ahead_0 0 rfl rfl)
theorem dX6_ahead_1 : decode cX6_ahead 1 = .ok (.iconst 0, 1) := dk_3 (dk_at dksX6_ahead_0 1 rfl rfl)
theorem dX6_ahead_2 : decode cX6_ahead 2 = .ok (.putfield 115, 3) := dk_181 0 115 (dk_at dksX6_ahead_0 2 rfl rfl)
theorem dX6_ahead_5 : decode cX6_ahead 5 = .ok (.aload_n 0, 1) := dk_42 (dk_at dksX6_ahead_0 5 rfl rfl)
theorem dX6_ahead_6 : decode cX6_ahead 6 = .ok (.iload_n 1, 1) := dk_27 (dk_at dksX6_ahead_0 6 rfl rfl)
theorem dX6_ahead_7 : decode cX6_ahead 7 = .ok (.invokevirtual 319, 3) := dk_182 1 63 (dk_at dksX6_ahead_0 7 rfl rfl)
theorem dX6_ahead_10 : decode cX6_ahead 10 = .ok (.ifCond .eq 19, 3) := dk_153 0 19 (dk_at dksX6_ahead_0 10 rfl rfl)
theorem dX6_ahead_13 : decode cX6_ahead 13 = .ok (.iload_n 2, 1) := dk_28 (dk_at dksX6_ahead_0 13 rfl rfl)
theorem dX6_ahead_14 : decode cX6_ahead 14 = .ok (.invokestatic 378, 3) := dk_184 1 122 (dk_at dksX6_ahead_0 14 rfl rfl)
theorem dX6_ahead_17 : decode cX6_ahead 17 = .ok (.ifCond .eq 12, 3) := dk_153 0 12 (dk_at dksX6_ahead_0 17 rfl rfl)
theorem dX6_ahead_20 : decode cX6_ahead 20 = .ok (.iload_n 3, 1) := dk_29 (dk_at dksX6_ahead_0 20 rfl rfl)
theorem dX6_ahead_21 : decode cX6_ahead 21 = .ok (.ifCond .lt 8, 3) := dk_155 0 8 (dk_at dksX6_ahead_0 21 rfl rfl)
theorem dX6_ahead_24 : decode cX6_ahead 24 = .ok (.iload_n 3, 1) := dk_29 (dk_at dksX6_ahead_1 0 rfl rfl)
theorem dX6_ahead_25 : decode cX6_ahead 25 = .ok (.iconst 2, 1) := dk_5 (dk_at dksX6_ahead_1 1 rfl rfl)
theorem dX6_ahead_26 : decode cX6_ahead 26 = .ok (.if_icmp .le 5, 3) := dk_164 0 5 (dk_at dksX6_ahead_1 2 rfl rfl)
theorem dX6_ahead_29 : decode cX6_ahead 29 = .ok (.iconst (-1), 1) := dk_2 (dk_at dksX6_ahead_1 5 rfl rfl)
theorem dX6_ahead_30 : decode cX6_ahead 30 = .ok (.ireturn, 1) := dk_172 (dk_at dksX6_ahead_1 6 rfl rfl)
theorem dX6_ahead_31 : decode cX6_ahead 31 = .ok (.aload_n 0, 1) := dk_42 (dk_at dksX6_ahead_1 7 rfl rfl)
theorem dX6_ahead_32 : decode cX6_ahead 32 = .ok (.getfield 57, 3) := dk_180 0 57 (dk_at dksX6_ahead_1 8 rfl rfl)
theorem dX6_ahead_35 : decode cX6_ahead 35 = .ok (.iconst 0, 1) := dk_3 (dk_at dksX6_ahead_1 11 rfl rfl)
theorem dX6_ahead_36 : decode cX6_ahead 36 = .ok (.aload_n 0, 1) := dk_42 (dk_at dksX6_ahead_1 12 rfl rfl)
theorem dX6_ahead_37 : decode cX6_ahead 37 = .ok (.getfield 60, 3) := dk_180 0 60 (dk_at dksX6_ahead_1 13 rfl rfl)
theorem dX6_ahead_40 : decode cX6_ahead 40 = .ok (.iconst 0, 1) := dk_3 (dk_at dksX6_ahead_1 16 rfl rfl)
theorem dX6_ahead_41 : decode cX6_ahead 41 = .ok (.invokestatic 254, 3) := dk_184 0 254 (dk_at dksX6_ahead_1 17 rfl rfl)
theorem dX6_ahead_44 : decode cX6_ahead 44 = .ok (.aload_n 0, 1) := dk_42 (dk_at dksX6_ahead_1 20 rfl rfl)
theorem dX6_ahead_45 : decode cX6_ahead 45 = .ok (.iload_n 1, 1) := dk_27 (dk_at dksX6_ahead_1 21 rfl rfl)
theorem dX6_ahead_46 : decode cX6_ahead 46 = .ok (.invokevirtual 264, 3) := dk_182 1 8 (dk_at dksX6_ahead_2 0 rfl rfl)
theorem dX6_ahead_49 : decode cX6_ahead 49 = .ok (.istore 4, 2) := dk_54 4 (dk_at dksX6_ahead_2 3 rfl rfl)
theorem dX6_ahead_51 : decode cX6_ahead 51 = .ok (.aload_n 0, 1) := dk_42 (dk_at dksX6_ahead_2 5 rfl rfl)
theorem dX6_ahead_52 : decode cX6_ahead 52 = .ok (.getfield 57, 3) := dk_180 0 57 (dk_at dksX6_ahead_2 6 rfl rfl)
theorem dX6_ahead_55 : decode cX6_ahead 55 = .ok (.bipush 24, 2) := dk_16 24 (dk_at dksX6_ahead_2 9 rfl rfl)
theorem dX6_ahead_57 : decode cX6_ahead 57 = .ok (.iload_n 1, 1) := dk_27 (dk_at dksX6_ahead_2 11 rfl rfl)
theorem dX6_ahead_58 : decode cX6_ahead 58 = .ok (.imul, 1) := dk_104 (dk_at dksX6_ahead_2 12 rfl rfl)
theorem dX6_ahead_59 : decode cX6_ahead 59 = .ok (.iconst 3, 1) := dk_6 (dk_at dksX6_ahead_2 13 rfl rfl)
theorem dX6_ahead_60 : decode cX6_ahead 60 = .ok (.iadd, 1) := dk_96 (dk_at dksX6_ahead_2 14 rfl rfl)
theorem dX6_ahead_61 : decode cX6_ahead 61 = .ok (.iaload, 1) := dk_46 (dk_at dksX6_ahead_2 15 rfl rfl)
theorem dX6_ahead_62 : decode cX6_ahead 62 = .ok (.istore 5, 2) := dk_54 5 (dk_at dksX6_ahead_2 16 rfl rfl)
theorem dX6_ahead_64 : decode cX6_ahead 64 = .ok (.iconst 0, 1) := dk_3 (dk_at dksX6_ahead_2 18 rfl rfl)
theorem dX6_ahead_65 : decode cX6_ahead 65 = .ok (.istore 6, 2) := dk_54 6 (dk_at dksX6_ahead_2 19 rfl rfl)
theorem dX6_ahead_67 : decode cX6_ahead 67 = .ok (.iload 6, 2) := dk_21 6 (dk_at dksX6_ahead_2 21 rfl rfl)
theorem dX6_ahead_69 : decode cX6_ahead 69 = .ok (.iload_n 2, 1) := dk_28 (dk_at dksX6_ahead_2 23 rfl rfl)
theorem dX6_ahead_70 : decode cX6_ahead 70 = .ok (.if_icmp .ge 35, 3) := dk_162 0 35 (dk_at dksX6_ahead_3 0 rfl rfl)
theorem dX6_ahead_73 : decode cX6_ahead 73 = .ok (.aload_n 0, 1) := dk_42 (dk_at dksX6_ahead_3 3 rfl rfl)
theorem dX6_ahead_74 : decode cX6_ahead 74 = .ok (.invokevirtual 313, 3) := dk_182 1 57 (dk_at dksX6_ahead_3 4 rfl rfl)
theorem dX6_ahead_77 : decode cX6_ahead 77 = .ok (.aload_n 0, 1) := dk_42 (dk_at dksX6_ahead_3 7 rfl rfl)
theorem dX6_ahead_78 : decode cX6_ahead 78 = .ok (.iload_n 1, 1) := dk_27 (dk_at dksX6_ahead_3 8 rfl rfl)
theorem dX6_ahead_79 : decode cX6_ahead 79 = .ok (.invokevirtual 264, 3) := dk_182 1 8 (dk_at dksX6_ahead_3 9 rfl rfl)
theorem dX6_ahead_82 : decode cX6_ahead 82 = .ok (.iload 4, 2) := dk_21 4 (dk_at dksX6_ahead_3 12 rfl rfl)
theorem dX6_ahead_84 : decode cX6_ahead 84 = .ok (.if_icmp .le 11, 3) := dk_164 0 11 (dk_at dksX6_ahead_3 14 rfl rfl)
theorem dX6_ahead_87 : decode cX6_ahead 87 = .ok (.aload_n 0, 1) := dk_42 (dk_at dksX6_ahead_3 17 rfl rfl)
theorem dX6_ahead_88 : decode cX6_ahead 88 = .ok (.iload_n 1, 1) := dk_27 (dk_at dksX6_ahead_3 18 rfl rfl)
theorem dX6_ahead_89 : decode cX6_ahead 89 = .ok (.invokevirtual 264, 3) := dk_182 1 8 (dk_at dksX6_ahead_3 19 rfl rfl)
theorem dX6_ahead_92 : decode cX6_ahead 92 = .ok (.goto 5, 3) := dk_167 0 5 (dk_at dksX6_ahead_4 0 rfl rfl)
theorem dX6_ahead_95 : decode cX6_ahead 95 = .ok (.iload 4, 2) := dk_21 4 (dk_at dksX6_ahead_4 3 rfl rfl)
theorem dX6_ahead_97 : decode cX6_ahead 97 = .ok (.istore 4, 2) := dk_54 4 (dk_at dksX6_ahead_4 5 rfl rfl)
theorem dX6_ahead_99 : decode cX6_ahead 99 = .ok (.iinc 6 1, 3) := dk_132 6 1 (dk_at dksX6_ahead_4 7 rfl rfl)
theorem dX6_ahead_102 : decode cX6_ahead 102 = .ok (.goto (-35), 3) := dk_167 255 221 (dk_at dksX6_ahead_4 10 rfl rfl)
theorem dX6_ahead_105 : decode cX6_ahead 105 = .ok (.iload_n 3, 1) := dk_29 (dk_at dksX6_ahead_4 13 rfl rfl)
theorem dX6_ahead_106 : decode cX6_ahead 106 = .ok (.ifCond .ne 11, 3) := dk_154 0 11 (dk_at dksX6_ahead_4 14 rfl rfl)
theorem dX6_ahead_109 : decode cX6_ahead 109 = .ok (.aload_n 0, 1) := dk_42 (dk_at dksX6_ahead_4 17 rfl rfl)
theorem dX6_ahead_110 : decode cX6_ahead 110 = .ok (.iload_n 1, 1) := dk_27 (dk_at dksX6_ahead_4 18 rfl rfl)
theorem dX6_ahead_111 : decode cX6_ahead 111 = .ok (.invokevirtual 264, 3) := dk_182 1 8 (dk_at dksX6_ahead_4 19 rfl rfl)
theorem dX6_ahead_114 : decode cX6_ahead 114 = .ok (.goto 27, 3) := dk_167 0 27 (dk_at dksX6_ahead_5 0 rfl rfl)
theorem dX6_ahead_117 : decode cX6_ahead 117 = .ok (.iload_n 3, 1) := dk_29 (dk_at dksX6_ahead_5 3 rfl rfl)
theorem dX6_ahead_118 : decode cX6_ahead 118 = .ok (.iconst 1, 1) := dk_4 (dk_at dksX6_ahead_5 4 rfl rfl)
theorem dX6_ahead_119 : decode cX6_ahead 119 = .ok (.if_icmp .ne 8, 3) := dk_160 0 8 (dk_at dksX6_ahead_5 5 rfl rfl)
theorem dX6_ahead_122 : decode cX6_ahead 122 = .ok (.iload 4, 2) := dk_21 4 (dk_at dksX6_ahead_5 8 rfl rfl)
theorem dX6_ahead_124 : decode cX6_ahead 124 = .ok (.goto 17, 3) := dk_167 0 17 (dk_at dksX6_ahead_5 10 rfl rfl)
theorem dX6_ahead_127 : decode cX6_ahead 127 = .ok (.aload_n 0, 1) := dk_42 (dk_at dksX6_ahead_5 13 rfl rfl)
theorem dX6_ahead_128 : decode cX6_ahead 128 = .ok (.getfield 57, 3) := dk_180 0 57 (dk_at dksX6_ahead_5 14 rfl rfl)
theorem dX6_ahead_131 : decode cX6_ahead 131 = .ok (.bipush 24, 2) := dk_16 24 (dk_at dksX6_ahead_5 17 rfl rfl)
theorem dX6_ahead_133 : decode cX6_ahead 133 = .ok (.iload_n 1, 1) := dk_27 (dk_at dksX6_ahead_5 19 rfl rfl)
theorem dX6_ahead_134 : decode cX6_ahead 134 = .ok (.imul, 1) := dk_104 (dk_at dksX6_ahead_5 20 rfl rfl)
theorem dX6_ahead_135 : decode cX6_ahead 135 = .ok (.iconst 3, 1) := dk_6 (dk_at dksX6_ahead_5 21 rfl rfl)
theorem dX6_ahead_136 : decode cX6_ahead 136 = .ok (.iadd, 1) := dk_96 (dk_at dksX6_ahead_5 22 rfl rfl)
theorem dX6_ahead_137 : decode cX6_ahead 137 = .ok (.iaload, 1) := dk_46 (dk_at dksX6_ahead_5 23 rfl rfl)
theorem dX6_ahead_138 : decode cX6_ahead 138 = .ok (.iload 5, 2) := dk_21 5 (dk_at dksX6_ahead_6 0 rfl rfl)
theorem dX6_ahead_140 : decode cX6_ahead 140 = .ok (.isub, 1) := dk_100 (dk_at dksX6_ahead_6 2 rfl rfl)
theorem dX6_ahead_141 : decode cX6_ahead 141 = .ok (.istore 6, 2) := dk_54 6 (dk_at dksX6_ahead_6 3 rfl rfl)
theorem dX6_ahead_143 : decode cX6_ahead 143 = .ok (.aload_n 0, 1) := dk_42 (dk_at dksX6_ahead_6 5 rfl rfl)
theorem dX6_ahead_144 : decode cX6_ahead 144 = .ok (.getfield 60, 3) := dk_180 0 60 (dk_at dksX6_ahead_6 6 rfl rfl)
theorem dX6_ahead_147 : decode cX6_ahead 147 = .ok (.iconst 0, 1) := dk_3 (dk_at dksX6_ahead_6 9 rfl rfl)
theorem dX6_ahead_148 : decode cX6_ahead 148 = .ok (.aload_n 0, 1) := dk_42 (dk_at dksX6_ahead_6 10 rfl rfl)
theorem dX6_ahead_149 : decode cX6_ahead 149 = .ok (.getfield 57, 3) := dk_180 0 57 (dk_at dksX6_ahead_6 11 rfl rfl)
theorem dX6_ahead_152 : decode cX6_ahead 152 = .ok (.iconst 0, 1) := dk_3 (dk_at dksX6_ahead_6 14 rfl rfl)
theorem dX6_ahead_153 : decode cX6_ahead 153 = .ok (.invokestatic 254, 3) := dk_184 0 254 (dk_at dksX6_ahead_6 15 rfl rfl)
theorem dX6_ahead_156 : decode cX6_ahead 156 = .ok (.iload 6, 2) := dk_21 6 (dk_at dksX6_ahead_6 18 rfl rfl)
theorem dX6_ahead_158 : decode cX6_ahead 158 = .ok (.ireturn, 1) := dk_172 (dk_at dksX6_ahead_6 20 rfl rfl)
abbrev cX6_isFar : ByteArray := prog_18_method_93_code
def yX6_isFar : MethodName := ⟨RX6, "isFar", "(I)Z"⟩
def dkwX6_isFar_0 : List UInt8 := [26, 155, 0, 14, 26, 17, 1, 44, 163, 0, 7, 4, 167, 0, 4, 3, 172]
abbrev dktX6_isFar_0 : List UInt8 := dkwX6_isFar_0 ++ []
theorem dksX6_isFar_0 : cX6_isFar.data.toList.drop 0 = dktX6_isFar_0 := by decide +kernel
theorem dX6_isFar_0 : decode cX6_isFar 0 = .ok (.iload_n 0, 1) := dk_26 (dk_at dksX6_isFar_0 0 rfl rfl)
theorem dX6_isFar_1 : decode cX6_isFar 1 = .ok (.ifCond .lt 14, 3) := dk_155 0 14 (dk_at dksX6_isFar_0 1 rfl rfl)
theorem dX6_isFar_4 : decode cX6_isFar 4 = .ok (.iload_n 0, 1) := dk_26 (dk_at dksX6_isFar_0 4 rfl rfl)
theorem dX6_isFar_5 : decode cX6_isFar 5 = .ok (.sipush 300, 3) := dk_17 1 44 (dk_at dksX6_isFar_0 5 rfl rfl)
theorem dX6_isFar_8 : decode cX6_isFar 8 = .ok (.if_icmp .gt 7, 3) := dk_163 0 7 (dk_at dksX6_isFar_0 8 rfl rfl)
theorem dX6_isFar_11 : decode cX6_isFar 11 = .ok (.iconst 1, 1) := dk_4 (dk_at dksX6_isFar_0 11 rfl rfl)
theorem dX6_isFar_12 : decode cX6_isFar 12 = .ok (.goto 4, 3) := dk_167 0 4 (dk_at dksX6_isFar_0 12 rfl rfl)
theorem dX6_isFar_15 : decode cX6_isFar 15 = .ok (.iconst 0, 1) := dk_3 (dk_at dksX6_isFar_0 15 rfl rfl)
theorem dX6_isFar_16 : decode cX6_isFar 16 = .ok (.ireturn, 1) := dk_172 (dk_at dksX6_isFar_0 16 rfl rfl)
abbrev cX6_flows_2 : ByteArray := prog_18_method_95_code
def yX6_flows_2 : MethodName := ⟨RX6, "flows", "(III)I"⟩
def dkwX6_flows_2_5 : List UInt8 := [180, 0, 60, 3, 42, 180, 0, 57, 3, 184, 0, 254, 21, 6, 172]
abbrev dktX6_flows_2_5 : List UInt8 := dkwX6_flows_2_5 ++ []
def dkwX6_flows_2_4 : List UInt8 := [42, 182, 1, 57, 132, 6, 1, 167, 255, 243, 42, 180, 0, 57, 21, 4, 46, 21, 5, 100, 54, 6, 42]
abbrev dktX6_flows_2_4 : List UInt8 := dkwX6_flows_2_4 ++ dktX6_flows_2_5
def dkwX6_flows_2_3 : List UInt8 := [54, 5, 42, 180, 0, 57, 3, 42, 180, 0, 60, 3, 184, 0, 254, 3, 54, 6, 21, 6, 28, 162, 0, 13]
abbrev dktX6_flows_2_3 : List UInt8 := dkwX6_flows_2_3 ++ dktX6_flows_2_4
def dkwX6_flows_2_2 : List UInt8 := [8, 167, 0, 4, 7, 96, 54, 4, 29, 154, 0, 7, 3, 167, 0, 10, 42, 180, 0, 57, 21, 4, 46]
abbrev dktX6_flows_2_2 : List UInt8 := dkwX6_flows_2_2 ++ dktX6_flows_2_3
def dkwX6_flows_2_1 : List UInt8 := [29, 5, 164, 0, 5, 2, 172, 27, 184, 1, 2, 29, 154, 0, 7, 3, 167, 0, 13, 29, 4, 160, 0, 7]
abbrev dktX6_flows_2_1 : List UInt8 := dkwX6_flows_2_1 ++ dktX6_flows_2_2
def dkwX6_flows_2_0 : List UInt8 := [42, 3, 181, 0, 115, 42, 27, 182, 1, 60, 153, 0, 19, 28, 184, 1, 122, 153, 0, 12, 29, 155, 0, 8]
abbrev dktX6_flows_2_0 : List UInt8 := dkwX6_flows_2_0 ++ dktX6_flows_2_1
theorem dksX6_flows_2_0 : cX6_flows_2.data.toList.drop 0 = dktX6_flows_2_0 := by decide +kernel
theorem dksX6_flows_2_1 : cX6_flows_2.data.toList.drop 24 = dktX6_flows_2_1 := dk_seg dksX6_flows_2_0 24 rfl rfl
theorem dksX6_flows_2_2 : cX6_flows_2.data.toList.drop 48 = dktX6_flows_2_2 := dk_seg dksX6_flows_2_1 24 rfl rfl
theorem dksX6_flows_2_3 : cX6_flows_2.data.toList.drop 71 = dktX6_flows_2_3 := dk_seg dksX6_flows_2_2 23 rfl rfl
theorem dksX6_flows_2_4 : cX6_flows_2.data.toList.drop 95 = dktX6_flows_2_4 := dk_seg dksX6_flows_2_3 24 rfl rfl
theorem dksX6_flows_2_5 : cX6_flows_2.data.toList.drop 118 = dktX6_flows_2_5 := dk_seg dksX6_flows_2_4 23 rfl rfl
theorem dX6_flows_2_0 : decode cX6_flows_2 0 = .ok (.aload_n 0, 1) := dk_42 (dk_at dksX6_flows_2_0 0 rfl rfl)
theorem dX6_flows_2_1 : decode cX6_flows_2 1 = .ok (.iconst 0, 1) := dk_3 (dk_at dksX6_flows_2_0 1 rfl rfl)
theorem dX6_flows_2_2 : decode cX6_flows_2 2 = .ok (.putfield 115, 3) := dk_181 0 115 (dk_at dksX6_flows_2_0 2 rfl rfl)
theorem dX6_flows_2_5 : decode cX6_flows_2 5 = .ok (.aload_n 0, 1) := dk_42 (dk_at dksX6_flows_2_0 5 rfl rfl)
theorem dX6_flows_2_6 : decode cX6_flows_2 6 = .ok (.iload_n 1, 1) := dk_27 (dk_at dksX6_flows_2_0 6 rfl rfl)
theorem dX6_flows_2_7 : decode cX6_flows_2 7 = .ok (.invokevirtual 316, 3) := dk_182 1 60 (dk_at dksX6_flows_2_0 7 rfl rfl)
theorem dX6_flows_2_10 : decode cX6_flows_2 10 = .ok (.ifCond .eq 19, 3) := dk_153 0 19 (dk_at dksX6_flows_2_0 10 rfl rfl)
theorem dX6_flows_2_13 : decode cX6_flows_2 13 = .ok (.iload_n 2, 1) := dk_28 (dk_at dksX6_flows_2_0 13 rfl rfl)
theorem dX6_flows_2_14 : decode cX6_flows_2 14 = .ok (.invokestatic 378, 3) := dk_184 1 122 (dk_at dksX6_flows_2_0 14 rfl rfl)
theorem dX6_flows_2_17 : decode cX6_flows_2 17 = .ok (.ifCond .eq 12, 3) := dk_153 0 12 (dk_at dksX6_flows_2_0 17 rfl rfl)
theorem dX6_flows_2_20 : decode cX6_flows_2 20 = .ok (.iload_n 3, 1) := dk_29 (dk_at dksX6_flows_2_0 20 rfl rfl)
theorem dX6_flows_2_21 : decode cX6_flows_2 21 = .ok (.ifCond .lt 8, 3) := dk_155 0 8 (dk_at dksX6_flows_2_0 21 rfl rfl)
theorem dX6_flows_2_24 : decode cX6_flows_2 24 = .ok (.iload_n 3, 1) := dk_29 (dk_at dksX6_flows_2_1 0 rfl rfl)
theorem dX6_flows_2_25 : decode cX6_flows_2 25 = .ok (.iconst 2, 1) := dk_5 (dk_at dksX6_flows_2_1 1 rfl rfl)
theorem dX6_flows_2_26 : decode cX6_flows_2 26 = .ok (.if_icmp .le 5, 3) := dk_164 0 5 (dk_at dksX6_flows_2_1 2 rfl rfl)
theorem dX6_flows_2_29 : decode cX6_flows_2 29 = .ok (.iconst (-1), 1) := dk_2 (dk_at dksX6_flows_2_1 5 rfl rfl)
theorem dX6_flows_2_30 : decode cX6_flows_2 30 = .ok (.ireturn, 1) := dk_172 (dk_at dksX6_flows_2_1 6 rfl rfl)
theorem dX6_flows_2_31 : decode cX6_flows_2 31 = .ok (.iload_n 1, 1) := dk_27 (dk_at dksX6_flows_2_1 7 rfl rfl)
theorem dX6_flows_2_32 : decode cX6_flows_2 32 = .ok (.invokestatic 258, 3) := dk_184 1 2 (dk_at dksX6_flows_2_1 8 rfl rfl)
theorem dX6_flows_2_35 : decode cX6_flows_2 35 = .ok (.iload_n 3, 1) := dk_29 (dk_at dksX6_flows_2_1 11 rfl rfl)
theorem dX6_flows_2_36 : decode cX6_flows_2 36 = .ok (.ifCond .ne 7, 3) := dk_154 0 7 (dk_at dksX6_flows_2_1 12 rfl rfl)
theorem dX6_flows_2_39 : decode cX6_flows_2 39 = .ok (.iconst 0, 1) := dk_3 (dk_at dksX6_flows_2_1 15 rfl rfl)
theorem dX6_flows_2_40 : decode cX6_flows_2 40 = .ok (.goto 13, 3) := dk_167 0 13 (dk_at dksX6_flows_2_1 16 rfl rfl)
theorem dX6_flows_2_43 : decode cX6_flows_2 43 = .ok (.iload_n 3, 1) := dk_29 (dk_at dksX6_flows_2_1 19 rfl rfl)
theorem dX6_flows_2_44 : decode cX6_flows_2 44 = .ok (.iconst 1, 1) := dk_4 (dk_at dksX6_flows_2_1 20 rfl rfl)
theorem dX6_flows_2_45 : decode cX6_flows_2 45 = .ok (.if_icmp .ne 7, 3) := dk_160 0 7 (dk_at dksX6_flows_2_1 21 rfl rfl)
theorem dX6_flows_2_48 : decode cX6_flows_2 48 = .ok (.iconst 5, 1) := dk_8 (dk_at dksX6_flows_2_2 0 rfl rfl)
theorem dX6_flows_2_49 : decode cX6_flows_2 49 = .ok (.goto 4, 3) := dk_167 0 4 (dk_at dksX6_flows_2_2 1 rfl rfl)
theorem dX6_flows_2_52 : decode cX6_flows_2 52 = .ok (.iconst 4, 1) := dk_7 (dk_at dksX6_flows_2_2 4 rfl rfl)
theorem dX6_flows_2_53 : decode cX6_flows_2 53 = .ok (.iadd, 1) := dk_96 (dk_at dksX6_flows_2_2 5 rfl rfl)
theorem dX6_flows_2_54 : decode cX6_flows_2 54 = .ok (.istore 4, 2) := dk_54 4 (dk_at dksX6_flows_2_2 6 rfl rfl)
theorem dX6_flows_2_56 : decode cX6_flows_2 56 = .ok (.iload_n 3, 1) := dk_29 (dk_at dksX6_flows_2_2 8 rfl rfl)
theorem dX6_flows_2_57 : decode cX6_flows_2 57 = .ok (.ifCond .ne 7, 3) := dk_154 0 7 (dk_at dksX6_flows_2_2 9 rfl rfl)
theorem dX6_flows_2_60 : decode cX6_flows_2 60 = .ok (.iconst 0, 1) := dk_3 (dk_at dksX6_flows_2_2 12 rfl rfl)
theorem dX6_flows_2_61 : decode cX6_flows_2 61 = .ok (.goto 10, 3) := dk_167 0 10 (dk_at dksX6_flows_2_2 13 rfl rfl)
theorem dX6_flows_2_64 : decode cX6_flows_2 64 = .ok (.aload_n 0, 1) := dk_42 (dk_at dksX6_flows_2_2 16 rfl rfl)
theorem dX6_flows_2_65 : decode cX6_flows_2 65 = .ok (.getfield 57, 3) := dk_180 0 57 (dk_at dksX6_flows_2_2 17 rfl rfl)
theorem dX6_flows_2_68 : decode cX6_flows_2 68 = .ok (.iload 4, 2) := dk_21 4 (dk_at dksX6_flows_2_2 20 rfl rfl)
theorem dX6_flows_2_70 : decode cX6_flows_2 70 = .ok (.iaload, 1) := dk_46 (dk_at dksX6_flows_2_2 22 rfl rfl)
theorem dX6_flows_2_71 : decode cX6_flows_2 71 = .ok (.istore 5, 2) := dk_54 5 (dk_at dksX6_flows_2_3 0 rfl rfl)
theorem dX6_flows_2_73 : decode cX6_flows_2 73 = .ok (.aload_n 0, 1) := dk_42 (dk_at dksX6_flows_2_3 2 rfl rfl)
theorem dX6_flows_2_74 : decode cX6_flows_2 74 = .ok (.getfield 57, 3) := dk_180 0 57 (dk_at dksX6_flows_2_3 3 rfl rfl)
theorem dX6_flows_2_77 : decode cX6_flows_2 77 = .ok (.iconst 0, 1) := dk_3 (dk_at dksX6_flows_2_3 6 rfl rfl)
theorem dX6_flows_2_78 : decode cX6_flows_2 78 = .ok (.aload_n 0, 1) := dk_42 (dk_at dksX6_flows_2_3 7 rfl rfl)
theorem dX6_flows_2_79 : decode cX6_flows_2 79 = .ok (.getfield 60, 3) := dk_180 0 60 (dk_at dksX6_flows_2_3 8 rfl rfl)
theorem dX6_flows_2_82 : decode cX6_flows_2 82 = .ok (.iconst 0, 1) := dk_3 (dk_at dksX6_flows_2_3 11 rfl rfl)
theorem dX6_flows_2_83 : decode cX6_flows_2 83 = .ok (.invokestatic 254, 3) := dk_184 0 254 (dk_at dksX6_flows_2_3 12 rfl rfl)
theorem dX6_flows_2_86 : decode cX6_flows_2 86 = .ok (.iconst 0, 1) := dk_3 (dk_at dksX6_flows_2_3 15 rfl rfl)
theorem dX6_flows_2_87 : decode cX6_flows_2 87 = .ok (.istore 6, 2) := dk_54 6 (dk_at dksX6_flows_2_3 16 rfl rfl)
theorem dX6_flows_2_89 : decode cX6_flows_2 89 = .ok (.iload 6, 2) := dk_21 6 (dk_at dksX6_flows_2_3 18 rfl rfl)
theorem dX6_flows_2_91 : decode cX6_flows_2 91 = .ok (.iload_n 2, 1) := dk_28 (dk_at dksX6_flows_2_3 20 rfl rfl)
theorem dX6_flows_2_92 : decode cX6_flows_2 92 = .ok (.if_icmp .ge 13, 3) := dk_162 0 13 (dk_at dksX6_flows_2_3 21 rfl rfl)
theorem dX6_flows_2_95 : decode cX6_flows_2 95 = .ok (.aload_n 0, 1) := dk_42 (dk_at dksX6_flows_2_4 0 rfl rfl)
theorem dX6_flows_2_96 : decode cX6_flows_2 96 = .ok (.invokevirtual 313, 3) := dk_182 1 57 (dk_at dksX6_flows_2_4 1 rfl rfl)
theorem dX6_flows_2_99 : decode cX6_flows_2 99 = .ok (.iinc 6 1, 3) := dk_132 6 1 (dk_at dksX6_flows_2_4 4 rfl rfl)
theorem dX6_flows_2_102 : decode cX6_flows_2 102 = .ok (.goto (-13), 3) := dk_167 255 243 (dk_at dksX6_flows_2_4 7 rfl rfl)
theorem dX6_flows_2_105 : decode cX6_flows_2 105 = .ok (.aload_n 0, 1) := dk_42 (dk_at dksX6_flows_2_4 10 rfl rfl)
theorem dX6_flows_2_106 : decode cX6_flows_2 106 = .ok (.getfield 57, 3) := dk_180 0 57 (dk_at dksX6_flows_2_4 11 rfl rfl)
theorem dX6_flows_2_109 : decode cX6_flows_2 109 = .ok (.iload 4, 2) := dk_21 4 (dk_at dksX6_flows_2_4 14 rfl rfl)
theorem dX6_flows_2_111 : decode cX6_flows_2 111 = .ok (.iaload, 1) := dk_46 (dk_at dksX6_flows_2_4 16 rfl rfl)
theorem dX6_flows_2_112 : decode cX6_flows_2 112 = .ok (.iload 5, 2) := dk_21 5 (dk_at dksX6_flows_2_4 17 rfl rfl)
theorem dX6_flows_2_114 : decode cX6_flows_2 114 = .ok (.isub, 1) := dk_100 (dk_at dksX6_flows_2_4 19 rfl rfl)
theorem dX6_flows_2_115 : decode cX6_flows_2 115 = .ok (.istore 6, 2) := dk_54 6 (dk_at dksX6_flows_2_4 20 rfl rfl)
theorem dX6_flows_2_117 : decode cX6_flows_2 117 = .ok (.aload_n 0, 1) := dk_42 (dk_at dksX6_flows_2_4 22 rfl rfl)
theorem dX6_flows_2_118 : decode cX6_flows_2 118 = .ok (.getfield 60, 3) := dk_180 0 60 (dk_at dksX6_flows_2_5 0 rfl rfl)
theorem dX6_flows_2_121 : decode cX6_flows_2 121 = .ok (.iconst 0, 1) := dk_3 (dk_at dksX6_flows_2_5 3 rfl rfl)
theorem dX6_flows_2_122 : decode cX6_flows_2 122 = .ok (.aload_n 0, 1) := dk_42 (dk_at dksX6_flows_2_5 4 rfl rfl)
theorem dX6_flows_2_123 : decode cX6_flows_2 123 = .ok (.getfield 57, 3) := dk_180 0 57 (dk_at dksX6_flows_2_5 5 rfl rfl)
theorem dX6_flows_2_126 : decode cX6_flows_2 126 = .ok (.iconst 0, 1) := dk_3 (dk_at dksX6_flows_2_5 8 rfl rfl)
theorem dX6_flows_2_127 : decode cX6_flows_2 127 = .ok (.invokestatic 254, 3) := dk_184 0 254 (dk_at dksX6_flows_2_5 9 rfl rfl)
theorem dX6_flows_2_130 : decode cX6_flows_2 130 = .ok (.iload 6, 2) := dk_21 6 (dk_at dksX6_flows_2_5 12 rfl rfl)
theorem dX6_flows_2_132 : decode cX6_flows_2 132 = .ok (.ireturn, 1) := dk_172 (dk_at dksX6_flows_2_5 14 rfl rfl)
abbrev cX6_stalls : ByteArray := prog_18_method_97_code
def yX6_stalls : MethodName := ⟨RX6, "stalls", "()I"⟩
def dkwX6_stalls_3 : List UInt8 := [172]
abbrev dktX6_stalls_3 : List UInt8 := dkwX6_stalls_3 ++ []
def dkwX6_stalls_2 : List UInt8 := [61, 42, 180, 0, 60, 3, 42, 180, 0, 57, 3, 184, 0, 254, 28, 153, 0, 7, 27, 167, 0, 5, 16, 254]
abbrev dktX6_stalls_2 : List UInt8 := dkwX6_stalls_2 ++ dktX6_stalls_3
def dkwX6_stalls_1 : List UInt8 := [162, 0, 20, 42, 182, 1, 125, 154, 0, 13, 42, 182, 1, 57, 132, 1, 1, 167, 255, 235, 42, 182, 1, 125]
abbrev dktX6_stalls_1 : List UInt8 := dkwX6_stalls_1 ++ dktX6_stalls_2
def dkwX6_stalls_0 : List UInt8 := [42, 3, 181, 0, 115, 42, 180, 0, 57, 3, 42, 180, 0, 60, 3, 184, 0, 254, 3, 60, 27, 17, 1, 44]
abbrev dktX6_stalls_0 : List UInt8 := dkwX6_stalls_0 ++ dktX6_stalls_1
theorem dksX6_stalls_0 : cX6_stalls.data.toList.drop 0 = dktX6_stalls_0 := by decide +kernel
theorem dksX6_stalls_1 : cX6_stalls.data.toList.drop 24 = dktX6_stalls_1 := dk_seg dksX6_stalls_0 24 rfl rfl
theorem dksX6_stalls_2 : cX6_stalls.data.toList.drop 48 = dktX6_stalls_2 := dk_seg dksX6_stalls_1 24 rfl rfl
theorem dksX6_stalls_3 : cX6_stalls.data.toList.drop 72 = dktX6_stalls_3 := dk_seg dksX6_stalls_2 24 rfl rfl
theorem dX6_stalls_0 : decode cX6_stalls 0 = .ok (.aload_n 0, 1) := dk_42 (dk_at dksX6_stalls_0 0 rfl rfl)
theorem dX6_stalls_1 : decode cX6_stalls 1 = .ok (.iconst 0, 1) := dk_3 (dk_at dksX6_stalls_0 1 rfl rfl)
theorem dX6_stalls_2 : decode cX6_stalls 2 = .ok (.putfield 115, 3) := dk_181 0 115 (dk_at dksX6_stalls_0 2 rfl rfl)
theorem dX6_stalls_5 : decode cX6_stalls 5 = .ok (.aload_n 0, 1) := dk_42 (dk_at dksX6_stalls_0 5 rfl rfl)
theorem dX6_stalls_6 : decode cX6_stalls 6 = .ok (.getfield 57, 3) := dk_180 0 57 (dk_at dksX6_stalls_0 6 rfl rfl)
theorem dX6_stalls_9 : decode cX6_stalls 9 = .ok (.iconst 0, 1) := dk_3 (dk_at dksX6_stalls_0 9 rfl rfl)
theorem dX6_stalls_10 : decode cX6_stalls 10 = .ok (.aload_n 0, 1) := dk_42 (dk_at dksX6_stalls_0 10 rfl rfl)
theorem dX6_stalls_11 : decode cX6_stalls 11 = .ok (.getfield 60, 3) := dk_180 0 60 (dk_at dksX6_stalls_0 11 rfl rfl)
theorem dX6_stalls_14 : decode cX6_stalls 14 = .ok (.iconst 0, 1) := dk_3 (dk_at dksX6_stalls_0 14 rfl rfl)
theorem dX6_stalls_15 : decode cX6_stalls 15 = .ok (.invokestatic 254, 3) := dk_184 0 254 (dk_at dksX6_stalls_0 15 rfl rfl)
theorem dX6_stalls_18 : decode cX6_stalls 18 = .ok (.iconst 0, 1) := dk_3 (dk_at dksX6_stalls_0 18 rfl rfl)
theorem dX6_stalls_19 : decode cX6_stalls 19 = .ok (.istore_n 1, 1) := dk_60 (dk_at dksX6_stalls_0 19 rfl rfl)
theorem dX6_stalls_20 : decode cX6_stalls 20 = .ok (.iload_n 1, 1) := dk_27 (dk_at dksX6_stalls_0 20 rfl rfl)
theorem dX6_stalls_21 : decode cX6_stalls 21 = .ok (.sipush 300, 3) := dk_17 1 44 (dk_at dksX6_stalls_0 21 rfl rfl)
theorem dX6_stalls_24 : decode cX6_stalls 24 = .ok (.if_icmp .ge 20, 3) := dk_162 0 20 (dk_at dksX6_stalls_1 0 rfl rfl)
theorem dX6_stalls_27 : decode cX6_stalls 27 = .ok (.aload_n 0, 1) := dk_42 (dk_at dksX6_stalls_1 3 rfl rfl)
theorem dX6_stalls_28 : decode cX6_stalls 28 = .ok (.invokevirtual 381, 3) := dk_182 1 125 (dk_at dksX6_stalls_1 4 rfl rfl)
theorem dX6_stalls_31 : decode cX6_stalls 31 = .ok (.ifCond .ne 13, 3) := dk_154 0 13 (dk_at dksX6_stalls_1 7 rfl rfl)
theorem dX6_stalls_34 : decode cX6_stalls 34 = .ok (.aload_n 0, 1) := dk_42 (dk_at dksX6_stalls_1 10 rfl rfl)
theorem dX6_stalls_35 : decode cX6_stalls 35 = .ok (.invokevirtual 313, 3) := dk_182 1 57 (dk_at dksX6_stalls_1 11 rfl rfl)
theorem dX6_stalls_38 : decode cX6_stalls 38 = .ok (.iinc 1 1, 3) := dk_132 1 1 (dk_at dksX6_stalls_1 14 rfl rfl)
theorem dX6_stalls_41 : decode cX6_stalls 41 = .ok (.goto (-21), 3) := dk_167 255 235 (dk_at dksX6_stalls_1 17 rfl rfl)
theorem dX6_stalls_44 : decode cX6_stalls 44 = .ok (.aload_n 0, 1) := dk_42 (dk_at dksX6_stalls_1 20 rfl rfl)
theorem dX6_stalls_45 : decode cX6_stalls 45 = .ok (.invokevirtual 381, 3) := dk_182 1 125 (dk_at dksX6_stalls_1 21 rfl rfl)
theorem dX6_stalls_48 : decode cX6_stalls 48 = .ok (.istore_n 2, 1) := dk_61 (dk_at dksX6_stalls_2 0 rfl rfl)
theorem dX6_stalls_49 : decode cX6_stalls 49 = .ok (.aload_n 0, 1) := dk_42 (dk_at dksX6_stalls_2 1 rfl rfl)
theorem dX6_stalls_50 : decode cX6_stalls 50 = .ok (.getfield 60, 3) := dk_180 0 60 (dk_at dksX6_stalls_2 2 rfl rfl)
theorem dX6_stalls_53 : decode cX6_stalls 53 = .ok (.iconst 0, 1) := dk_3 (dk_at dksX6_stalls_2 5 rfl rfl)
theorem dX6_stalls_54 : decode cX6_stalls 54 = .ok (.aload_n 0, 1) := dk_42 (dk_at dksX6_stalls_2 6 rfl rfl)
theorem dX6_stalls_55 : decode cX6_stalls 55 = .ok (.getfield 57, 3) := dk_180 0 57 (dk_at dksX6_stalls_2 7 rfl rfl)
theorem dX6_stalls_58 : decode cX6_stalls 58 = .ok (.iconst 0, 1) := dk_3 (dk_at dksX6_stalls_2 10 rfl rfl)
theorem dX6_stalls_59 : decode cX6_stalls 59 = .ok (.invokestatic 254, 3) := dk_184 0 254 (dk_at dksX6_stalls_2 11 rfl rfl)
theorem dX6_stalls_62 : decode cX6_stalls 62 = .ok (.iload_n 2, 1) := dk_28 (dk_at dksX6_stalls_2 14 rfl rfl)
theorem dX6_stalls_63 : decode cX6_stalls 63 = .ok (.ifCond .eq 7, 3) := dk_153 0 7 (dk_at dksX6_stalls_2 15 rfl rfl)
theorem dX6_stalls_66 : decode cX6_stalls 66 = .ok (.iload_n 1, 1) := dk_27 (dk_at dksX6_stalls_2 18 rfl rfl)
theorem dX6_stalls_67 : decode cX6_stalls 67 = .ok (.goto 5, 3) := dk_167 0 5 (dk_at dksX6_stalls_2 19 rfl rfl)
theorem dX6_stalls_70 : decode cX6_stalls 70 = .ok (.bipush (-2), 2) := dk_16 254 (dk_at dksX6_stalls_2 22 rfl rfl)
theorem dX6_stalls_72 : decode cX6_stalls 72 = .ok (.ireturn, 1) := dk_172 (dk_at dksX6_stalls_3 0 rfl rfl)
abbrev cX6_isStalled : ByteArray := prog_18_method_96_code
def yX6_isStalled : MethodName := ⟨RX6, "isStalled", "()Z"⟩
def dkwX6_isStalled_0 : List UInt8 := [42, 3, 182, 1, 80, 42, 182, 1, 87, 153, 0, 7, 4, 167, 0, 4, 3, 172]
abbrev dktX6_isStalled_0 : List UInt8 := dkwX6_isStalled_0 ++ []
theorem dksX6_isStalled_0 : cX6_isStalled.data.toList.drop 0 = dktX6_isStalled_0 := by decide +kernel
theorem dX6_isStalled_0 : decode cX6_isStalled 0 = .ok (.aload_n 0, 1) := dk_42 (dk_at dksX6_isStalled_0 0 rfl rfl)
theorem dX6_isStalled_1 : decode cX6_isStalled 1 = .ok (.iconst 0, 1) := dk_3 (dk_at dksX6_isStalled_0 1 rfl rfl)
theorem dX6_isStalled_2 : decode cX6_isStalled 2 = .ok (.invokevirtual 336, 3) := dk_182 1 80 (dk_at dksX6_isStalled_0 2 rfl rfl)
theorem dX6_isStalled_5 : decode cX6_isStalled 5 = .ok (.aload_n 0, 1) := dk_42 (dk_at dksX6_isStalled_0 5 rfl rfl)
theorem dX6_isStalled_6 : decode cX6_isStalled 6 = .ok (.invokevirtual 343, 3) := dk_182 1 87 (dk_at dksX6_isStalled_0 6 rfl rfl)
theorem dX6_isStalled_9 : decode cX6_isStalled 9 = .ok (.ifCond .eq 7, 3) := dk_153 0 7 (dk_at dksX6_isStalled_0 9 rfl rfl)
theorem dX6_isStalled_12 : decode cX6_isStalled 12 = .ok (.iconst 1, 1) := dk_4 (dk_at dksX6_isStalled_0 12 rfl rfl)
theorem dX6_isStalled_13 : decode cX6_isStalled 13 = .ok (.goto 4, 3) := dk_167 0 4 (dk_at dksX6_isStalled_0 13 rfl rfl)
theorem dX6_isStalled_16 : decode cX6_isStalled 16 = .ok (.iconst 0, 1) := dk_3 (dk_at dksX6_isStalled_0 16 rfl rfl)
theorem dX6_isStalled_17 : decode cX6_isStalled 17 = .ok (.ireturn, 1) := dk_172 (dk_at dksX6_isStalled_0 17 rfl rfl)
abbrev cX6_quiet : ByteArray := prog_18_method_99_code
def yX6_quiet : MethodName := ⟨RX6, "quiet", "()I"⟩
def dkwX6_quiet_4 : List UInt8 := [28, 153, 0, 7, 27, 167, 0, 5, 16, 254, 172]
abbrev dktX6_quiet_4 : List UInt8 := dkwX6_quiet_4 ++ []
def dkwX6_quiet_3 : List UInt8 := [132, 1, 1, 167, 255, 235, 42, 182, 1, 129, 61, 42, 180, 0, 60, 3, 42, 180, 0, 57, 3, 184, 0, 254]
abbrev dktX6_quiet_3 : List UInt8 := dkwX6_quiet_3 ++ dktX6_quiet_4
def dkwX6_quiet_2 : List UInt8 := [167, 255, 232, 3, 60, 27, 17, 1, 44, 162, 0, 20, 42, 182, 1, 129, 154, 0, 13, 42, 182, 1, 57]
abbrev dktX6_quiet_2 : List UInt8 := dkwX6_quiet_2 ++ dktX6_quiet_3
def dkwX6_quiet_1 : List UInt8 := [182, 0, 251, 162, 0, 22, 42, 180, 0, 57, 27, 184, 1, 2, 16, 7, 96, 3, 79, 132, 1, 1]
abbrev dktX6_quiet_1 : List UInt8 := dkwX6_quiet_1 ++ dktX6_quiet_2
def dkwX6_quiet_0 : List UInt8 := [42, 3, 181, 0, 115, 42, 180, 0, 57, 3, 42, 180, 0, 60, 3, 184, 0, 254, 3, 60, 27, 42]
abbrev dktX6_quiet_0 : List UInt8 := dkwX6_quiet_0 ++ dktX6_quiet_1
theorem dksX6_quiet_0 : cX6_quiet.data.toList.drop 0 = dktX6_quiet_0 := by decide +kernel
theorem dksX6_quiet_1 : cX6_quiet.data.toList.drop 22 = dktX6_quiet_1 := dk_seg dksX6_quiet_0 22 rfl rfl
theorem dksX6_quiet_2 : cX6_quiet.data.toList.drop 44 = dktX6_quiet_2 := dk_seg dksX6_quiet_1 22 rfl rfl
theorem dksX6_quiet_3 : cX6_quiet.data.toList.drop 67 = dktX6_quiet_3 := dk_seg dksX6_quiet_2 23 rfl rfl
theorem dksX6_quiet_4 : cX6_quiet.data.toList.drop 91 = dktX6_quiet_4 := dk_seg dksX6_quiet_3 24 rfl rfl
theorem dX6_quiet_0 : decode cX6_quiet 0 = .ok (.aload_n 0, 1) := dk_42 (dk_at dksX6_quiet_0 0 rfl rfl)
theorem dX6_quiet_1 : decode cX6_quiet 1 = .ok (.iconst 0, 1) := dk_3 (dk_at dksX6_quiet_0 1 rfl rfl)
theorem dX6_quiet_2 : decode cX6_quiet 2 = .ok (.putfield 115, 3) := dk_181 0 115 (dk_at dksX6_quiet_0 2 rfl rfl)
theorem dX6_quiet_5 : decode cX6_quiet 5 = .ok (.aload_n 0, 1) := dk_42 (dk_at dksX6_quiet_0 5 rfl rfl)
theorem dX6_quiet_6 : decode cX6_quiet 6 = .ok (.getfield 57, 3) := dk_180 0 57 (dk_at dksX6_quiet_0 6 rfl rfl)
theorem dX6_quiet_9 : decode cX6_quiet 9 = .ok (.iconst 0, 1) := dk_3 (dk_at dksX6_quiet_0 9 rfl rfl)
theorem dX6_quiet_10 : decode cX6_quiet 10 = .ok (.aload_n 0, 1) := dk_42 (dk_at dksX6_quiet_0 10 rfl rfl)
theorem dX6_quiet_11 : decode cX6_quiet 11 = .ok (.getfield 60, 3) := dk_180 0 60 (dk_at dksX6_quiet_0 11 rfl rfl)
theorem dX6_quiet_14 : decode cX6_quiet 14 = .ok (.iconst 0, 1) := dk_3 (dk_at dksX6_quiet_0 14 rfl rfl)
theorem dX6_quiet_15 : decode cX6_quiet 15 = .ok (.invokestatic 254, 3) := dk_184 0 254 (dk_at dksX6_quiet_0 15 rfl rfl)
theorem dX6_quiet_18 : decode cX6_quiet 18 = .ok (.iconst 0, 1) := dk_3 (dk_at dksX6_quiet_0 18 rfl rfl)
theorem dX6_quiet_19 : decode cX6_quiet 19 = .ok (.istore_n 1, 1) := dk_60 (dk_at dksX6_quiet_0 19 rfl rfl)
theorem dX6_quiet_20 : decode cX6_quiet 20 = .ok (.iload_n 1, 1) := dk_27 (dk_at dksX6_quiet_0 20 rfl rfl)
theorem dX6_quiet_21 : decode cX6_quiet 21 = .ok (.aload_n 0, 1) := dk_42 (dk_at dksX6_quiet_0 21 rfl rfl)
theorem dX6_quiet_22 : decode cX6_quiet 22 = .ok (.invokevirtual 251, 3) := dk_182 0 251 (dk_at dksX6_quiet_1 0 rfl rfl)
theorem dX6_quiet_25 : decode cX6_quiet 25 = .ok (.if_icmp .ge 22, 3) := dk_162 0 22 (dk_at dksX6_quiet_1 3 rfl rfl)
theorem dX6_quiet_28 : decode cX6_quiet 28 = .ok (.aload_n 0, 1) := dk_42 (dk_at dksX6_quiet_1 6 rfl rfl)
theorem dX6_quiet_29 : decode cX6_quiet 29 = .ok (.getfield 57, 3) := dk_180 0 57 (dk_at dksX6_quiet_1 7 rfl rfl)
theorem dX6_quiet_32 : decode cX6_quiet 32 = .ok (.iload_n 1, 1) := dk_27 (dk_at dksX6_quiet_1 10 rfl rfl)
theorem dX6_quiet_33 : decode cX6_quiet 33 = .ok (.invokestatic 258, 3) := dk_184 1 2 (dk_at dksX6_quiet_1 11 rfl rfl)
theorem dX6_quiet_36 : decode cX6_quiet 36 = .ok (.bipush 7, 2) := dk_16 7 (dk_at dksX6_quiet_1 14 rfl rfl)
theorem dX6_quiet_38 : decode cX6_quiet 38 = .ok (.iadd, 1) := dk_96 (dk_at dksX6_quiet_1 16 rfl rfl)
theorem dX6_quiet_39 : decode cX6_quiet 39 = .ok (.iconst 0, 1) := dk_3 (dk_at dksX6_quiet_1 17 rfl rfl)
theorem dX6_quiet_40 : decode cX6_quiet 40 = .ok (.iastore, 1) := dk_79 (dk_at dksX6_quiet_1 18 rfl rfl)
theorem dX6_quiet_41 : decode cX6_quiet 41 = .ok (.iinc 1 1, 3) := dk_132 1 1 (dk_at dksX6_quiet_1 19 rfl rfl)
theorem dX6_quiet_44 : decode cX6_quiet 44 = .ok (.goto (-24), 3) := dk_167 255 232 (dk_at dksX6_quiet_2 0 rfl rfl)
theorem dX6_quiet_47 : decode cX6_quiet 47 = .ok (.iconst 0, 1) := dk_3 (dk_at dksX6_quiet_2 3 rfl rfl)
theorem dX6_quiet_48 : decode cX6_quiet 48 = .ok (.istore_n 1, 1) := dk_60 (dk_at dksX6_quiet_2 4 rfl rfl)
theorem dX6_quiet_49 : decode cX6_quiet 49 = .ok (.iload_n 1, 1) := dk_27 (dk_at dksX6_quiet_2 5 rfl rfl)
theorem dX6_quiet_50 : decode cX6_quiet 50 = .ok (.sipush 300, 3) := dk_17 1 44 (dk_at dksX6_quiet_2 6 rfl rfl)
theorem dX6_quiet_53 : decode cX6_quiet 53 = .ok (.if_icmp .ge 20, 3) := dk_162 0 20 (dk_at dksX6_quiet_2 9 rfl rfl)
theorem dX6_quiet_56 : decode cX6_quiet 56 = .ok (.aload_n 0, 1) := dk_42 (dk_at dksX6_quiet_2 12 rfl rfl)
theorem dX6_quiet_57 : decode cX6_quiet 57 = .ok (.invokevirtual 385, 3) := dk_182 1 129 (dk_at dksX6_quiet_2 13 rfl rfl)
theorem dX6_quiet_60 : decode cX6_quiet 60 = .ok (.ifCond .ne 13, 3) := dk_154 0 13 (dk_at dksX6_quiet_2 16 rfl rfl)
theorem dX6_quiet_63 : decode cX6_quiet 63 = .ok (.aload_n 0, 1) := dk_42 (dk_at dksX6_quiet_2 19 rfl rfl)
theorem dX6_quiet_64 : decode cX6_quiet 64 = .ok (.invokevirtual 313, 3) := dk_182 1 57 (dk_at dksX6_quiet_2 20 rfl rfl)
theorem dX6_quiet_67 : decode cX6_quiet 67 = .ok (.iinc 1 1, 3) := dk_132 1 1 (dk_at dksX6_quiet_3 0 rfl rfl)
theorem dX6_quiet_70 : decode cX6_quiet 70 = .ok (.goto (-21), 3) := dk_167 255 235 (dk_at dksX6_quiet_3 3 rfl rfl)
theorem dX6_quiet_73 : decode cX6_quiet 73 = .ok (.aload_n 0, 1) := dk_42 (dk_at dksX6_quiet_3 6 rfl rfl)
theorem dX6_quiet_74 : decode cX6_quiet 74 = .ok (.invokevirtual 385, 3) := dk_182 1 129 (dk_at dksX6_quiet_3 7 rfl rfl)
theorem dX6_quiet_77 : decode cX6_quiet 77 = .ok (.istore_n 2, 1) := dk_61 (dk_at dksX6_quiet_3 10 rfl rfl)
theorem dX6_quiet_78 : decode cX6_quiet 78 = .ok (.aload_n 0, 1) := dk_42 (dk_at dksX6_quiet_3 11 rfl rfl)
theorem dX6_quiet_79 : decode cX6_quiet 79 = .ok (.getfield 60, 3) := dk_180 0 60 (dk_at dksX6_quiet_3 12 rfl rfl)
theorem dX6_quiet_82 : decode cX6_quiet 82 = .ok (.iconst 0, 1) := dk_3 (dk_at dksX6_quiet_3 15 rfl rfl)
theorem dX6_quiet_83 : decode cX6_quiet 83 = .ok (.aload_n 0, 1) := dk_42 (dk_at dksX6_quiet_3 16 rfl rfl)
theorem dX6_quiet_84 : decode cX6_quiet 84 = .ok (.getfield 57, 3) := dk_180 0 57 (dk_at dksX6_quiet_3 17 rfl rfl)
theorem dX6_quiet_87 : decode cX6_quiet 87 = .ok (.iconst 0, 1) := dk_3 (dk_at dksX6_quiet_3 20 rfl rfl)
theorem dX6_quiet_88 : decode cX6_quiet 88 = .ok (.invokestatic 254, 3) := dk_184 0 254 (dk_at dksX6_quiet_3 21 rfl rfl)
theorem dX6_quiet_91 : decode cX6_quiet 91 = .ok (.iload_n 2, 1) := dk_28 (dk_at dksX6_quiet_4 0 rfl rfl)
theorem dX6_quiet_92 : decode cX6_quiet 92 = .ok (.ifCond .eq 7, 3) := dk_153 0 7 (dk_at dksX6_quiet_4 1 rfl rfl)
theorem dX6_quiet_95 : decode cX6_quiet 95 = .ok (.iload_n 1, 1) := dk_27 (dk_at dksX6_quiet_4 4 rfl rfl)
theorem dX6_quiet_96 : decode cX6_quiet 96 = .ok (.goto 5, 3) := dk_167 0 5 (dk_at dksX6_quiet_4 5 rfl rfl)
theorem dX6_quiet_99 : decode cX6_quiet 99 = .ok (.bipush (-2), 2) := dk_16 254 (dk_at dksX6_quiet_4 8 rfl rfl)
theorem dX6_quiet_101 : decode cX6_quiet 101 = .ok (.ireturn, 1) := dk_172 (dk_at dksX6_quiet_4 10 rfl rfl)
abbrev cX6_isEmpty : ByteArray := prog_18_method_98_code
def yX6_isEmpty : MethodName := ⟨RX6, "isEmpty", "()Z"⟩
def dkwX6_isEmpty_1 : List UInt8 := [167, 255, 235, 4, 172]
abbrev dktX6_isEmpty_1 : List UInt8 := dkwX6_isEmpty_1 ++ []
def dkwX6_isEmpty_0 : List UInt8 := [3, 60, 27, 42, 182, 0, 248, 162, 0, 19, 42, 27, 182, 1, 8, 158, 0, 5, 3, 172, 132, 1, 1]
abbrev dktX6_isEmpty_0 : List UInt8 := dkwX6_isEmpty_0 ++ dktX6_isEmpty_1
theorem dksX6_isEmpty_0 : cX6_isEmpty.data.toList.drop 0 = dktX6_isEmpty_0 := by decide +kernel
theorem dksX6_isEmpty_1 : cX6_isEmpty.data.toList.drop 23 = dktX6_isEmpty_1 := dk_seg dksX6_isEmpty_0 23 rfl rfl
theorem dX6_isEmpty_0 : decode cX6_isEmpty 0 = .ok (.iconst 0, 1) := dk_3 (dk_at dksX6_isEmpty_0 0 rfl rfl)
theorem dX6_isEmpty_1 : decode cX6_isEmpty 1 = .ok (.istore_n 1, 1) := dk_60 (dk_at dksX6_isEmpty_0 1 rfl rfl)
theorem dX6_isEmpty_2 : decode cX6_isEmpty 2 = .ok (.iload_n 1, 1) := dk_27 (dk_at dksX6_isEmpty_0 2 rfl rfl)
theorem dX6_isEmpty_3 : decode cX6_isEmpty 3 = .ok (.aload_n 0, 1) := dk_42 (dk_at dksX6_isEmpty_0 3 rfl rfl)
theorem dX6_isEmpty_4 : decode cX6_isEmpty 4 = .ok (.invokevirtual 248, 3) := dk_182 0 248 (dk_at dksX6_isEmpty_0 4 rfl rfl)
theorem dX6_isEmpty_7 : decode cX6_isEmpty 7 = .ok (.if_icmp .ge 19, 3) := dk_162 0 19 (dk_at dksX6_isEmpty_0 7 rfl rfl)
theorem dX6_isEmpty_10 : decode cX6_isEmpty 10 = .ok (.aload_n 0, 1) := dk_42 (dk_at dksX6_isEmpty_0 10 rfl rfl)
theorem dX6_isEmpty_11 : decode cX6_isEmpty 11 = .ok (.iload_n 1, 1) := dk_27 (dk_at dksX6_isEmpty_0 11 rfl rfl)
theorem dX6_isEmpty_12 : decode cX6_isEmpty 12 = .ok (.invokevirtual 264, 3) := dk_182 1 8 (dk_at dksX6_isEmpty_0 12 rfl rfl)
theorem dX6_isEmpty_15 : decode cX6_isEmpty 15 = .ok (.ifCond .le 5, 3) := dk_158 0 5 (dk_at dksX6_isEmpty_0 15 rfl rfl)
theorem dX6_isEmpty_18 : decode cX6_isEmpty 18 = .ok (.iconst 0, 1) := dk_3 (dk_at dksX6_isEmpty_0 18 rfl rfl)
theorem dX6_isEmpty_19 : decode cX6_isEmpty 19 = .ok (.ireturn, 1) := dk_172 (dk_at dksX6_isEmpty_0 19 rfl rfl)
theorem dX6_isEmpty_20 : decode cX6_isEmpty 20 = .ok (.iinc 1 1, 3) := dk_132 1 1 (dk_at dksX6_isEmpty_0 20 rfl rfl)
theorem dX6_isEmpty_23 : decode cX6_isEmpty 23 = .ok (.goto (-21), 3) := dk_167 255 235 (dk_at dksX6_isEmpty_1 0 rfl rfl)
theorem dX6_isEmpty_26 : decode cX6_isEmpty 26 = .ok (.iconst 1, 1) := dk_4 (dk_at dksX6_isEmpty_1 3 rfl rfl)
theorem dX6_isEmpty_27 : decode cX6_isEmpty 27 = .ok (.ireturn, 1) := dk_172 (dk_at dksX6_isEmpty_1 4 rfl rfl)
abbrev cX6_worst : ByteArray := prog_18_method_101_code
def yX6_worst : MethodName := ⟨RX6, "worst", "(I)I"⟩
def dkwX6_worst_7 : List UInt8 := [61, 21, 6, 62, 132, 4, 1, 167, 255, 122, 28, 172]
abbrev dktX6_worst_7 : List UInt8 := dkwX6_worst_7 ++ []
def dkwX6_worst_6 : List UInt8 := [180, 0, 57, 3, 184, 0, 254, 28, 16, 254, 159, 0, 12, 21, 6, 29, 163, 0, 6, 167, 0, 9, 21, 4]
abbrev dktX6_worst_6 : List UInt8 := dkwX6_worst_6 ++ dktX6_worst_7
def dkwX6_worst_5 : List UInt8 := [180, 0, 57, 21, 4, 184, 1, 2, 8, 96, 46, 100, 21, 5, 100, 54, 6, 42, 180, 0, 60, 3, 42]
abbrev dktX6_worst_5 : List UInt8 := dkwX6_worst_5 ++ dktX6_worst_6
def dkwX6_worst_4 : List UInt8 := [54, 6, 21, 6, 27, 162, 0, 13, 42, 182, 1, 57, 132, 6, 1, 167, 255, 243, 42, 8, 182, 1, 132, 42]
abbrev dktX6_worst_4 : List UInt8 := dkwX6_worst_4 ++ dktX6_worst_5
def dkwX6_worst_3 : List UInt8 := [184, 1, 2, 8, 96, 46, 100, 54, 5, 42, 180, 0, 57, 21, 4, 184, 1, 2, 16, 7, 96, 3, 79, 3]
abbrev dktX6_worst_3 : List UInt8 := dkwX6_worst_3 ++ dktX6_worst_4
def dkwX6_worst_2 : List UInt8 := [42, 21, 4, 182, 1, 27, 154, 0, 6, 167, 0, 113, 42, 8, 182, 1, 132, 42, 180, 0, 57, 21, 4]
abbrev dktX6_worst_2 : List UInt8 := dkwX6_worst_2 ++ dktX6_worst_3
def dkwX6_worst_1 : List UInt8 := [180, 0, 57, 3, 42, 180, 0, 60, 3, 184, 0, 254, 3, 54, 4, 21, 4, 42, 182, 0, 251, 162, 0, 131]
abbrev dktX6_worst_1 : List UInt8 := dkwX6_worst_1 ++ dktX6_worst_2
def dkwX6_worst_0 : List UInt8 := [42, 3, 181, 0, 115, 27, 4, 161, 0, 9, 27, 16, 40, 164, 0, 5, 2, 172, 16, 254, 61, 3, 62, 42]
abbrev dktX6_worst_0 : List UInt8 := dkwX6_worst_0 ++ dktX6_worst_1
theorem dksX6_worst_0 : cX6_worst.data.toList.drop 0 = dktX6_worst_0 := by decide +kernel
theorem dksX6_worst_1 : cX6_worst.data.toList.drop 24 = dktX6_worst_1 := dk_seg dksX6_worst_0 24 rfl rfl
theorem dksX6_worst_2 : cX6_worst.data.toList.drop 48 = dktX6_worst_2 := dk_seg dksX6_worst_1 24 rfl rfl
theorem dksX6_worst_3 : cX6_worst.data.toList.drop 71 = dktX6_worst_3 := dk_seg dksX6_worst_2 23 rfl rfl
theorem dksX6_worst_4 : cX6_worst.data.toList.drop 95 = dktX6_worst_4 := dk_seg dksX6_worst_3 24 rfl rfl
theorem dksX6_worst_5 : cX6_worst.data.toList.drop 119 = dktX6_worst_5 := dk_seg dksX6_worst_4 24 rfl rfl
theorem dksX6_worst_6 : cX6_worst.data.toList.drop 142 = dktX6_worst_6 := dk_seg dksX6_worst_5 23 rfl rfl
theorem dksX6_worst_7 : cX6_worst.data.toList.drop 166 = dktX6_worst_7 := dk_seg dksX6_worst_6 24 rfl rfl
theorem dX6_worst_0 : decode cX6_worst 0 = .ok (.aload_n 0, 1) := dk_42 (dk_at dksX6_worst_0 0 rfl rfl)
theorem dX6_worst_1 : decode cX6_worst 1 = .ok (.iconst 0, 1) := dk_3 (dk_at dksX6_worst_0 1 rfl rfl)
theorem dX6_worst_2 : decode cX6_worst 2 = .ok (.putfield 115, 3) := dk_181 0 115 (dk_at dksX6_worst_0 2 rfl rfl)
theorem dX6_worst_5 : decode cX6_worst 5 = .ok (.iload_n 1, 1) := dk_27 (dk_at dksX6_worst_0 5 rfl rfl)
theorem dX6_worst_6 : decode cX6_worst 6 = .ok (.iconst 1, 1) := dk_4 (dk_at dksX6_worst_0 6 rfl rfl)
theorem dX6_worst_7 : decode cX6_worst 7 = .ok (.if_icmp .lt 9, 3) := dk_161 0 9 (dk_at dksX6_worst_0 7 rfl rfl)
theorem dX6_worst_10 : decode cX6_worst 10 = .ok (.iload_n 1, 1) := dk_27 (dk_at dksX6_worst_0 10 rfl rfl)
theorem dX6_worst_11 : decode cX6_worst 11 = .ok (.bipush 40, 2) := dk_16 40 (dk_at dksX6_worst_0 11 rfl rfl)
theorem dX6_worst_13 : decode cX6_worst 13 = .ok (.if_icmp .le 5, 3) := dk_164 0 5 (dk_at dksX6_worst_0 13 rfl rfl)
theorem dX6_worst_16 : decode cX6_worst 16 = .ok (.iconst (-1), 1) := dk_2 (dk_at dksX6_worst_0 16 rfl rfl)
theorem dX6_worst_17 : decode cX6_worst 17 = .ok (.ireturn, 1) := dk_172 (dk_at dksX6_worst_0 17 rfl rfl)
theorem dX6_worst_18 : decode cX6_worst 18 = .ok (.bipush (-2), 2) := dk_16 254 (dk_at dksX6_worst_0 18 rfl rfl)
theorem dX6_worst_20 : decode cX6_worst 20 = .ok (.istore_n 2, 1) := dk_61 (dk_at dksX6_worst_0 20 rfl rfl)
theorem dX6_worst_21 : decode cX6_worst 21 = .ok (.iconst 0, 1) := dk_3 (dk_at dksX6_worst_0 21 rfl rfl)
theorem dX6_worst_22 : decode cX6_worst 22 = .ok (.istore_n 3, 1) := dk_62 (dk_at dksX6_worst_0 22 rfl rfl)
theorem dX6_worst_23 : decode cX6_worst 23 = .ok (.aload_n 0, 1) := dk_42 (dk_at dksX6_worst_0 23 rfl rfl)
theorem dX6_worst_24 : decode cX6_worst 24 = .ok (.getfield 57, 3) := dk_180 0 57 (dk_at dksX6_worst_1 0 rfl rfl)
theorem dX6_worst_27 : decode cX6_worst 27 = .ok (.iconst 0, 1) := dk_3 (dk_at dksX6_worst_1 3 rfl rfl)
theorem dX6_worst_28 : decode cX6_worst 28 = .ok (.aload_n 0, 1) := dk_42 (dk_at dksX6_worst_1 4 rfl rfl)
theorem dX6_worst_29 : decode cX6_worst 29 = .ok (.getfield 60, 3) := dk_180 0 60 (dk_at dksX6_worst_1 5 rfl rfl)
theorem dX6_worst_32 : decode cX6_worst 32 = .ok (.iconst 0, 1) := dk_3 (dk_at dksX6_worst_1 8 rfl rfl)
theorem dX6_worst_33 : decode cX6_worst 33 = .ok (.invokestatic 254, 3) := dk_184 0 254 (dk_at dksX6_worst_1 9 rfl rfl)
theorem dX6_worst_36 : decode cX6_worst 36 = .ok (.iconst 0, 1) := dk_3 (dk_at dksX6_worst_1 12 rfl rfl)
theorem dX6_worst_37 : decode cX6_worst 37 = .ok (.istore 4, 2) := dk_54 4 (dk_at dksX6_worst_1 13 rfl rfl)
theorem dX6_worst_39 : decode cX6_worst 39 = .ok (.iload 4, 2) := dk_21 4 (dk_at dksX6_worst_1 15 rfl rfl)
theorem dX6_worst_41 : decode cX6_worst 41 = .ok (.aload_n 0, 1) := dk_42 (dk_at dksX6_worst_1 17 rfl rfl)
theorem dX6_worst_42 : decode cX6_worst 42 = .ok (.invokevirtual 251, 3) := dk_182 0 251 (dk_at dksX6_worst_1 18 rfl rfl)
theorem dX6_worst_45 : decode cX6_worst 45 = .ok (.if_icmp .ge 131, 3) := dk_162 0 131 (dk_at dksX6_worst_1 21 rfl rfl)
theorem dX6_worst_48 : decode cX6_worst 48 = .ok (.aload_n 0, 1) := dk_42 (dk_at dksX6_worst_2 0 rfl rfl)
theorem dX6_worst_49 : decode cX6_worst 49 = .ok (.iload 4, 2) := dk_21 4 (dk_at dksX6_worst_2 1 rfl rfl)
theorem dX6_worst_51 : decode cX6_worst 51 = .ok (.invokevirtual 283, 3) := dk_182 1 27 (dk_at dksX6_worst_2 3 rfl rfl)
theorem dX6_worst_54 : decode cX6_worst 54 = .ok (.ifCond .ne 6, 3) := dk_154 0 6 (dk_at dksX6_worst_2 6 rfl rfl)
theorem dX6_worst_57 : decode cX6_worst 57 = .ok (.goto 113, 3) := dk_167 0 113 (dk_at dksX6_worst_2 9 rfl rfl)
theorem dX6_worst_60 : decode cX6_worst 60 = .ok (.aload_n 0, 1) := dk_42 (dk_at dksX6_worst_2 12 rfl rfl)
theorem dX6_worst_61 : decode cX6_worst 61 = .ok (.iconst 5, 1) := dk_8 (dk_at dksX6_worst_2 13 rfl rfl)
theorem dX6_worst_62 : decode cX6_worst 62 = .ok (.invokevirtual 388, 3) := dk_182 1 132 (dk_at dksX6_worst_2 14 rfl rfl)
theorem dX6_worst_65 : decode cX6_worst 65 = .ok (.aload_n 0, 1) := dk_42 (dk_at dksX6_worst_2 17 rfl rfl)
theorem dX6_worst_66 : decode cX6_worst 66 = .ok (.getfield 57, 3) := dk_180 0 57 (dk_at dksX6_worst_2 18 rfl rfl)
theorem dX6_worst_69 : decode cX6_worst 69 = .ok (.iload 4, 2) := dk_21 4 (dk_at dksX6_worst_2 21 rfl rfl)
theorem dX6_worst_71 : decode cX6_worst 71 = .ok (.invokestatic 258, 3) := dk_184 1 2 (dk_at dksX6_worst_3 0 rfl rfl)
theorem dX6_worst_74 : decode cX6_worst 74 = .ok (.iconst 5, 1) := dk_8 (dk_at dksX6_worst_3 3 rfl rfl)
theorem dX6_worst_75 : decode cX6_worst 75 = .ok (.iadd, 1) := dk_96 (dk_at dksX6_worst_3 4 rfl rfl)
theorem dX6_worst_76 : decode cX6_worst 76 = .ok (.iaload, 1) := dk_46 (dk_at dksX6_worst_3 5 rfl rfl)
theorem dX6_worst_77 : decode cX6_worst 77 = .ok (.isub, 1) := dk_100 (dk_at dksX6_worst_3 6 rfl rfl)
theorem dX6_worst_78 : decode cX6_worst 78 = .ok (.istore 5, 2) := dk_54 5 (dk_at dksX6_worst_3 7 rfl rfl)
theorem dX6_worst_80 : decode cX6_worst 80 = .ok (.aload_n 0, 1) := dk_42 (dk_at dksX6_worst_3 9 rfl rfl)
theorem dX6_worst_81 : decode cX6_worst 81 = .ok (.getfield 57, 3) := dk_180 0 57 (dk_at dksX6_worst_3 10 rfl rfl)
theorem dX6_worst_84 : decode cX6_worst 84 = .ok (.iload 4, 2) := dk_21 4 (dk_at dksX6_worst_3 13 rfl rfl)
theorem dX6_worst_86 : decode cX6_worst 86 = .ok (.invokestatic 258, 3) := dk_184 1 2 (dk_at dksX6_worst_3 15 rfl rfl)
theorem dX6_worst_89 : decode cX6_worst 89 = .ok (.bipush 7, 2) := dk_16 7 (dk_at dksX6_worst_3 18 rfl rfl)
theorem dX6_worst_91 : decode cX6_worst 91 = .ok (.iadd, 1) := dk_96 (dk_at dksX6_worst_3 20 rfl rfl)
theorem dX6_worst_92 : decode cX6_worst 92 = .ok (.iconst 0, 1) := dk_3 (dk_at dksX6_worst_3 21 rfl rfl)
theorem dX6_worst_93 : decode cX6_worst 93 = .ok (.iastore, 1) := dk_79 (dk_at dksX6_worst_3 22 rfl rfl)
theorem dX6_worst_94 : decode cX6_worst 94 = .ok (.iconst 0, 1) := dk_3 (dk_at dksX6_worst_3 23 rfl rfl)
theorem dX6_worst_95 : decode cX6_worst 95 = .ok (.istore 6, 2) := dk_54 6 (dk_at dksX6_worst_4 0 rfl rfl)
theorem dX6_worst_97 : decode cX6_worst 97 = .ok (.iload 6, 2) := dk_21 6 (dk_at dksX6_worst_4 2 rfl rfl)
theorem dX6_worst_99 : decode cX6_worst 99 = .ok (.iload_n 1, 1) := dk_27 (dk_at dksX6_worst_4 4 rfl rfl)
theorem dX6_worst_100 : decode cX6_worst 100 = .ok (.if_icmp .ge 13, 3) := dk_162 0 13 (dk_at dksX6_worst_4 5 rfl rfl)
theorem dX6_worst_103 : decode cX6_worst 103 = .ok (.aload_n 0, 1) := dk_42 (dk_at dksX6_worst_4 8 rfl rfl)
theorem dX6_worst_104 : decode cX6_worst 104 = .ok (.invokevirtual 313, 3) := dk_182 1 57 (dk_at dksX6_worst_4 9 rfl rfl)
theorem dX6_worst_107 : decode cX6_worst 107 = .ok (.iinc 6 1, 3) := dk_132 6 1 (dk_at dksX6_worst_4 12 rfl rfl)
theorem dX6_worst_110 : decode cX6_worst 110 = .ok (.goto (-13), 3) := dk_167 255 243 (dk_at dksX6_worst_4 15 rfl rfl)
theorem dX6_worst_113 : decode cX6_worst 113 = .ok (.aload_n 0, 1) := dk_42 (dk_at dksX6_worst_4 18 rfl rfl)
theorem dX6_worst_114 : decode cX6_worst 114 = .ok (.iconst 5, 1) := dk_8 (dk_at dksX6_worst_4 19 rfl rfl)
theorem dX6_worst_115 : decode cX6_worst 115 = .ok (.invokevirtual 388, 3) := dk_182 1 132 (dk_at dksX6_worst_4 20 rfl rfl)
theorem dX6_worst_118 : decode cX6_worst 118 = .ok (.aload_n 0, 1) := dk_42 (dk_at dksX6_worst_4 23 rfl rfl)
theorem dX6_worst_119 : decode cX6_worst 119 = .ok (.getfield 57, 3) := dk_180 0 57 (dk_at dksX6_worst_5 0 rfl rfl)
theorem dX6_worst_122 : decode cX6_worst 122 = .ok (.iload 4, 2) := dk_21 4 (dk_at dksX6_worst_5 3 rfl rfl)
theorem dX6_worst_124 : decode cX6_worst 124 = .ok (.invokestatic 258, 3) := dk_184 1 2 (dk_at dksX6_worst_5 5 rfl rfl)
theorem dX6_worst_127 : decode cX6_worst 127 = .ok (.iconst 5, 1) := dk_8 (dk_at dksX6_worst_5 8 rfl rfl)
theorem dX6_worst_128 : decode cX6_worst 128 = .ok (.iadd, 1) := dk_96 (dk_at dksX6_worst_5 9 rfl rfl)
theorem dX6_worst_129 : decode cX6_worst 129 = .ok (.iaload, 1) := dk_46 (dk_at dksX6_worst_5 10 rfl rfl)
theorem dX6_worst_130 : decode cX6_worst 130 = .ok (.isub, 1) := dk_100 (dk_at dksX6_worst_5 11 rfl rfl)
theorem dX6_worst_131 : decode cX6_worst 131 = .ok (.iload 5, 2) := dk_21 5 (dk_at dksX6_worst_5 12 rfl rfl)
theorem dX6_worst_133 : decode cX6_worst 133 = .ok (.isub, 1) := dk_100 (dk_at dksX6_worst_5 14 rfl rfl)
theorem dX6_worst_134 : decode cX6_worst 134 = .ok (.istore 6, 2) := dk_54 6 (dk_at dksX6_worst_5 15 rfl rfl)
theorem dX6_worst_136 : decode cX6_worst 136 = .ok (.aload_n 0, 1) := dk_42 (dk_at dksX6_worst_5 17 rfl rfl)
theorem dX6_worst_137 : decode cX6_worst 137 = .ok (.getfield 60, 3) := dk_180 0 60 (dk_at dksX6_worst_5 18 rfl rfl)
theorem dX6_worst_140 : decode cX6_worst 140 = .ok (.iconst 0, 1) := dk_3 (dk_at dksX6_worst_5 21 rfl rfl)
theorem dX6_worst_141 : decode cX6_worst 141 = .ok (.aload_n 0, 1) := dk_42 (dk_at dksX6_worst_5 22 rfl rfl)
theorem dX6_worst_142 : decode cX6_worst 142 = .ok (.getfield 57, 3) := dk_180 0 57 (dk_at dksX6_worst_6 0 rfl rfl)
theorem dX6_worst_145 : decode cX6_worst 145 = .ok (.iconst 0, 1) := dk_3 (dk_at dksX6_worst_6 3 rfl rfl)
theorem dX6_worst_146 : decode cX6_worst 146 = .ok (.invokestatic 254, 3) := dk_184 0 254 (dk_at dksX6_worst_6 4 rfl rfl)
theorem dX6_worst_149 : decode cX6_worst 149 = .ok (.iload_n 2, 1) := dk_28 (dk_at dksX6_worst_6 7 rfl rfl)
theorem dX6_worst_150 : decode cX6_worst 150 = .ok (.bipush (-2), 2) := dk_16 254 (dk_at dksX6_worst_6 8 rfl rfl)
theorem dX6_worst_152 : decode cX6_worst 152 = .ok (.if_icmp .eq 12, 3) := dk_159 0 12 (dk_at dksX6_worst_6 10 rfl rfl)
theorem dX6_worst_155 : decode cX6_worst 155 = .ok (.iload 6, 2) := dk_21 6 (dk_at dksX6_worst_6 13 rfl rfl)
theorem dX6_worst_157 : decode cX6_worst 157 = .ok (.iload_n 3, 1) := dk_29 (dk_at dksX6_worst_6 15 rfl rfl)
theorem dX6_worst_158 : decode cX6_worst 158 = .ok (.if_icmp .gt 6, 3) := dk_163 0 6 (dk_at dksX6_worst_6 16 rfl rfl)
theorem dX6_worst_161 : decode cX6_worst 161 = .ok (.goto 9, 3) := dk_167 0 9 (dk_at dksX6_worst_6 19 rfl rfl)
theorem dX6_worst_164 : decode cX6_worst 164 = .ok (.iload 4, 2) := dk_21 4 (dk_at dksX6_worst_6 22 rfl rfl)
theorem dX6_worst_166 : decode cX6_worst 166 = .ok (.istore_n 2, 1) := dk_61 (dk_at dksX6_worst_7 0 rfl rfl)
theorem dX6_worst_167 : decode cX6_worst 167 = .ok (.iload 6, 2) := dk_21 6 (dk_at dksX6_worst_7 1 rfl rfl)
theorem dX6_worst_169 : decode cX6_worst 169 = .ok (.istore_n 3, 1) := dk_62 (dk_at dksX6_worst_7 3 rfl rfl)
theorem dX6_worst_170 : decode cX6_worst 170 = .ok (.iinc 4 1, 3) := dk_132 4 1 (dk_at dksX6_worst_7 4 rfl rfl)
theorem dX6_worst_173 : decode cX6_worst 173 = .ok (.goto (-134), 3) := dk_167 255 122 (dk_at dksX6_worst_7 7 rfl rfl)
theorem dX6_worst_176 : decode cX6_worst 176 = .ok (.iload_n 2, 1) := dk_28 (dk_at dksX6_worst_7 10 rfl rfl)
theorem dX6_worst_177 : decode cX6_worst 177 = .ok (.ireturn, 1) := dk_172 (dk_at dksX6_worst_7 11 rfl rfl)
abbrev cX6_sumOf : ByteArray := prog_18_method_100_code
def yX6_sumOf : MethodName := ⟨RX6, "sumOf", "(I)I"⟩
def dkwX6_sumOf_1 : List UInt8 := [96, 61, 132, 3, 1, 167, 255, 231, 28, 172]
abbrev dktX6_sumOf_1 : List UInt8 := dkwX6_sumOf_1 ++ []
def dkwX6_sumOf_0 : List UInt8 := [3, 61, 3, 62, 29, 42, 182, 0, 251, 162, 0, 23, 28, 42, 180, 0, 57, 29, 184, 1, 2, 27, 96, 46]
abbrev dktX6_sumOf_0 : List UInt8 := dkwX6_sumOf_0 ++ dktX6_sumOf_1
theorem dksX6_sumOf_0 : cX6_sumOf.data.toList.drop 0 = dktX6_sumOf_0 := by decide +kernel
theorem dksX6_sumOf_1 : cX6_sumOf.data.toList.drop 24 = dktX6_sumOf_1 := dk_seg dksX6_sumOf_0 24 rfl rfl
theorem dX6_sumOf_0 : decode cX6_sumOf 0 = .ok (.iconst 0, 1) := dk_3 (dk_at dksX6_sumOf_0 0 rfl rfl)
theorem dX6_sumOf_1 : decode cX6_sumOf 1 = .ok (.istore_n 2, 1) := dk_61 (dk_at dksX6_sumOf_0 1 rfl rfl)
theorem dX6_sumOf_2 : decode cX6_sumOf 2 = .ok (.iconst 0, 1) := dk_3 (dk_at dksX6_sumOf_0 2 rfl rfl)
theorem dX6_sumOf_3 : decode cX6_sumOf 3 = .ok (.istore_n 3, 1) := dk_62 (dk_at dksX6_sumOf_0 3 rfl rfl)
theorem dX6_sumOf_4 : decode cX6_sumOf 4 = .ok (.iload_n 3, 1) := dk_29 (dk_at dksX6_sumOf_0 4 rfl rfl)
theorem dX6_sumOf_5 : decode cX6_sumOf 5 = .ok (.aload_n 0, 1) := dk_42 (dk_at dksX6_sumOf_0 5 rfl rfl)
theorem dX6_sumOf_6 : decode cX6_sumOf 6 = .ok (.invokevirtual 251, 3) := dk_182 0 251 (dk_at dksX6_sumOf_0 6 rfl rfl)
theorem dX6_sumOf_9 : decode cX6_sumOf 9 = .ok (.if_icmp .ge 23, 3) := dk_162 0 23 (dk_at dksX6_sumOf_0 9 rfl rfl)
theorem dX6_sumOf_12 : decode cX6_sumOf 12 = .ok (.iload_n 2, 1) := dk_28 (dk_at dksX6_sumOf_0 12 rfl rfl)
theorem dX6_sumOf_13 : decode cX6_sumOf 13 = .ok (.aload_n 0, 1) := dk_42 (dk_at dksX6_sumOf_0 13 rfl rfl)
theorem dX6_sumOf_14 : decode cX6_sumOf 14 = .ok (.getfield 57, 3) := dk_180 0 57 (dk_at dksX6_sumOf_0 14 rfl rfl)
theorem dX6_sumOf_17 : decode cX6_sumOf 17 = .ok (.iload_n 3, 1) := dk_29 (dk_at dksX6_sumOf_0 17 rfl rfl)
theorem dX6_sumOf_18 : decode cX6_sumOf 18 = .ok (.invokestatic 258, 3) := dk_184 1 2 (dk_at dksX6_sumOf_0 18 rfl rfl)
theorem dX6_sumOf_21 : decode cX6_sumOf 21 = .ok (.iload_n 1, 1) := dk_27 (dk_at dksX6_sumOf_0 21 rfl rfl)
theorem dX6_sumOf_22 : decode cX6_sumOf 22 = .ok (.iadd, 1) := dk_96 (dk_at dksX6_sumOf_0 22 rfl rfl)
theorem dX6_sumOf_23 : decode cX6_sumOf 23 = .ok (.iaload, 1) := dk_46 (dk_at dksX6_sumOf_0 23 rfl rfl)
theorem dX6_sumOf_24 : decode cX6_sumOf 24 = .ok (.iadd, 1) := dk_96 (dk_at dksX6_sumOf_1 0 rfl rfl)
theorem dX6_sumOf_25 : decode cX6_sumOf 25 = .ok (.istore_n 2, 1) := dk_61 (dk_at dksX6_sumOf_1 1 rfl rfl)
theorem dX6_sumOf_26 : decode cX6_sumOf 26 = .ok (.iinc 3 1, 3) := dk_132 3 1 (dk_at dksX6_sumOf_1 2 rfl rfl)
theorem dX6_sumOf_29 : decode cX6_sumOf 29 = .ok (.goto (-25), 3) := dk_167 255 231 (dk_at dksX6_sumOf_1 5 rfl rfl)
theorem dX6_sumOf_32 : decode cX6_sumOf 32 = .ok (.iload_n 2, 1) := dk_28 (dk_at dksX6_sumOf_1 8 rfl rfl)
theorem dX6_sumOf_33 : decode cX6_sumOf 33 = .ok (.ireturn, 1) := dk_172 (dk_at dksX6_sumOf_1 9 rfl rfl)
abbrev cX6_leastSize : ByteArray := prog_18_method_102_code
def yX6_leastSize : MethodName := ⟨RX6, "leastSize", "(II)I"⟩
def dkwX6_leastSize_8 : List UInt8 := [21, 4, 167, 0, 5, 16, 254, 172]
abbrev dktX6_leastSize_8 : List UInt8 := dkwX6_leastSize_8 ++ []
def dkwX6_leastSize_7 : List UInt8 := [167, 0, 4, 3, 54, 5, 42, 180, 0, 60, 3, 42, 180, 0, 57, 3, 184, 0, 254, 21, 5, 153, 0, 8]
abbrev dktX6_leastSize_7 : List UInt8 := dkwX6_leastSize_7 ++ dktX6_leastSize_8
def dkwX6_leastSize_6 : List UInt8 := [54, 4, 132, 5, 1, 167, 255, 183, 42, 180, 0, 57, 16, 24, 27, 104, 6, 96, 46, 29, 160, 0, 7, 4]
abbrev dktX6_leastSize_6 : List UInt8 := dkwX6_leastSize_6 ++ dktX6_leastSize_7
def dkwX6_leastSize_5 : List UInt8 := [167, 255, 227, 21, 6, 158, 0, 20, 42, 27, 182, 1, 8, 21, 4, 164, 0, 10, 42, 27, 182, 1, 8]
abbrev dktX6_leastSize_5 : List UInt8 := dkwX6_leastSize_5 ++ dktX6_leastSize_6
def dkwX6_leastSize_4 : List UInt8 := [162, 0, 26, 21, 6, 42, 180, 0, 78, 16, 8, 27, 104, 21, 7, 96, 46, 96, 54, 6, 132, 7, 1]
abbrev dktX6_leastSize_4 : List UInt8 := dkwX6_leastSize_4 ++ dktX6_leastSize_5
def dkwX6_leastSize_3 : List UInt8 := [21, 5, 28, 162, 0, 73, 42, 182, 1, 57, 3, 54, 6, 3, 54, 7, 21, 7, 42, 182, 0, 251]
abbrev dktX6_leastSize_3 : List UInt8 := dkwX6_leastSize_3 ++ dktX6_leastSize_4
def dkwX6_leastSize_2 : List UInt8 := [96, 17, 7, 207, 79, 42, 180, 0, 57, 16, 24, 27, 104, 6, 96, 46, 62, 4, 54, 4, 3, 54, 5]
abbrev dktX6_leastSize_2 : List UInt8 := dkwX6_leastSize_2 ++ dktX6_leastSize_3
def dkwX6_leastSize_1 : List UInt8 := [2, 172, 42, 180, 0, 57, 3, 42, 180, 0, 60, 3, 184, 0, 254, 42, 180, 0, 57, 16, 24, 27, 104, 5]
abbrev dktX6_leastSize_1 : List UInt8 := dkwX6_leastSize_1 ++ dktX6_leastSize_2
def dkwX6_leastSize_0 : List UInt8 := [42, 3, 181, 0, 115, 42, 27, 182, 1, 63, 153, 0, 14, 28, 4, 161, 0, 9, 28, 16, 100, 164, 0, 5]
abbrev dktX6_leastSize_0 : List UInt8 := dkwX6_leastSize_0 ++ dktX6_leastSize_1
theorem dksX6_leastSize_0 : cX6_leastSize.data.toList.drop 0 = dktX6_leastSize_0 := by decide +kernel
theorem dksX6_leastSize_1 : cX6_leastSize.data.toList.drop 24 = dktX6_leastSize_1 := dk_seg dksX6_leastSize_0 24 rfl rfl
theorem dksX6_leastSize_2 : cX6_leastSize.data.toList.drop 48 = dktX6_leastSize_2 := dk_seg dksX6_leastSize_1 24 rfl rfl
theorem dksX6_leastSize_3 : cX6_leastSize.data.toList.drop 71 = dktX6_leastSize_3 := dk_seg dksX6_leastSize_2 23 rfl rfl
theorem dksX6_leastSize_4 : cX6_leastSize.data.toList.drop 93 = dktX6_leastSize_4 := dk_seg dksX6_leastSize_3 22 rfl rfl
theorem dksX6_leastSize_5 : cX6_leastSize.data.toList.drop 116 = dktX6_leastSize_5 := dk_seg dksX6_leastSize_4 23 rfl rfl
theorem dksX6_leastSize_6 : cX6_leastSize.data.toList.drop 139 = dktX6_leastSize_6 := dk_seg dksX6_leastSize_5 23 rfl rfl
theorem dksX6_leastSize_7 : cX6_leastSize.data.toList.drop 163 = dktX6_leastSize_7 := dk_seg dksX6_leastSize_6 24 rfl rfl
theorem dksX6_leastSize_8 : cX6_leastSize.data.toList.drop 187 = dktX6_leastSize_8 := dk_seg dksX6_leastSize_7 24 rfl rfl
theorem dX6_leastSize_0 : decode cX6_leastSize 0 = .ok (.aload_n 0, 1) := dk_42 (dk_at dksX6_leastSize_0 0 rfl rfl)
theorem dX6_leastSize_1 : decode cX6_leastSize 1 = .ok (.iconst 0, 1) := dk_3 (dk_at dksX6_leastSize_0 1 rfl rfl)
theorem dX6_leastSize_2 : decode cX6_leastSize 2 = .ok (.putfield 115, 3) := dk_181 0 115 (dk_at dksX6_leastSize_0 2 rfl rfl)
theorem dX6_leastSize_5 : decode cX6_leastSize 5 = .ok (.aload_n 0, 1) := dk_42 (dk_at dksX6_leastSize_0 5 rfl rfl)
theorem dX6_leastSize_6 : decode cX6_leastSize 6 = .ok (.iload_n 1, 1) := dk_27 (dk_at dksX6_leastSize_0 6 rfl rfl)
theorem dX6_leastSize_7 : decode cX6_leastSize 7 = .ok (.invokevirtual 319, 3) := dk_182 1 63 (dk_at dksX6_leastSize_0 7 rfl rfl)
theorem dX6_leastSize_10 : decode cX6_leastSize 10 = .ok (.ifCond .eq 14, 3) := dk_153 0 14 (dk_at dksX6_leastSize_0 10 rfl rfl)
theorem dX6_leastSize_13 : decode cX6_leastSize 13 = .ok (.iload_n 2, 1) := dk_28 (dk_at dksX6_leastSize_0 13 rfl rfl)
theorem dX6_leastSize_14 : decode cX6_leastSize 14 = .ok (.iconst 1, 1) := dk_4 (dk_at dksX6_leastSize_0 14 rfl rfl)
theorem dX6_leastSize_15 : decode cX6_leastSize 15 = .ok (.if_icmp .lt 9, 3) := dk_161 0 9 (dk_at dksX6_leastSize_0 15 rfl rfl)
theorem dX6_leastSize_18 : decode cX6_leastSize 18 = .ok (.iload_n 2, 1) := dk_28 (dk_at dksX6_leastSize_0 18 rfl rfl)
theorem dX6_leastSize_19 : decode cX6_leastSize 19 = .ok (.bipush 100, 2) := dk_16 100 (dk_at dksX6_leastSize_0 19 rfl rfl)
theorem dX6_leastSize_21 : decode cX6_leastSize 21 = .ok (.if_icmp .le 5, 3) := dk_164 0 5 (dk_at dksX6_leastSize_0 21 rfl rfl)
theorem dX6_leastSize_24 : decode cX6_leastSize 24 = .ok (.iconst (-1), 1) := dk_2 (dk_at dksX6_leastSize_1 0 rfl rfl)
theorem dX6_leastSize_25 : decode cX6_leastSize 25 = .ok (.ireturn, 1) := dk_172 (dk_at dksX6_leastSize_1 1 rfl rfl)
theorem dX6_leastSize_26 : decode cX6_leastSize 26 = .ok (.aload_n 0, 1) := dk_42 (dk_at dksX6_leastSize_1 2 rfl rfl)
theorem dX6_leastSize_27 : decode cX6_leastSize 27 = .ok (.getfield 57, 3) := dk_180 0 57 (dk_at dksX6_leastSize_1 3 rfl rfl)
theorem dX6_leastSize_30 : decode cX6_leastSize 30 = .ok (.iconst 0, 1) := dk_3 (dk_at dksX6_leastSize_1 6 rfl rfl)
theorem dX6_leastSize_31 : decode cX6_leastSize 31 = .ok (.aload_n 0, 1) := dk_42 (dk_at dksX6_leastSize_1 7 rfl rfl)
theorem dX6_leastSize_32 : decode cX6_leastSize 32 = .ok (.getfield 60, 3) := dk_180 0 60 (dk_at dksX6_leastSize_1 8 rfl rfl)
theorem dX6_leastSize_35 : decode cX6_leastSize 35 = .ok (.iconst 0, 1) := dk_3 (dk_at dksX6_leastSize_1 11 rfl rfl)
theorem dX6_leastSize_36 : decode cX6_leastSize 36 = .ok (.invokestatic 254, 3) := dk_184 0 254 (dk_at dksX6_leastSize_1 12 rfl rfl)
theorem dX6_leastSize_39 : decode cX6_leastSize 39 = .ok (.aload_n 0, 1) := dk_42 (dk_at dksX6_leastSize_1 15 rfl rfl)
theorem dX6_leastSize_40 : decode cX6_leastSize 40 = .ok (.getfield 57, 3) := dk_180 0 57 (dk_at dksX6_leastSize_1 16 rfl rfl)
theorem dX6_leastSize_43 : decode cX6_leastSize 43 = .ok (.bipush 24, 2) := dk_16 24 (dk_at dksX6_leastSize_1 19 rfl rfl)
theorem dX6_leastSize_45 : decode cX6_leastSize 45 = .ok (.iload_n 1, 1) := dk_27 (dk_at dksX6_leastSize_1 21 rfl rfl)
theorem dX6_leastSize_46 : decode cX6_leastSize 46 = .ok (.imul, 1) := dk_104 (dk_at dksX6_leastSize_1 22 rfl rfl)
theorem dX6_leastSize_47 : decode cX6_leastSize 47 = .ok (.iconst 2, 1) := dk_5 (dk_at dksX6_leastSize_1 23 rfl rfl)
theorem dX6_leastSize_48 : decode cX6_leastSize 48 = .ok (.iadd, 1) := dk_96 (dk_at dksX6_leastSize_2 0 rfl rfl)
theorem dX6_leastSize_49 : decode cX6_leastSize 49 = .ok (.sipush 1999, 3) := dk_17 7 207 (dk_at dksX6_leastSize_2 1 rfl rfl)
theorem dX6_leastSize_52 : decode cX6_leastSize 52 = .ok (.iastore, 1) := dk_79 (dk_at dksX6_leastSize_2 4 rfl rfl)
theorem dX6_leastSize_53 : decode cX6_leastSize 53 = .ok (.aload_n 0, 1) := dk_42 (dk_at dksX6_leastSize_2 5 rfl rfl)
theorem dX6_leastSize_54 : decode cX6_leastSize 54 = .ok (.getfield 57, 3) := dk_180 0 57 (dk_at dksX6_leastSize_2 6 rfl rfl)
theorem dX6_leastSize_57 : decode cX6_leastSize 57 = .ok (.bipush 24, 2) := dk_16 24 (dk_at dksX6_leastSize_2 9 rfl rfl)
theorem dX6_leastSize_59 : decode cX6_leastSize 59 = .ok (.iload_n 1, 1) := dk_27 (dk_at dksX6_leastSize_2 11 rfl rfl)
theorem dX6_leastSize_60 : decode cX6_leastSize 60 = .ok (.imul, 1) := dk_104 (dk_at dksX6_leastSize_2 12 rfl rfl)
theorem dX6_leastSize_61 : decode cX6_leastSize 61 = .ok (.iconst 3, 1) := dk_6 (dk_at dksX6_leastSize_2 13 rfl rfl)
theorem dX6_leastSize_62 : decode cX6_leastSize 62 = .ok (.iadd, 1) := dk_96 (dk_at dksX6_leastSize_2 14 rfl rfl)
theorem dX6_leastSize_63 : decode cX6_leastSize 63 = .ok (.iaload, 1) := dk_46 (dk_at dksX6_leastSize_2 15 rfl rfl)
theorem dX6_leastSize_64 : decode cX6_leastSize 64 = .ok (.istore_n 3, 1) := dk_62 (dk_at dksX6_leastSize_2 16 rfl rfl)
theorem dX6_leastSize_65 : decode cX6_leastSize 65 = .ok (.iconst 1, 1) := dk_4 (dk_at dksX6_leastSize_2 17 rfl rfl)
theorem dX6_leastSize_66 : decode cX6_leastSize 66 = .ok (.istore 4, 2) := dk_54 4 (dk_at dksX6_leastSize_2 18 rfl rfl)
theorem dX6_leastSize_68 : decode cX6_leastSize 68 = .ok (.iconst 0, 1) := dk_3 (dk_at dksX6_leastSize_2 20 rfl rfl)
theorem dX6_leastSize_69 : decode cX6_leastSize 69 = .ok (.istore 5, 2) := dk_54 5 (dk_at dksX6_leastSize_2 21 rfl rfl)
theorem dX6_leastSize_71 : decode cX6_leastSize 71 = .ok (.iload 5, 2) := dk_21 5 (dk_at dksX6_leastSize_3 0 rfl rfl)
theorem dX6_leastSize_73 : decode cX6_leastSize 73 = .ok (.iload_n 2, 1) := dk_28 (dk_at dksX6_leastSize_3 2 rfl rfl)
theorem dX6_leastSize_74 : decode cX6_leastSize 74 = .ok (.if_icmp .ge 73, 3) := dk_162 0 73 (dk_at dksX6_leastSize_3 3 rfl rfl)
theorem dX6_leastSize_77 : decode cX6_leastSize 77 = .ok (.aload_n 0, 1) := dk_42 (dk_at dksX6_leastSize_3 6 rfl rfl)
theorem dX6_leastSize_78 : decode cX6_leastSize 78 = .ok (.invokevirtual 313, 3) := dk_182 1 57 (dk_at dksX6_leastSize_3 7 rfl rfl)
theorem dX6_leastSize_81 : decode cX6_leastSize 81 = .ok (.iconst 0, 1) := dk_3 (dk_at dksX6_leastSize_3 10 rfl rfl)
theorem dX6_leastSize_82 : decode cX6_leastSize 82 = .ok (.istore 6, 2) := dk_54 6 (dk_at dksX6_leastSize_3 11 rfl rfl)
theorem dX6_leastSize_84 : decode cX6_leastSize 84 = .ok (.iconst 0, 1) := dk_3 (dk_at dksX6_leastSize_3 13 rfl rfl)
theorem dX6_leastSize_85 : decode cX6_leastSize 85 = .ok (.istore 7, 2) := dk_54 7 (dk_at dksX6_leastSize_3 14 rfl rfl)
theorem dX6_leastSize_87 : decode cX6_leastSize 87 = .ok (.iload 7, 2) := dk_21 7 (dk_at dksX6_leastSize_3 16 rfl rfl)
theorem dX6_leastSize_89 : decode cX6_leastSize 89 = .ok (.aload_n 0, 1) := dk_42 (dk_at dksX6_leastSize_3 18 rfl rfl)
theorem dX6_leastSize_90 : decode cX6_leastSize 90 = .ok (.invokevirtual 251, 3) := dk_182 0 251 (dk_at dksX6_leastSize_3 19 rfl rfl)
theorem dX6_leastSize_93 : decode cX6_leastSize 93 = .ok (.if_icmp .ge 26, 3) := dk_162 0 26 (dk_at dksX6_leastSize_4 0 rfl rfl)
theorem dX6_leastSize_96 : decode cX6_leastSize 96 = .ok (.iload 6, 2) := dk_21 6 (dk_at dksX6_leastSize_4 3 rfl rfl)
theorem dX6_leastSize_98 : decode cX6_leastSize 98 = .ok (.aload_n 0, 1) := dk_42 (dk_at dksX6_leastSize_4 5 rfl rfl)
theorem dX6_leastSize_99 : decode cX6_leastSize 99 = .ok (.getfield 78, 3) := dk_180 0 78 (dk_at dksX6_leastSize_4 6 rfl rfl)
theorem dX6_leastSize_102 : decode cX6_leastSize 102 = .ok (.bipush 8, 2) := dk_16 8 (dk_at dksX6_leastSize_4 9 rfl rfl)
theorem dX6_leastSize_104 : decode cX6_leastSize 104 = .ok (.iload_n 1, 1) := dk_27 (dk_at dksX6_leastSize_4 11 rfl rfl)
theorem dX6_leastSize_105 : decode cX6_leastSize 105 = .ok (.imul, 1) := dk_104 (dk_at dksX6_leastSize_4 12 rfl rfl)
theorem dX6_leastSize_106 : decode cX6_leastSize 106 = .ok (.iload 7, 2) := dk_21 7 (dk_at dksX6_leastSize_4 13 rfl rfl)
theorem dX6_leastSize_108 : decode cX6_leastSize 108 = .ok (.iadd, 1) := dk_96 (dk_at dksX6_leastSize_4 15 rfl rfl)
theorem dX6_leastSize_109 : decode cX6_leastSize 109 = .ok (.iaload, 1) := dk_46 (dk_at dksX6_leastSize_4 16 rfl rfl)
theorem dX6_leastSize_110 : decode cX6_leastSize 110 = .ok (.iadd, 1) := dk_96 (dk_at dksX6_leastSize_4 17 rfl rfl)
theorem dX6_leastSize_111 : decode cX6_leastSize 111 = .ok (.istore 6, 2) := dk_54 6 (dk_at dksX6_leastSize_4 18 rfl rfl)
theorem dX6_leastSize_113 : decode cX6_leastSize 113 = .ok (.iinc 7 1, 3) := dk_132 7 1 (dk_at dksX6_leastSize_4 20 rfl rfl)
theorem dX6_leastSize_116 : decode cX6_leastSize 116 = .ok (.goto (-29), 3) := dk_167 255 227 (dk_at dksX6_leastSize_5 0 rfl rfl)
theorem dX6_leastSize_119 : decode cX6_leastSize 119 = .ok (.iload 6, 2) := dk_21 6 (dk_at dksX6_leastSize_5 3 rfl rfl)
theorem dX6_leastSize_121 : decode cX6_leastSize 121 = .ok (.ifCond .le 20, 3) := dk_158 0 20 (dk_at dksX6_leastSize_5 5 rfl rfl)
theorem dX6_leastSize_124 : decode cX6_leastSize 124 = .ok (.aload_n 0, 1) := dk_42 (dk_at dksX6_leastSize_5 8 rfl rfl)
theorem dX6_leastSize_125 : decode cX6_leastSize 125 = .ok (.iload_n 1, 1) := dk_27 (dk_at dksX6_leastSize_5 9 rfl rfl)
theorem dX6_leastSize_126 : decode cX6_leastSize 126 = .ok (.invokevirtual 264, 3) := dk_182 1 8 (dk_at dksX6_leastSize_5 10 rfl rfl)
theorem dX6_leastSize_129 : decode cX6_leastSize 129 = .ok (.iload 4, 2) := dk_21 4 (dk_at dksX6_leastSize_5 13 rfl rfl)
theorem dX6_leastSize_131 : decode cX6_leastSize 131 = .ok (.if_icmp .le 10, 3) := dk_164 0 10 (dk_at dksX6_leastSize_5 15 rfl rfl)
theorem dX6_leastSize_134 : decode cX6_leastSize 134 = .ok (.aload_n 0, 1) := dk_42 (dk_at dksX6_leastSize_5 18 rfl rfl)
theorem dX6_leastSize_135 : decode cX6_leastSize 135 = .ok (.iload_n 1, 1) := dk_27 (dk_at dksX6_leastSize_5 19 rfl rfl)
theorem dX6_leastSize_136 : decode cX6_leastSize 136 = .ok (.invokevirtual 264, 3) := dk_182 1 8 (dk_at dksX6_leastSize_5 20 rfl rfl)
theorem dX6_leastSize_139 : decode cX6_leastSize 139 = .ok (.istore 4, 2) := dk_54 4 (dk_at dksX6_leastSize_6 0 rfl rfl)
theorem dX6_leastSize_141 : decode cX6_leastSize 141 = .ok (.iinc 5 1, 3) := dk_132 5 1 (dk_at dksX6_leastSize_6 2 rfl rfl)
theorem dX6_leastSize_144 : decode cX6_leastSize 144 = .ok (.goto (-73), 3) := dk_167 255 183 (dk_at dksX6_leastSize_6 5 rfl rfl)
theorem dX6_leastSize_147 : decode cX6_leastSize 147 = .ok (.aload_n 0, 1) := dk_42 (dk_at dksX6_leastSize_6 8 rfl rfl)
theorem dX6_leastSize_148 : decode cX6_leastSize 148 = .ok (.getfield 57, 3) := dk_180 0 57 (dk_at dksX6_leastSize_6 9 rfl rfl)
theorem dX6_leastSize_151 : decode cX6_leastSize 151 = .ok (.bipush 24, 2) := dk_16 24 (dk_at dksX6_leastSize_6 12 rfl rfl)
theorem dX6_leastSize_153 : decode cX6_leastSize 153 = .ok (.iload_n 1, 1) := dk_27 (dk_at dksX6_leastSize_6 14 rfl rfl)
theorem dX6_leastSize_154 : decode cX6_leastSize 154 = .ok (.imul, 1) := dk_104 (dk_at dksX6_leastSize_6 15 rfl rfl)
theorem dX6_leastSize_155 : decode cX6_leastSize 155 = .ok (.iconst 3, 1) := dk_6 (dk_at dksX6_leastSize_6 16 rfl rfl)
theorem dX6_leastSize_156 : decode cX6_leastSize 156 = .ok (.iadd, 1) := dk_96 (dk_at dksX6_leastSize_6 17 rfl rfl)
theorem dX6_leastSize_157 : decode cX6_leastSize 157 = .ok (.iaload, 1) := dk_46 (dk_at dksX6_leastSize_6 18 rfl rfl)
theorem dX6_leastSize_158 : decode cX6_leastSize 158 = .ok (.iload_n 3, 1) := dk_29 (dk_at dksX6_leastSize_6 19 rfl rfl)
theorem dX6_leastSize_159 : decode cX6_leastSize 159 = .ok (.if_icmp .ne 7, 3) := dk_160 0 7 (dk_at dksX6_leastSize_6 20 rfl rfl)
theorem dX6_leastSize_162 : decode cX6_leastSize 162 = .ok (.iconst 1, 1) := dk_4 (dk_at dksX6_leastSize_6 23 rfl rfl)
theorem dX6_leastSize_163 : decode cX6_leastSize 163 = .ok (.goto 4, 3) := dk_167 0 4 (dk_at dksX6_leastSize_7 0 rfl rfl)
theorem dX6_leastSize_166 : decode cX6_leastSize 166 = .ok (.iconst 0, 1) := dk_3 (dk_at dksX6_leastSize_7 3 rfl rfl)
theorem dX6_leastSize_167 : decode cX6_leastSize 167 = .ok (.istore 5, 2) := dk_54 5 (dk_at dksX6_leastSize_7 4 rfl rfl)
theorem dX6_leastSize_169 : decode cX6_leastSize 169 = .ok (.aload_n 0, 1) := dk_42 (dk_at dksX6_leastSize_7 6 rfl rfl)
theorem dX6_leastSize_170 : decode cX6_leastSize 170 = .ok (.getfield 60, 3) := dk_180 0 60 (dk_at dksX6_leastSize_7 7 rfl rfl)
theorem dX6_leastSize_173 : decode cX6_leastSize 173 = .ok (.iconst 0, 1) := dk_3 (dk_at dksX6_leastSize_7 10 rfl rfl)
theorem dX6_leastSize_174 : decode cX6_leastSize 174 = .ok (.aload_n 0, 1) := dk_42 (dk_at dksX6_leastSize_7 11 rfl rfl)
theorem dX6_leastSize_175 : decode cX6_leastSize 175 = .ok (.getfield 57, 3) := dk_180 0 57 (dk_at dksX6_leastSize_7 12 rfl rfl)
theorem dX6_leastSize_178 : decode cX6_leastSize 178 = .ok (.iconst 0, 1) := dk_3 (dk_at dksX6_leastSize_7 15 rfl rfl)
theorem dX6_leastSize_179 : decode cX6_leastSize 179 = .ok (.invokestatic 254, 3) := dk_184 0 254 (dk_at dksX6_leastSize_7 16 rfl rfl)
theorem dX6_leastSize_182 : decode cX6_leastSize 182 = .ok (.iload 5, 2) := dk_21 5 (dk_at dksX6_leastSize_7 19 rfl rfl)
theorem dX6_leastSize_184 : decode cX6_leastSize 184 = .ok (.ifCond .eq 8, 3) := dk_153 0 8 (dk_at dksX6_leastSize_7 21 rfl rfl)
theorem dX6_leastSize_187 : decode cX6_leastSize 187 = .ok (.iload 4, 2) := dk_21 4 (dk_at dksX6_leastSize_8 0 rfl rfl)
theorem dX6_leastSize_189 : decode cX6_leastSize 189 = .ok (.goto 5, 3) := dk_167 0 5 (dk_at dksX6_leastSize_8 2 rfl rfl)
theorem dX6_leastSize_192 : decode cX6_leastSize 192 = .ok (.bipush (-2), 2) := dk_16 254 (dk_at dksX6_leastSize_8 5 rfl rfl)
theorem dX6_leastSize_194 : decode cX6_leastSize 194 = .ok (.ireturn, 1) := dk_172 (dk_at dksX6_leastSize_8 7 rfl rfl)
abbrev cX6_chance : ByteArray := prog_18_method_105_code
def yX6_chance : MethodName := ⟨RX6, "chance", "(IIII)I"⟩
def dkwX6_chance_11 : List UInt8 := [184, 0, 254, 21, 7, 172]
abbrev dktX6_chance_11 : List UInt8 := dkwX6_chance_11 ++ []
def dkwX6_chance_10 : List UInt8 := [16, 6, 167, 0, 4, 8, 182, 1, 132, 21, 5, 100, 54, 7, 42, 180, 0, 63, 3, 42, 180, 0, 57, 3]
abbrev dktX6_chance_10 : List UInt8 := dkwX6_chance_10 ++ dktX6_chance_11
def dkwX6_chance_9 : List UInt8 := [167, 0, 35, 21, 4, 4, 160, 0, 10, 42, 182, 1, 140, 167, 0, 19, 42, 21, 4, 6, 160, 0, 8]
abbrev dktX6_chance_9 : List UInt8 := dkwX6_chance_9 ++ dktX6_chance_10
def dkwX6_chance_8 : List UInt8 := [4, 167, 0, 4, 3, 96, 54, 6, 132, 7, 1, 167, 255, 171, 21, 4, 5, 160, 0, 8, 21, 6]
abbrev dktX6_chance_8 : List UInt8 := dkwX6_chance_8 ++ dktX6_chance_9
def dkwX6_chance_7 : List UInt8 := [21, 8, 184, 1, 2, 16, 7, 96, 46, 100, 79, 42, 182, 1, 57, 21, 6, 42, 182, 1, 125, 153, 0, 7]
abbrev dktX6_chance_7 : List UInt8 := dkwX6_chance_7 ++ dktX6_chance_8
def dkwX6_chance_6 : List UInt8 := [182, 1, 143, 29, 162, 0, 31, 42, 180, 0, 57, 21, 8, 184, 1, 2, 16, 7, 96, 4, 42, 180, 0, 57]
abbrev dktX6_chance_6 : List UInt8 := dkwX6_chance_6 ++ dktX6_chance_7
def dkwX6_chance_5 : List UInt8 := [162, 0, 85, 42, 182, 0, 251, 158, 0, 51, 42, 42, 182, 0, 251, 182, 1, 143, 54, 8, 42, 16, 100]
abbrev dktX6_chance_5 : List UInt8 := dkwX6_chance_5 ++ dktX6_chance_6
def dkwX6_chance_4 : List UInt8 := [160, 0, 8, 16, 6, 167, 0, 4, 8, 182, 1, 132, 54, 5, 3, 54, 6, 3, 54, 7, 21, 7, 28]
abbrev dktX6_chance_4 : List UInt8 := dkwX6_chance_4 ++ dktX6_chance_5
def dkwX6_chance_3 : List UInt8 := [180, 0, 63, 3, 184, 0, 254, 21, 4, 4, 160, 0, 10, 42, 182, 1, 140, 167, 0, 19, 42, 21, 4, 6]
abbrev dktX6_chance_3 : List UInt8 := dkwX6_chance_3 ++ dktX6_chance_4
def dkwX6_chance_2 : List UInt8 := [2, 160, 0, 13, 42, 180, 0, 13, 16, 8, 46, 167, 0, 4, 27, 181, 1, 135, 42, 180, 0, 57, 3, 42]
abbrev dktX6_chance_2 : List UInt8 := dkwX6_chance_2 ++ dktX6_chance_3
def dkwX6_chance_1 : List UInt8 := [155, 0, 20, 29, 16, 100, 163, 0, 14, 21, 4, 155, 0, 9, 21, 4, 6, 164, 0, 5, 2, 172, 42, 27]
abbrev dktX6_chance_1 : List UInt8 := dkwX6_chance_1 ++ dktX6_chance_2
def dkwX6_chance_0 : List UInt8 := [42, 3, 181, 0, 115, 27, 2, 161, 0, 36, 28, 4, 161, 0, 31, 28, 17, 0, 200, 163, 0, 24, 29]
abbrev dktX6_chance_0 : List UInt8 := dkwX6_chance_0 ++ dktX6_chance_1
theorem dksX6_chance_0 : cX6_chance.data.toList.drop 0 = dktX6_chance_0 := by decide +kernel
theorem dksX6_chance_1 : cX6_chance.data.toList.drop 23 = dktX6_chance_1 := dk_seg dksX6_chance_0 23 rfl rfl
theorem dksX6_chance_2 : cX6_chance.data.toList.drop 47 = dktX6_chance_2 := dk_seg dksX6_chance_1 24 rfl rfl
theorem dksX6_chance_3 : cX6_chance.data.toList.drop 71 = dktX6_chance_3 := dk_seg dksX6_chance_2 24 rfl rfl
theorem dksX6_chance_4 : cX6_chance.data.toList.drop 95 = dktX6_chance_4 := dk_seg dksX6_chance_3 24 rfl rfl
theorem dksX6_chance_5 : cX6_chance.data.toList.drop 118 = dktX6_chance_5 := dk_seg dksX6_chance_4 23 rfl rfl
theorem dksX6_chance_6 : cX6_chance.data.toList.drop 141 = dktX6_chance_6 := dk_seg dksX6_chance_5 23 rfl rfl
theorem dksX6_chance_7 : cX6_chance.data.toList.drop 165 = dktX6_chance_7 := dk_seg dksX6_chance_6 24 rfl rfl
theorem dksX6_chance_8 : cX6_chance.data.toList.drop 189 = dktX6_chance_8 := dk_seg dksX6_chance_7 24 rfl rfl
theorem dksX6_chance_9 : cX6_chance.data.toList.drop 211 = dktX6_chance_9 := dk_seg dksX6_chance_8 22 rfl rfl
theorem dksX6_chance_10 : cX6_chance.data.toList.drop 234 = dktX6_chance_10 := dk_seg dksX6_chance_9 23 rfl rfl
theorem dksX6_chance_11 : cX6_chance.data.toList.drop 258 = dktX6_chance_11 := dk_seg dksX6_chance_10 24 rfl rfl
theorem dX6_chance_0 : decode cX6_chance 0 = .ok (.aload_n 0, 1) := dk_42 (dk_at dksX6_chance_0 0 rfl rfl)
theorem dX6_chance_1 : decode cX6_chance 1 = .ok (.iconst 0, 1) := dk_3 (dk_at dksX6_chance_0 1 rfl rfl)
theorem dX6_chance_2 : decode cX6_chance 2 = .ok (.putfield 115, 3) := dk_181 0 115 (dk_at dksX6_chance_0 2 rfl rfl)
theorem dX6_chance_5 : decode cX6_chance 5 = .ok (.iload_n 1, 1) := dk_27 (dk_at dksX6_chance_0 5 rfl rfl)
theorem dX6_chance_6 : decode cX6_chance 6 = .ok (.iconst (-1), 1) := dk_2 (dk_at dksX6_chance_0 6 rfl rfl)
theorem dX6_chance_7 : decode cX6_chance 7 = .ok (.if_icmp .lt 36, 3) := dk_161 0 36 (dk_at dksX6_chance_0 7 rfl rfl)
theorem dX6_chance_10 : decode cX6_chance 10 = .ok (.iload_n 2, 1) := dk_28 (dk_at dksX6_chance_0 10 rfl rfl)
theorem dX6_chance_11 : decode cX6_chance 11 = .ok (.iconst 1, 1) := dk_4 (dk_at dksX6_chance_0 11 rfl rfl)
theorem dX6_chance_12 : decode cX6_chance 12 = .ok (.if_icmp .lt 31, 3) := dk_161 0 31 (dk_at dksX6_chance_0 12 rfl rfl)
theorem dX6_chance_15 : decode cX6_chance 15 = .ok (.iload_n 2, 1) := dk_28 (dk_at dksX6_chance_0 15 rfl rfl)
theorem dX6_chance_16 : decode cX6_chance 16 = .ok (.sipush 200, 3) := dk_17 0 200 (dk_at dksX6_chance_0 16 rfl rfl)
theorem dX6_chance_19 : decode cX6_chance 19 = .ok (.if_icmp .gt 24, 3) := dk_163 0 24 (dk_at dksX6_chance_0 19 rfl rfl)
theorem dX6_chance_22 : decode cX6_chance 22 = .ok (.iload_n 3, 1) := dk_29 (dk_at dksX6_chance_0 22 rfl rfl)
theorem dX6_chance_23 : decode cX6_chance 23 = .ok (.ifCond .lt 20, 3) := dk_155 0 20 (dk_at dksX6_chance_1 0 rfl rfl)
theorem dX6_chance_26 : decode cX6_chance 26 = .ok (.iload_n 3, 1) := dk_29 (dk_at dksX6_chance_1 3 rfl rfl)
theorem dX6_chance_27 : decode cX6_chance 27 = .ok (.bipush 100, 2) := dk_16 100 (dk_at dksX6_chance_1 4 rfl rfl)
theorem dX6_chance_29 : decode cX6_chance 29 = .ok (.if_icmp .gt 14, 3) := dk_163 0 14 (dk_at dksX6_chance_1 6 rfl rfl)
theorem dX6_chance_32 : decode cX6_chance 32 = .ok (.iload 4, 2) := dk_21 4 (dk_at dksX6_chance_1 9 rfl rfl)
theorem dX6_chance_34 : decode cX6_chance 34 = .ok (.ifCond .lt 9, 3) := dk_155 0 9 (dk_at dksX6_chance_1 11 rfl rfl)
theorem dX6_chance_37 : decode cX6_chance 37 = .ok (.iload 4, 2) := dk_21 4 (dk_at dksX6_chance_1 14 rfl rfl)
theorem dX6_chance_39 : decode cX6_chance 39 = .ok (.iconst 3, 1) := dk_6 (dk_at dksX6_chance_1 16 rfl rfl)
theorem dX6_chance_40 : decode cX6_chance 40 = .ok (.if_icmp .le 5, 3) := dk_164 0 5 (dk_at dksX6_chance_1 17 rfl rfl)
theorem dX6_chance_43 : decode cX6_chance 43 = .ok (.iconst (-1), 1) := dk_2 (dk_at dksX6_chance_1 20 rfl rfl)
theorem dX6_chance_44 : decode cX6_chance 44 = .ok (.ireturn, 1) := dk_172 (dk_at dksX6_chance_1 21 rfl rfl)
theorem dX6_chance_45 : decode cX6_chance 45 = .ok (.aload_n 0, 1) := dk_42 (dk_at dksX6_chance_1 22 rfl rfl)
theorem dX6_chance_46 : decode cX6_chance 46 = .ok (.iload_n 1, 1) := dk_27 (dk_at dksX6_chance_1 23 rfl rfl)
theorem dX6_chance_47 : decode cX6_chance 47 = .ok (.iconst (-1), 1) := dk_2 (dk_at dksX6_chance_2 0 rfl rfl)
theorem dX6_chance_48 : decode cX6_chance 48 = .ok (.if_icmp .ne 13, 3) := dk_160 0 13 (dk_at dksX6_chance_2 1 rfl rfl)
theorem dX6_chance_51 : decode cX6_chance 51 = .ok (.aload_n 0, 1) := dk_42 (dk_at dksX6_chance_2 4 rfl rfl)
theorem dX6_chance_52 : decode cX6_chance 52 = .ok (.getfield 13, 3) := dk_180 0 13 (dk_at dksX6_chance_2 5 rfl rfl)
theorem dX6_chance_55 : decode cX6_chance 55 = .ok (.bipush 8, 2) := dk_16 8 (dk_at dksX6_chance_2 8 rfl rfl)
theorem dX6_chance_57 : decode cX6_chance 57 = .ok (.iaload, 1) := dk_46 (dk_at dksX6_chance_2 10 rfl rfl)
theorem dX6_chance_58 : decode cX6_chance 58 = .ok (.goto 4, 3) := dk_167 0 4 (dk_at dksX6_chance_2 11 rfl rfl)
theorem dX6_chance_61 : decode cX6_chance 61 = .ok (.iload_n 1, 1) := dk_27 (dk_at dksX6_chance_2 14 rfl rfl)
theorem dX6_chance_62 : decode cX6_chance 62 = .ok (.putfield 391, 3) := dk_181 1 135 (dk_at dksX6_chance_2 15 rfl rfl)
theorem dX6_chance_65 : decode cX6_chance 65 = .ok (.aload_n 0, 1) := dk_42 (dk_at dksX6_chance_2 18 rfl rfl)
theorem dX6_chance_66 : decode cX6_chance 66 = .ok (.getfield 57, 3) := dk_180 0 57 (dk_at dksX6_chance_2 19 rfl rfl)
theorem dX6_chance_69 : decode cX6_chance 69 = .ok (.iconst 0, 1) := dk_3 (dk_at dksX6_chance_2 22 rfl rfl)
theorem dX6_chance_70 : decode cX6_chance 70 = .ok (.aload_n 0, 1) := dk_42 (dk_at dksX6_chance_2 23 rfl rfl)
theorem dX6_chance_71 : decode cX6_chance 71 = .ok (.getfield 63, 3) := dk_180 0 63 (dk_at dksX6_chance_3 0 rfl rfl)
theorem dX6_chance_74 : decode cX6_chance 74 = .ok (.iconst 0, 1) := dk_3 (dk_at dksX6_chance_3 3 rfl rfl)
theorem dX6_chance_75 : decode cX6_chance 75 = .ok (.invokestatic 254, 3) := dk_184 0 254 (dk_at dksX6_chance_3 4 rfl rfl)
theorem dX6_chance_78 : decode cX6_chance 78 = .ok (.iload 4, 2) := dk_21 4 (dk_at dksX6_chance_3 7 rfl rfl)
theorem dX6_chance_80 : decode cX6_chance 80 = .ok (.iconst 1, 1) := dk_4 (dk_at dksX6_chance_3 9 rfl rfl)
theorem dX6_chance_81 : decode cX6_chance 81 = .ok (.if_icmp .ne 10, 3) := dk_160 0 10 (dk_at dksX6_chance_3 10 rfl rfl)
theorem dX6_chance_84 : decode cX6_chance 84 = .ok (.aload_n 0, 1) := dk_42 (dk_at dksX6_chance_3 13 rfl rfl)
theorem dX6_chance_85 : decode cX6_chance 85 = .ok (.invokevirtual 396, 3) := dk_182 1 140 (dk_at dksX6_chance_3 14 rfl rfl)
theorem dX6_chance_88 : decode cX6_chance 88 = .ok (.goto 19, 3) := dk_167 0 19 (dk_at dksX6_chance_3 17 rfl rfl)
theorem dX6_chance_91 : decode cX6_chance 91 = .ok (.aload_n 0, 1) := dk_42 (dk_at dksX6_chance_3 20 rfl rfl)
theorem dX6_chance_92 : decode cX6_chance 92 = .ok (.iload 4, 2) := dk_21 4 (dk_at dksX6_chance_3 21 rfl rfl)
theorem dX6_chance_94 : decode cX6_chance 94 = .ok (.iconst 3, 1) := dk_6 (dk_at dksX6_chance_3 23 rfl rfl)
theorem dX6_chance_95 : decode cX6_chance 95 = .ok (.if_icmp .ne 8, 3) := dk_160 0 8 (dk_at dksX6_chance_4 0 rfl rfl)
theorem dX6_chance_98 : decode cX6_chance 98 = .ok (.bipush 6, 2) := dk_16 6 (dk_at dksX6_chance_4 3 rfl rfl)
theorem dX6_chance_100 : decode cX6_chance 100 = .ok (.goto 4, 3) := dk_167 0 4 (dk_at dksX6_chance_4 5 rfl rfl)
theorem dX6_chance_103 : decode cX6_chance 103 = .ok (.iconst 5, 1) := dk_8 (dk_at dksX6_chance_4 8 rfl rfl)
theorem dX6_chance_104 : decode cX6_chance 104 = .ok (.invokevirtual 388, 3) := dk_182 1 132 (dk_at dksX6_chance_4 9 rfl rfl)
theorem dX6_chance_107 : decode cX6_chance 107 = .ok (.istore 5, 2) := dk_54 5 (dk_at dksX6_chance_4 12 rfl rfl)
theorem dX6_chance_109 : decode cX6_chance 109 = .ok (.iconst 0, 1) := dk_3 (dk_at dksX6_chance_4 14 rfl rfl)
theorem dX6_chance_110 : decode cX6_chance 110 = .ok (.istore 6, 2) := dk_54 6 (dk_at dksX6_chance_4 15 rfl rfl)
theorem dX6_chance_112 : decode cX6_chance 112 = .ok (.iconst 0, 1) := dk_3 (dk_at dksX6_chance_4 17 rfl rfl)
theorem dX6_chance_113 : decode cX6_chance 113 = .ok (.istore 7, 2) := dk_54 7 (dk_at dksX6_chance_4 18 rfl rfl)
theorem dX6_chance_115 : decode cX6_chance 115 = .ok (.iload 7, 2) := dk_21 7 (dk_at dksX6_chance_4 20 rfl rfl)
theorem dX6_chance_117 : decode cX6_chance 117 = .ok (.iload_n 2, 1) := dk_28 (dk_at dksX6_chance_4 22 rfl rfl)
theorem dX6_chance_118 : decode cX6_chance 118 = .ok (.if_icmp .ge 85, 3) := dk_162 0 85 (dk_at dksX6_chance_5 0 rfl rfl)
theorem dX6_chance_121 : decode cX6_chance 121 = .ok (.aload_n 0, 1) := dk_42 (dk_at dksX6_chance_5 3 rfl rfl)
theorem dX6_chance_122 : decode cX6_chance 122 = .ok (.invokevirtual 251, 3) := dk_182 0 251 (dk_at dksX6_chance_5 4 rfl rfl)
theorem dX6_chance_125 : decode cX6_chance 125 = .ok (.ifCond .le 51, 3) := dk_158 0 51 (dk_at dksX6_chance_5 7 rfl rfl)
theorem dX6_chance_128 : decode cX6_chance 128 = .ok (.aload_n 0, 1) := dk_42 (dk_at dksX6_chance_5 10 rfl rfl)
theorem dX6_chance_129 : decode cX6_chance 129 = .ok (.aload_n 0, 1) := dk_42 (dk_at dksX6_chance_5 11 rfl rfl)
theorem dX6_chance_130 : decode cX6_chance 130 = .ok (.invokevirtual 251, 3) := dk_182 0 251 (dk_at dksX6_chance_5 12 rfl rfl)
theorem dX6_chance_133 : decode cX6_chance 133 = .ok (.invokevirtual 399, 3) := dk_182 1 143 (dk_at dksX6_chance_5 15 rfl rfl)
theorem dX6_chance_136 : decode cX6_chance 136 = .ok (.istore 8, 2) := dk_54 8 (dk_at dksX6_chance_5 18 rfl rfl)
theorem dX6_chance_138 : decode cX6_chance 138 = .ok (.aload_n 0, 1) := dk_42 (dk_at dksX6_chance_5 20 rfl rfl)
theorem dX6_chance_139 : decode cX6_chance 139 = .ok (.bipush 100, 2) := dk_16 100 (dk_at dksX6_chance_5 21 rfl rfl)
theorem dX6_chance_141 : decode cX6_chance 141 = .ok (.invokevirtual 399, 3) := dk_182 1 143 (dk_at dksX6_chance_6 0 rfl rfl)
theorem dX6_chance_144 : decode cX6_chance 144 = .ok (.iload_n 3, 1) := dk_29 (dk_at dksX6_chance_6 3 rfl rfl)
theorem dX6_chance_145 : decode cX6_chance 145 = .ok (.if_icmp .ge 31, 3) := dk_162 0 31 (dk_at dksX6_chance_6 4 rfl rfl)
theorem dX6_chance_148 : decode cX6_chance 148 = .ok (.aload_n 0, 1) := dk_42 (dk_at dksX6_chance_6 7 rfl rfl)
theorem dX6_chance_149 : decode cX6_chance 149 = .ok (.getfield 57, 3) := dk_180 0 57 (dk_at dksX6_chance_6 8 rfl rfl)
theorem dX6_chance_152 : decode cX6_chance 152 = .ok (.iload 8, 2) := dk_21 8 (dk_at dksX6_chance_6 11 rfl rfl)
theorem dX6_chance_154 : decode cX6_chance 154 = .ok (.invokestatic 258, 3) := dk_184 1 2 (dk_at dksX6_chance_6 13 rfl rfl)
theorem dX6_chance_157 : decode cX6_chance 157 = .ok (.bipush 7, 2) := dk_16 7 (dk_at dksX6_chance_6 16 rfl rfl)
theorem dX6_chance_159 : decode cX6_chance 159 = .ok (.iadd, 1) := dk_96 (dk_at dksX6_chance_6 18 rfl rfl)
theorem dX6_chance_160 : decode cX6_chance 160 = .ok (.iconst 1, 1) := dk_4 (dk_at dksX6_chance_6 19 rfl rfl)
theorem dX6_chance_161 : decode cX6_chance 161 = .ok (.aload_n 0, 1) := dk_42 (dk_at dksX6_chance_6 20 rfl rfl)
theorem dX6_chance_162 : decode cX6_chance 162 = .ok (.getfield 57, 3) := dk_180 0 57 (dk_at dksX6_chance_6 21 rfl rfl)
theorem dX6_chance_165 : decode cX6_chance 165 = .ok (.iload 8, 2) := dk_21 8 (dk_at dksX6_chance_7 0 rfl rfl)
theorem dX6_chance_167 : decode cX6_chance 167 = .ok (.invokestatic 258, 3) := dk_184 1 2 (dk_at dksX6_chance_7 2 rfl rfl)
theorem dX6_chance_170 : decode cX6_chance 170 = .ok (.bipush 7, 2) := dk_16 7 (dk_at dksX6_chance_7 5 rfl rfl)
theorem dX6_chance_172 : decode cX6_chance 172 = .ok (.iadd, 1) := dk_96 (dk_at dksX6_chance_7 7 rfl rfl)
theorem dX6_chance_173 : decode cX6_chance 173 = .ok (.iaload, 1) := dk_46 (dk_at dksX6_chance_7 8 rfl rfl)
theorem dX6_chance_174 : decode cX6_chance 174 = .ok (.isub, 1) := dk_100 (dk_at dksX6_chance_7 9 rfl rfl)
theorem dX6_chance_175 : decode cX6_chance 175 = .ok (.iastore, 1) := dk_79 (dk_at dksX6_chance_7 10 rfl rfl)
theorem dX6_chance_176 : decode cX6_chance 176 = .ok (.aload_n 0, 1) := dk_42 (dk_at dksX6_chance_7 11 rfl rfl)
theorem dX6_chance_177 : decode cX6_chance 177 = .ok (.invokevirtual 313, 3) := dk_182 1 57 (dk_at dksX6_chance_7 12 rfl rfl)
theorem dX6_chance_180 : decode cX6_chance 180 = .ok (.iload 6, 2) := dk_21 6 (dk_at dksX6_chance_7 15 rfl rfl)
theorem dX6_chance_182 : decode cX6_chance 182 = .ok (.aload_n 0, 1) := dk_42 (dk_at dksX6_chance_7 17 rfl rfl)
theorem dX6_chance_183 : decode cX6_chance 183 = .ok (.invokevirtual 381, 3) := dk_182 1 125 (dk_at dksX6_chance_7 18 rfl rfl)
theorem dX6_chance_186 : decode cX6_chance 186 = .ok (.ifCond .eq 7, 3) := dk_153 0 7 (dk_at dksX6_chance_7 21 rfl rfl)
theorem dX6_chance_189 : decode cX6_chance 189 = .ok (.iconst 1, 1) := dk_4 (dk_at dksX6_chance_8 0 rfl rfl)
theorem dX6_chance_190 : decode cX6_chance 190 = .ok (.goto 4, 3) := dk_167 0 4 (dk_at dksX6_chance_8 1 rfl rfl)
theorem dX6_chance_193 : decode cX6_chance 193 = .ok (.iconst 0, 1) := dk_3 (dk_at dksX6_chance_8 4 rfl rfl)
theorem dX6_chance_194 : decode cX6_chance 194 = .ok (.iadd, 1) := dk_96 (dk_at dksX6_chance_8 5 rfl rfl)
theorem dX6_chance_195 : decode cX6_chance 195 = .ok (.istore 6, 2) := dk_54 6 (dk_at dksX6_chance_8 6 rfl rfl)
theorem dX6_chance_197 : decode cX6_chance 197 = .ok (.iinc 7 1, 3) := dk_132 7 1 (dk_at dksX6_chance_8 8 rfl rfl)
theorem dX6_chance_200 : decode cX6_chance 200 = .ok (.goto (-85), 3) := dk_167 255 171 (dk_at dksX6_chance_8 11 rfl rfl)
theorem dX6_chance_203 : decode cX6_chance 203 = .ok (.iload 4, 2) := dk_21 4 (dk_at dksX6_chance_8 14 rfl rfl)
theorem dX6_chance_205 : decode cX6_chance 205 = .ok (.iconst 2, 1) := dk_5 (dk_at dksX6_chance_8 16 rfl rfl)
theorem dX6_chance_206 : decode cX6_chance 206 = .ok (.if_icmp .ne 8, 3) := dk_160 0 8 (dk_at dksX6_chance_8 17 rfl rfl)
theorem dX6_chance_209 : decode cX6_chance 209 = .ok (.iload 6, 2) := dk_21 6 (dk_at dksX6_chance_8 20 rfl rfl)
theorem dX6_chance_211 : decode cX6_chance 211 = .ok (.goto 35, 3) := dk_167 0 35 (dk_at dksX6_chance_9 0 rfl rfl)
theorem dX6_chance_214 : decode cX6_chance 214 = .ok (.iload 4, 2) := dk_21 4 (dk_at dksX6_chance_9 3 rfl rfl)
theorem dX6_chance_216 : decode cX6_chance 216 = .ok (.iconst 1, 1) := dk_4 (dk_at dksX6_chance_9 5 rfl rfl)
theorem dX6_chance_217 : decode cX6_chance 217 = .ok (.if_icmp .ne 10, 3) := dk_160 0 10 (dk_at dksX6_chance_9 6 rfl rfl)
theorem dX6_chance_220 : decode cX6_chance 220 = .ok (.aload_n 0, 1) := dk_42 (dk_at dksX6_chance_9 9 rfl rfl)
theorem dX6_chance_221 : decode cX6_chance 221 = .ok (.invokevirtual 396, 3) := dk_182 1 140 (dk_at dksX6_chance_9 10 rfl rfl)
theorem dX6_chance_224 : decode cX6_chance 224 = .ok (.goto 19, 3) := dk_167 0 19 (dk_at dksX6_chance_9 13 rfl rfl)
theorem dX6_chance_227 : decode cX6_chance 227 = .ok (.aload_n 0, 1) := dk_42 (dk_at dksX6_chance_9 16 rfl rfl)
theorem dX6_chance_228 : decode cX6_chance 228 = .ok (.iload 4, 2) := dk_21 4 (dk_at dksX6_chance_9 17 rfl rfl)
theorem dX6_chance_230 : decode cX6_chance 230 = .ok (.iconst 3, 1) := dk_6 (dk_at dksX6_chance_9 19 rfl rfl)
theorem dX6_chance_231 : decode cX6_chance 231 = .ok (.if_icmp .ne 8, 3) := dk_160 0 8 (dk_at dksX6_chance_9 20 rfl rfl)
theorem dX6_chance_234 : decode cX6_chance 234 = .ok (.bipush 6, 2) := dk_16 6 (dk_at dksX6_chance_10 0 rfl rfl)
theorem dX6_chance_236 : decode cX6_chance 236 = .ok (.goto 4, 3) := dk_167 0 4 (dk_at dksX6_chance_10 2 rfl rfl)
theorem dX6_chance_239 : decode cX6_chance 239 = .ok (.iconst 5, 1) := dk_8 (dk_at dksX6_chance_10 5 rfl rfl)
theorem dX6_chance_240 : decode cX6_chance 240 = .ok (.invokevirtual 388, 3) := dk_182 1 132 (dk_at dksX6_chance_10 6 rfl rfl)
theorem dX6_chance_243 : decode cX6_chance 243 = .ok (.iload 5, 2) := dk_21 5 (dk_at dksX6_chance_10 9 rfl rfl)
theorem dX6_chance_245 : decode cX6_chance 245 = .ok (.isub, 1) := dk_100 (dk_at dksX6_chance_10 11 rfl rfl)
theorem dX6_chance_246 : decode cX6_chance 246 = .ok (.istore 7, 2) := dk_54 7 (dk_at dksX6_chance_10 12 rfl rfl)
theorem dX6_chance_248 : decode cX6_chance 248 = .ok (.aload_n 0, 1) := dk_42 (dk_at dksX6_chance_10 14 rfl rfl)
theorem dX6_chance_249 : decode cX6_chance 249 = .ok (.getfield 63, 3) := dk_180 0 63 (dk_at dksX6_chance_10 15 rfl rfl)
theorem dX6_chance_252 : decode cX6_chance 252 = .ok (.iconst 0, 1) := dk_3 (dk_at dksX6_chance_10 18 rfl rfl)
theorem dX6_chance_253 : decode cX6_chance 253 = .ok (.aload_n 0, 1) := dk_42 (dk_at dksX6_chance_10 19 rfl rfl)
theorem dX6_chance_254 : decode cX6_chance 254 = .ok (.getfield 57, 3) := dk_180 0 57 (dk_at dksX6_chance_10 20 rfl rfl)
theorem dX6_chance_257 : decode cX6_chance 257 = .ok (.iconst 0, 1) := dk_3 (dk_at dksX6_chance_10 23 rfl rfl)
theorem dX6_chance_258 : decode cX6_chance 258 = .ok (.invokestatic 254, 3) := dk_184 0 254 (dk_at dksX6_chance_11 0 rfl rfl)
theorem dX6_chance_261 : decode cX6_chance 261 = .ok (.iload 7, 2) := dk_21 7 (dk_at dksX6_chance_11 3 rfl rfl)
theorem dX6_chance_263 : decode cX6_chance 263 = .ok (.ireturn, 1) := dk_172 (dk_at dksX6_chance_11 5 rfl rfl)
abbrev cX6_lostAll : ByteArray := prog_18_method_104_code
def yX6_lostAll : MethodName := ⟨RX6, "lostAll", "()I"⟩
def dkwX6_lostAll_1 : List UInt8 := [96, 60, 132, 2, 1, 167, 255, 231, 27, 172]
abbrev dktX6_lostAll_1 : List UInt8 := dkwX6_lostAll_1 ++ []
def dkwX6_lostAll_0 : List UInt8 := [3, 60, 3, 61, 28, 42, 182, 0, 248, 162, 0, 23, 27, 42, 180, 0, 57, 16, 24, 28, 104, 6, 96, 46]
abbrev dktX6_lostAll_0 : List UInt8 := dkwX6_lostAll_0 ++ dktX6_lostAll_1
theorem dksX6_lostAll_0 : cX6_lostAll.data.toList.drop 0 = dktX6_lostAll_0 := by decide +kernel
theorem dksX6_lostAll_1 : cX6_lostAll.data.toList.drop 24 = dktX6_lostAll_1 := dk_seg dksX6_lostAll_0 24 rfl rfl
theorem dX6_lostAll_0 : decode cX6_lostAll 0 = .ok (.iconst 0, 1) := dk_3 (dk_at dksX6_lostAll_0 0 rfl rfl)
theorem dX6_lostAll_1 : decode cX6_lostAll 1 = .ok (.istore_n 1, 1) := dk_60 (dk_at dksX6_lostAll_0 1 rfl rfl)
theorem dX6_lostAll_2 : decode cX6_lostAll 2 = .ok (.iconst 0, 1) := dk_3 (dk_at dksX6_lostAll_0 2 rfl rfl)
theorem dX6_lostAll_3 : decode cX6_lostAll 3 = .ok (.istore_n 2, 1) := dk_61 (dk_at dksX6_lostAll_0 3 rfl rfl)
theorem dX6_lostAll_4 : decode cX6_lostAll 4 = .ok (.iload_n 2, 1) := dk_28 (dk_at dksX6_lostAll_0 4 rfl rfl)
theorem dX6_lostAll_5 : decode cX6_lostAll 5 = .ok (.aload_n 0, 1) := dk_42 (dk_at dksX6_lostAll_0 5 rfl rfl)
theorem dX6_lostAll_6 : decode cX6_lostAll 6 = .ok (.invokevirtual 248, 3) := dk_182 0 248 (dk_at dksX6_lostAll_0 6 rfl rfl)
theorem dX6_lostAll_9 : decode cX6_lostAll 9 = .ok (.if_icmp .ge 23, 3) := dk_162 0 23 (dk_at dksX6_lostAll_0 9 rfl rfl)
theorem dX6_lostAll_12 : decode cX6_lostAll 12 = .ok (.iload_n 1, 1) := dk_27 (dk_at dksX6_lostAll_0 12 rfl rfl)
theorem dX6_lostAll_13 : decode cX6_lostAll 13 = .ok (.aload_n 0, 1) := dk_42 (dk_at dksX6_lostAll_0 13 rfl rfl)
theorem dX6_lostAll_14 : decode cX6_lostAll 14 = .ok (.getfield 57, 3) := dk_180 0 57 (dk_at dksX6_lostAll_0 14 rfl rfl)
theorem dX6_lostAll_17 : decode cX6_lostAll 17 = .ok (.bipush 24, 2) := dk_16 24 (dk_at dksX6_lostAll_0 17 rfl rfl)
theorem dX6_lostAll_19 : decode cX6_lostAll 19 = .ok (.iload_n 2, 1) := dk_28 (dk_at dksX6_lostAll_0 19 rfl rfl)
theorem dX6_lostAll_20 : decode cX6_lostAll 20 = .ok (.imul, 1) := dk_104 (dk_at dksX6_lostAll_0 20 rfl rfl)
theorem dX6_lostAll_21 : decode cX6_lostAll 21 = .ok (.iconst 3, 1) := dk_6 (dk_at dksX6_lostAll_0 21 rfl rfl)
theorem dX6_lostAll_22 : decode cX6_lostAll 22 = .ok (.iadd, 1) := dk_96 (dk_at dksX6_lostAll_0 22 rfl rfl)
theorem dX6_lostAll_23 : decode cX6_lostAll 23 = .ok (.iaload, 1) := dk_46 (dk_at dksX6_lostAll_0 23 rfl rfl)
theorem dX6_lostAll_24 : decode cX6_lostAll 24 = .ok (.iadd, 1) := dk_96 (dk_at dksX6_lostAll_1 0 rfl rfl)
theorem dX6_lostAll_25 : decode cX6_lostAll 25 = .ok (.istore_n 1, 1) := dk_60 (dk_at dksX6_lostAll_1 1 rfl rfl)
theorem dX6_lostAll_26 : decode cX6_lostAll 26 = .ok (.iinc 2 1, 3) := dk_132 2 1 (dk_at dksX6_lostAll_1 2 rfl rfl)
theorem dX6_lostAll_29 : decode cX6_lostAll 29 = .ok (.goto (-25), 3) := dk_167 255 231 (dk_at dksX6_lostAll_1 5 rfl rfl)
theorem dX6_lostAll_32 : decode cX6_lostAll 32 = .ok (.iload_n 1, 1) := dk_27 (dk_at dksX6_lostAll_1 8 rfl rfl)
theorem dX6_lostAll_33 : decode cX6_lostAll 33 = .ok (.ireturn, 1) := dk_172 (dk_at dksX6_lostAll_1 9 rfl rfl)
abbrev cX6_draw : ByteArray := prog_18_method_103_code
def yX6_draw : MethodName := ⟨RX6, "draw", "(I)I"⟩
def dkwX6_draw_1 : List UInt8 := [16, 16, 122, 27, 112, 172]
abbrev dktX6_draw_1 : List UInt8 := dkwX6_draw_1 ++ []
def dkwX6_draw_0 : List UInt8 := [42, 42, 180, 1, 135, 19, 1, 138, 104, 17, 48, 57, 96, 19, 1, 139, 126, 181, 1, 135, 42, 180, 1, 135]
abbrev dktX6_draw_0 : List UInt8 := dkwX6_draw_0 ++ dktX6_draw_1
theorem dksX6_draw_0 : cX6_draw.data.toList.drop 0 = dktX6_draw_0 := by decide +kernel
theorem dksX6_draw_1 : cX6_draw.data.toList.drop 24 = dktX6_draw_1 := dk_seg dksX6_draw_0 24 rfl rfl
theorem dX6_draw_0 : decode cX6_draw 0 = .ok (.aload_n 0, 1) := dk_42 (dk_at dksX6_draw_0 0 rfl rfl)
theorem dX6_draw_1 : decode cX6_draw 1 = .ok (.aload_n 0, 1) := dk_42 (dk_at dksX6_draw_0 1 rfl rfl)
theorem dX6_draw_2 : decode cX6_draw 2 = .ok (.getfield 391, 3) := dk_180 1 135 (dk_at dksX6_draw_0 2 rfl rfl)
theorem dX6_draw_5 : decode cX6_draw 5 = .ok (.ldc_w 394, 3) := dk_19 1 138 (dk_at dksX6_draw_0 5 rfl rfl)
theorem dX6_draw_8 : decode cX6_draw 8 = .ok (.imul, 1) := dk_104 (dk_at dksX6_draw_0 8 rfl rfl)
theorem dX6_draw_9 : decode cX6_draw 9 = .ok (.sipush 12345, 3) := dk_17 48 57 (dk_at dksX6_draw_0 9 rfl rfl)
theorem dX6_draw_12 : decode cX6_draw 12 = .ok (.iadd, 1) := dk_96 (dk_at dksX6_draw_0 12 rfl rfl)
theorem dX6_draw_13 : decode cX6_draw 13 = .ok (.ldc_w 395, 3) := dk_19 1 139 (dk_at dksX6_draw_0 13 rfl rfl)
theorem dX6_draw_16 : decode cX6_draw 16 = .ok (.iand, 1) := dk_126 (dk_at dksX6_draw_0 16 rfl rfl)
theorem dX6_draw_17 : decode cX6_draw 17 = .ok (.putfield 391, 3) := dk_181 1 135 (dk_at dksX6_draw_0 17 rfl rfl)
theorem dX6_draw_20 : decode cX6_draw 20 = .ok (.aload_n 0, 1) := dk_42 (dk_at dksX6_draw_0 20 rfl rfl)
theorem dX6_draw_21 : decode cX6_draw 21 = .ok (.getfield 391, 3) := dk_180 1 135 (dk_at dksX6_draw_0 21 rfl rfl)
theorem dX6_draw_24 : decode cX6_draw 24 = .ok (.bipush 16, 2) := dk_16 16 (dk_at dksX6_draw_1 0 rfl rfl)
theorem dX6_draw_26 : decode cX6_draw 26 = .ok (.ishr, 1) := dk_122 (dk_at dksX6_draw_1 2 rfl rfl)
theorem dX6_draw_27 : decode cX6_draw 27 = .ok (.iload_n 1, 1) := dk_27 (dk_at dksX6_draw_1 3 rfl rfl)
theorem dX6_draw_28 : decode cX6_draw 28 = .ok (.irem, 1) := dk_112 (dk_at dksX6_draw_1 4 rfl rfl)
theorem dX6_draw_29 : decode cX6_draw 29 = .ok (.ireturn, 1) := dk_172 (dk_at dksX6_draw_1 5 rfl rfl)
abbrev cX6_count : ByteArray := prog_18_method_107_code
def yX6_count : MethodName := ⟨RX6, "count", "(I)I"⟩
def dkwX6_count_4 : List UInt8 := [182, 1, 132, 172, 42, 182, 1, 146, 172, 42, 180, 0, 241, 172, 42, 180, 0, 118, 172, 2, 172]
abbrev dktX6_count_4 : List UInt8 := dkwX6_count_4 ++ []
def dkwX6_count_3 : List UInt8 := [172, 42, 8, 182, 1, 132, 172, 42, 182, 1, 140, 172, 42, 16, 6, 182, 1, 132, 172, 42, 16, 7]
abbrev dktX6_count_3 : List UInt8 := dkwX6_count_3 ++ dktX6_count_4
def dkwX6_count_2 : List UInt8 := [42, 182, 0, 248, 172, 42, 182, 0, 251, 172, 42, 180, 0, 57, 17, 1, 80, 46, 172, 42, 7, 182, 1, 132]
abbrev dktX6_count_2 : List UInt8 := dkwX6_count_2 ++ dktX6_count_3
def dkwX6_count_1 : List UInt8 := [170, 0, 0, 0, 0, 123, 0, 0, 0, 0, 0, 0, 0, 10, 0, 0, 0, 58, 0, 0, 0, 63, 0, 0, 0, 68, 0, 0, 0, 77, 0, 0, 0, 83, 0, 0, 0, 89, 0, 0, 0, 94, 0, 0, 0, 101, 0, 0, 0, 108, 0, 0, 0, 113, 0, 0, 0, 118]
abbrev dktX6_count_1 : List UInt8 := dkwX6_count_1 ++ dktX6_count_2
def dkwX6_count_0 : List UInt8 := [42, 3, 181, 0, 115, 27]
abbrev dktX6_count_0 : List UInt8 := dkwX6_count_0 ++ dktX6_count_1
theorem dksX6_count_0 : cX6_count.data.toList.drop 0 = dktX6_count_0 := by decide +kernel
theorem dksX6_count_1 : cX6_count.data.toList.drop 6 = dktX6_count_1 := dk_seg dksX6_count_0 6 rfl rfl
theorem dksX6_count_2 : cX6_count.data.toList.drop 64 = dktX6_count_2 := dk_seg dksX6_count_1 58 rfl rfl
theorem dksX6_count_3 : cX6_count.data.toList.drop 88 = dktX6_count_3 := dk_seg dksX6_count_2 24 rfl rfl
theorem dksX6_count_4 : cX6_count.data.toList.drop 110 = dktX6_count_4 := dk_seg dksX6_count_3 22 rfl rfl
theorem dX6_count_0 : decode cX6_count 0 = .ok (.aload_n 0, 1) := dk_42 (dk_at dksX6_count_0 0 rfl rfl)
theorem dX6_count_1 : decode cX6_count 1 = .ok (.iconst 0, 1) := dk_3 (dk_at dksX6_count_0 1 rfl rfl)
theorem dX6_count_2 : decode cX6_count 2 = .ok (.putfield 115, 3) := dk_181 0 115 (dk_at dksX6_count_0 2 rfl rfl)
theorem dX6_count_5 : decode cX6_count 5 = .ok (.iload_n 1, 1) := dk_27 (dk_at dksX6_count_0 5 rfl rfl)
theorem dX6_count_6 : decode cX6_count 6 = .ok (.tableswitch 123 0 10 #[58, 63, 68, 77, 83, 89, 94, 101, 108, 113, 118], 58) := by decide +kernel
theorem dX6_count_64 : decode cX6_count 64 = .ok (.aload_n 0, 1) := dk_42 (dk_at dksX6_count_2 0 rfl rfl)
theorem dX6_count_65 : decode cX6_count 65 = .ok (.invokevirtual 248, 3) := dk_182 0 248 (dk_at dksX6_count_2 1 rfl rfl)
theorem dX6_count_68 : decode cX6_count 68 = .ok (.ireturn, 1) := dk_172 (dk_at dksX6_count_2 4 rfl rfl)
theorem dX6_count_69 : decode cX6_count 69 = .ok (.aload_n 0, 1) := dk_42 (dk_at dksX6_count_2 5 rfl rfl)
theorem dX6_count_70 : decode cX6_count 70 = .ok (.invokevirtual 251, 3) := dk_182 0 251 (dk_at dksX6_count_2 6 rfl rfl)
theorem dX6_count_73 : decode cX6_count 73 = .ok (.ireturn, 1) := dk_172 (dk_at dksX6_count_2 9 rfl rfl)
theorem dX6_count_74 : decode cX6_count 74 = .ok (.aload_n 0, 1) := dk_42 (dk_at dksX6_count_2 10 rfl rfl)
theorem dX6_count_75 : decode cX6_count 75 = .ok (.getfield 57, 3) := dk_180 0 57 (dk_at dksX6_count_2 11 rfl rfl)
theorem dX6_count_78 : decode cX6_count 78 = .ok (.sipush 336, 3) := dk_17 1 80 (dk_at dksX6_count_2 14 rfl rfl)
theorem dX6_count_81 : decode cX6_count 81 = .ok (.iaload, 1) := dk_46 (dk_at dksX6_count_2 17 rfl rfl)
theorem dX6_count_82 : decode cX6_count 82 = .ok (.ireturn, 1) := dk_172 (dk_at dksX6_count_2 18 rfl rfl)
theorem dX6_count_83 : decode cX6_count 83 = .ok (.aload_n 0, 1) := dk_42 (dk_at dksX6_count_2 19 rfl rfl)
theorem dX6_count_84 : decode cX6_count 84 = .ok (.iconst 4, 1) := dk_7 (dk_at dksX6_count_2 20 rfl rfl)
theorem dX6_count_85 : decode cX6_count 85 = .ok (.invokevirtual 388, 3) := dk_182 1 132 (dk_at dksX6_count_2 21 rfl rfl)
theorem dX6_count_88 : decode cX6_count 88 = .ok (.ireturn, 1) := dk_172 (dk_at dksX6_count_3 0 rfl rfl)
theorem dX6_count_89 : decode cX6_count 89 = .ok (.aload_n 0, 1) := dk_42 (dk_at dksX6_count_3 1 rfl rfl)
theorem dX6_count_90 : decode cX6_count 90 = .ok (.iconst 5, 1) := dk_8 (dk_at dksX6_count_3 2 rfl rfl)
theorem dX6_count_91 : decode cX6_count 91 = .ok (.invokevirtual 388, 3) := dk_182 1 132 (dk_at dksX6_count_3 3 rfl rfl)
theorem dX6_count_94 : decode cX6_count 94 = .ok (.ireturn, 1) := dk_172 (dk_at dksX6_count_3 6 rfl rfl)
theorem dX6_count_95 : decode cX6_count 95 = .ok (.aload_n 0, 1) := dk_42 (dk_at dksX6_count_3 7 rfl rfl)
theorem dX6_count_96 : decode cX6_count 96 = .ok (.invokevirtual 396, 3) := dk_182 1 140 (dk_at dksX6_count_3 8 rfl rfl)
theorem dX6_count_99 : decode cX6_count 99 = .ok (.ireturn, 1) := dk_172 (dk_at dksX6_count_3 11 rfl rfl)
theorem dX6_count_100 : decode cX6_count 100 = .ok (.aload_n 0, 1) := dk_42 (dk_at dksX6_count_3 12 rfl rfl)
theorem dX6_count_101 : decode cX6_count 101 = .ok (.bipush 6, 2) := dk_16 6 (dk_at dksX6_count_3 13 rfl rfl)
theorem dX6_count_103 : decode cX6_count 103 = .ok (.invokevirtual 388, 3) := dk_182 1 132 (dk_at dksX6_count_3 15 rfl rfl)
theorem dX6_count_106 : decode cX6_count 106 = .ok (.ireturn, 1) := dk_172 (dk_at dksX6_count_3 18 rfl rfl)
theorem dX6_count_107 : decode cX6_count 107 = .ok (.aload_n 0, 1) := dk_42 (dk_at dksX6_count_3 19 rfl rfl)
theorem dX6_count_108 : decode cX6_count 108 = .ok (.bipush 7, 2) := dk_16 7 (dk_at dksX6_count_3 20 rfl rfl)
theorem dX6_count_110 : decode cX6_count 110 = .ok (.invokevirtual 388, 3) := dk_182 1 132 (dk_at dksX6_count_4 0 rfl rfl)
theorem dX6_count_113 : decode cX6_count 113 = .ok (.ireturn, 1) := dk_172 (dk_at dksX6_count_4 3 rfl rfl)
theorem dX6_count_114 : decode cX6_count 114 = .ok (.aload_n 0, 1) := dk_42 (dk_at dksX6_count_4 4 rfl rfl)
theorem dX6_count_115 : decode cX6_count 115 = .ok (.invokevirtual 402, 3) := dk_182 1 146 (dk_at dksX6_count_4 5 rfl rfl)
theorem dX6_count_118 : decode cX6_count 118 = .ok (.ireturn, 1) := dk_172 (dk_at dksX6_count_4 8 rfl rfl)
theorem dX6_count_119 : decode cX6_count 119 = .ok (.aload_n 0, 1) := dk_42 (dk_at dksX6_count_4 9 rfl rfl)
theorem dX6_count_120 : decode cX6_count 120 = .ok (.getfield 241, 3) := dk_180 0 241 (dk_at dksX6_count_4 10 rfl rfl)
theorem dX6_count_123 : decode cX6_count 123 = .ok (.ireturn, 1) := dk_172 (dk_at dksX6_count_4 13 rfl rfl)
theorem dX6_count_124 : decode cX6_count 124 = .ok (.aload_n 0, 1) := dk_42 (dk_at dksX6_count_4 14 rfl rfl)
theorem dX6_count_125 : decode cX6_count 125 = .ok (.getfield 118, 3) := dk_180 0 118 (dk_at dksX6_count_4 15 rfl rfl)
theorem dX6_count_128 : decode cX6_count 128 = .ok (.ireturn, 1) := dk_172 (dk_at dksX6_count_4 18 rfl rfl)
theorem dX6_count_129 : decode cX6_count 129 = .ok (.iconst (-1), 1) := dk_2 (dk_at dksX6_count_4 19 rfl rfl)
theorem dX6_count_130 : decode cX6_count 130 = .ok (.ireturn, 1) := dk_172 (dk_at dksX6_count_4 20 rfl rfl)
abbrev cX6_askedMany : ByteArray := prog_18_method_106_code
def yX6_askedMany : MethodName := ⟨RX6, "askedMany", "()I"⟩
def dkwX6_askedMany_1 : List UInt8 := [167, 0, 4, 3, 96, 60, 132, 2, 1, 167, 255, 229, 27, 172]
abbrev dktX6_askedMany_1 : List UInt8 := dkwX6_askedMany_1 ++ []
def dkwX6_askedMany_0 : List UInt8 := [3, 60, 3, 61, 28, 42, 182, 0, 248, 162, 0, 25, 27, 42, 28, 182, 1, 70, 153, 0, 7, 4]
abbrev dktX6_askedMany_0 : List UInt8 := dkwX6_askedMany_0 ++ dktX6_askedMany_1
theorem dksX6_askedMany_0 : cX6_askedMany.data.toList.drop 0 = dktX6_askedMany_0 := by decide +kernel
theorem dksX6_askedMany_1 : cX6_askedMany.data.toList.drop 22 = dktX6_askedMany_1 := dk_seg dksX6_askedMany_0 22 rfl rfl
theorem dX6_askedMany_0 : decode cX6_askedMany 0 = .ok (.iconst 0, 1) := dk_3 (dk_at dksX6_askedMany_0 0 rfl rfl)
theorem dX6_askedMany_1 : decode cX6_askedMany 1 = .ok (.istore_n 1, 1) := dk_60 (dk_at dksX6_askedMany_0 1 rfl rfl)
theorem dX6_askedMany_2 : decode cX6_askedMany 2 = .ok (.iconst 0, 1) := dk_3 (dk_at dksX6_askedMany_0 2 rfl rfl)
theorem dX6_askedMany_3 : decode cX6_askedMany 3 = .ok (.istore_n 2, 1) := dk_61 (dk_at dksX6_askedMany_0 3 rfl rfl)
theorem dX6_askedMany_4 : decode cX6_askedMany 4 = .ok (.iload_n 2, 1) := dk_28 (dk_at dksX6_askedMany_0 4 rfl rfl)
theorem dX6_askedMany_5 : decode cX6_askedMany 5 = .ok (.aload_n 0, 1) := dk_42 (dk_at dksX6_askedMany_0 5 rfl rfl)
theorem dX6_askedMany_6 : decode cX6_askedMany 6 = .ok (.invokevirtual 248, 3) := dk_182 0 248 (dk_at dksX6_askedMany_0 6 rfl rfl)
theorem dX6_askedMany_9 : decode cX6_askedMany 9 = .ok (.if_icmp .ge 25, 3) := dk_162 0 25 (dk_at dksX6_askedMany_0 9 rfl rfl)
theorem dX6_askedMany_12 : decode cX6_askedMany 12 = .ok (.iload_n 1, 1) := dk_27 (dk_at dksX6_askedMany_0 12 rfl rfl)
theorem dX6_askedMany_13 : decode cX6_askedMany 13 = .ok (.aload_n 0, 1) := dk_42 (dk_at dksX6_askedMany_0 13 rfl rfl)
theorem dX6_askedMany_14 : decode cX6_askedMany 14 = .ok (.iload_n 2, 1) := dk_28 (dk_at dksX6_askedMany_0 14 rfl rfl)
theorem dX6_askedMany_15 : decode cX6_askedMany 15 = .ok (.invokevirtual 326, 3) := dk_182 1 70 (dk_at dksX6_askedMany_0 15 rfl rfl)
theorem dX6_askedMany_18 : decode cX6_askedMany 18 = .ok (.ifCond .eq 7, 3) := dk_153 0 7 (dk_at dksX6_askedMany_0 18 rfl rfl)
theorem dX6_askedMany_21 : decode cX6_askedMany 21 = .ok (.iconst 1, 1) := dk_4 (dk_at dksX6_askedMany_0 21 rfl rfl)
theorem dX6_askedMany_22 : decode cX6_askedMany 22 = .ok (.goto 4, 3) := dk_167 0 4 (dk_at dksX6_askedMany_1 0 rfl rfl)
theorem dX6_askedMany_25 : decode cX6_askedMany 25 = .ok (.iconst 0, 1) := dk_3 (dk_at dksX6_askedMany_1 3 rfl rfl)
theorem dX6_askedMany_26 : decode cX6_askedMany 26 = .ok (.iadd, 1) := dk_96 (dk_at dksX6_askedMany_1 4 rfl rfl)
theorem dX6_askedMany_27 : decode cX6_askedMany 27 = .ok (.istore_n 1, 1) := dk_60 (dk_at dksX6_askedMany_1 5 rfl rfl)
theorem dX6_askedMany_28 : decode cX6_askedMany 28 = .ok (.iinc 2 1, 3) := dk_132 2 1 (dk_at dksX6_askedMany_1 6 rfl rfl)
theorem dX6_askedMany_31 : decode cX6_askedMany 31 = .ok (.goto (-27), 3) := dk_167 255 229 (dk_at dksX6_askedMany_1 9 rfl rfl)
theorem dX6_askedMany_34 : decode cX6_askedMany 34 = .ok (.iload_n 1, 1) := dk_27 (dk_at dksX6_askedMany_1 12 rfl rfl)
theorem dX6_askedMany_35 : decode cX6_askedMany 35 = .ok (.ireturn, 1) := dk_172 (dk_at dksX6_askedMany_1 13 rfl rfl)
theorem q106 : (Jvm.Cond.initialized "LosslessFabricModel") ∈ lw_all := lw_g (lw_at lw_m1 6 rfl) rfl
theorem q1343 : (Jvm.Cond.instantiable "LosslessFabricModel" (49 : Nat)) ∈ lw_all := lw_g (lw_at lw_m6 43 rfl) rfl
theorem q1345 : (Jvm.Cond.instanceMethod ({ cls := "LosslessFabricModel", name := "<init>", desc := "()V" } : Jvm.MethodName)) ∈ lw_all := lw_g (lw_at lw_m6 45 rfl) rfl
theorem q1346 : (Jvm.Cond.code ({ cls := "LosslessFabricModel", name := "<init>", desc := "()V" } : Jvm.MethodName) prog_18_method_1_code (1 : Nat) (Option.none : Option Jvm.ClassFile.FieldType)) ∈ lw_all := lw_g (lw_at lw_m6 46 rfl) rfl
theorem q1347 : (Jvm.Cond.methodLink "LosslessFabricModel" (1 : Nat) ({ cls := "java/lang/Object", name := "<init>", desc := "()V" } : Jvm.MethodName)) ∈ lw_all := lw_g (lw_at lw_m6 47 rfl) rfl
theorem q1348 : (Jvm.Cond.methodLink "LosslessFabricModel" (106 : Nat) ({ cls := "LosslessFabricModel", name := "freshText", desc := "()V" } : Jvm.MethodName)) ∈ lw_all := lw_g (lw_at lw_m6 48 rfl) rfl
theorem q1349 : (Jvm.Cond.privateMethod ({ cls := "LosslessFabricModel", name := "freshText", desc := "()V" } : Jvm.MethodName)) ∈ lw_tbl := lw_at lw_m6 49 rfl
theorem q1350 : (Jvm.Cond.instanceMethod ({ cls := "LosslessFabricModel", name := "freshText", desc := "()V" } : Jvm.MethodName)) ∈ lw_all := lw_g (lw_at lw_m6 50 rfl) rfl
theorem q1351 : (Jvm.Cond.code ({ cls := "LosslessFabricModel", name := "freshText", desc := "()V" } : Jvm.MethodName) prog_18_method_27_code (2 : Nat) (Option.none : Option Jvm.ClassFile.FieldType)) ∈ lw_all := lw_g (lw_at lw_m6 51 rfl) rfl
theorem q1352 : (Jvm.Cond.methodLink "LosslessFabricModel" (197 : Nat) ({ cls := "LosslessFabricModel", name := "reads", desc := "(II)V" } : Jvm.MethodName)) ∈ lw_all := lw_g (lw_at lw_m6 52 rfl) rfl
theorem q1353 : (Jvm.Cond.privateMethod ({ cls := "LosslessFabricModel", name := "reads", desc := "(II)V" } : Jvm.MethodName)) ∈ lw_tbl := lw_at lw_m6 53 rfl
theorem q1354 : (Jvm.Cond.instanceMethod ({ cls := "LosslessFabricModel", name := "reads", desc := "(II)V" } : Jvm.MethodName)) ∈ lw_all := lw_g (lw_at lw_m6 54 rfl) rfl
theorem q1355 : (Jvm.Cond.code ({ cls := "LosslessFabricModel", name := "reads", desc := "(II)V" } : Jvm.MethodName) prog_18_method_14_code (3 : Nat) (Option.none : Option Jvm.ClassFile.FieldType)) ∈ lw_all := lw_g (lw_at lw_m6 55 rfl) rfl
theorem q1356 : (Jvm.Cond.methodLink "LosslessFabricModel" (109 : Nat) ({ cls := "LosslessFabricModel", name := "takeText", desc := "()V" } : Jvm.MethodName)) ∈ lw_all := lw_g (lw_at lw_m6 56 rfl) rfl
theorem q1357 : (Jvm.Cond.privateMethod ({ cls := "LosslessFabricModel", name := "takeText", desc := "()V" } : Jvm.MethodName)) ∈ lw_tbl := lw_at lw_m6 57 rfl
theorem q1358 : (Jvm.Cond.instanceMethod ({ cls := "LosslessFabricModel", name := "takeText", desc := "()V" } : Jvm.MethodName)) ∈ lw_all := lw_g (lw_at lw_m6 58 rfl) rfl
theorem q1359 : (Jvm.Cond.code ({ cls := "LosslessFabricModel", name := "takeText", desc := "()V" } : Jvm.MethodName) prog_18_method_29_code (2 : Nat) (Option.none : Option Jvm.ClassFile.FieldType)) ∈ lw_all := lw_g (lw_at lw_m6 59 rfl) rfl
theorem q1360 : (Jvm.Cond.methodLink "LosslessFabricModel" (185 : Nat) ({ cls := "LosslessFabricModel", name := "reading", desc := "(I)I" } : Jvm.MethodName)) ∈ lw_all := lw_g (lw_at lw_m6 60 rfl) rfl
theorem q1361 : (Jvm.Cond.privateMethod ({ cls := "LosslessFabricModel", name := "reading", desc := "(I)I" } : Jvm.MethodName)) ∈ lw_tbl := lw_at lw_m6 61 rfl
theorem q1362 : (Jvm.Cond.instanceMethod ({ cls := "LosslessFabricModel", name := "reading", desc := "(I)I" } : Jvm.MethodName)) ∈ lw_all := lw_g (lw_at lw_m6 62 rfl) rfl
theorem q1363 : (Jvm.Cond.code ({ cls := "LosslessFabricModel", name := "reading", desc := "(I)I" } : Jvm.MethodName) prog_18_method_13_code (2 : Nat) (Option.some Jvm.ClassFile.FieldType.int)) ∈ lw_all := lw_g (lw_at lw_m6 63 rfl) rfl
theorem q1364 : (Jvm.Cond.methodLink "LosslessFabricModel" (112 : Nat) ({ cls := "LosslessFabricModel", name := "begins", desc := "()V" } : Jvm.MethodName)) ∈ lw_all := lw_g (lw_at lw_m6 64 rfl) rfl
theorem q1365 : (Jvm.Cond.privateMethod ({ cls := "LosslessFabricModel", name := "begins", desc := "()V" } : Jvm.MethodName)) ∈ lw_tbl := lw_at lw_m6 65 rfl
theorem q1366 : (Jvm.Cond.instanceMethod ({ cls := "LosslessFabricModel", name := "begins", desc := "()V" } : Jvm.MethodName)) ∈ lw_all := lw_g (lw_at lw_m6 66 rfl) rfl
theorem q1367 : (Jvm.Cond.code ({ cls := "LosslessFabricModel", name := "begins", desc := "()V" } : Jvm.MethodName) prog_18_method_36_code (3 : Nat) (Option.none : Option Jvm.ClassFile.FieldType)) ∈ lw_all := lw_g (lw_at lw_m6 67 rfl) rfl
theorem q1368 : (Jvm.Cond.methodLink "LosslessFabricModel" (248 : Nat) ({ cls := "LosslessFabricModel", name := "links", desc := "()I" } : Jvm.MethodName)) ∈ lw_all := lw_g (lw_at lw_m6 68 rfl) rfl
theorem q1369 : (Jvm.Cond.privateMethod ({ cls := "LosslessFabricModel", name := "links", desc := "()I" } : Jvm.MethodName)) ∈ lw_tbl := lw_at lw_m6 69 rfl
theorem q1370 : (Jvm.Cond.instanceMethod ({ cls := "LosslessFabricModel", name := "links", desc := "()I" } : Jvm.MethodName)) ∈ lw_all := lw_g (lw_at lw_m6 70 rfl) rfl
theorem q1371 : (Jvm.Cond.code ({ cls := "LosslessFabricModel", name := "links", desc := "()I" } : Jvm.MethodName) prog_18_method_32_code (1 : Nat) (Option.some Jvm.ClassFile.FieldType.int)) ∈ lw_all := lw_g (lw_at lw_m6 71 rfl) rfl
theorem q1372 : (Jvm.Cond.methodLink "LosslessFabricModel" (251 : Nat) ({ cls := "LosslessFabricModel", name := "flows", desc := "()I" } : Jvm.MethodName)) ∈ lw_all := lw_g (lw_at lw_m6 72 rfl) rfl
theorem q1373 : (Jvm.Cond.privateMethod ({ cls := "LosslessFabricModel", name := "flows", desc := "()I" } : Jvm.MethodName)) ∈ lw_tbl := lw_at lw_m6 73 rfl
theorem q1374 : (Jvm.Cond.instanceMethod ({ cls := "LosslessFabricModel", name := "flows", desc := "()I" } : Jvm.MethodName)) ∈ lw_all := lw_g (lw_at lw_m6 74 rfl) rfl
theorem q1375 : (Jvm.Cond.code ({ cls := "LosslessFabricModel", name := "flows", desc := "()I" } : Jvm.MethodName) prog_18_method_33_code (1 : Nat) (Option.some Jvm.ClassFile.FieldType.int)) ∈ lw_all := lw_g (lw_at lw_m6 75 rfl) rfl
theorem q1376 : (Jvm.Cond.fieldLink "LosslessFabricModel" (115 : Nat) "LosslessFabricModel" "thrown" "I") ∈ lw_all := lw_g (lw_at lw_m6 76 rfl) rfl
theorem q1377 : (Jvm.Cond.fieldLink "LosslessFabricModel" (7 : Nat) "LosslessFabricModel" "tape" "[I") ∈ lw_all := lw_g (lw_at lw_m6 77 rfl) rfl
theorem q1378 : (Jvm.Cond.fieldLink "LosslessFabricModel" (118 : Nat) "LosslessFabricModel" "taped" "I") ∈ lw_all := lw_g (lw_at lw_m6 78 rfl) rfl
theorem q1379 : (Jvm.Cond.fieldLink "LosslessFabricModel" (13 : Nat) "LosslessFabricModel" "number" "[I") ∈ lw_all := lw_g (lw_at lw_m6 79 rfl) rfl
theorem q1380 : (Jvm.Cond.fieldLink "LosslessFabricModel" (16 : Nat) "LosslessFabricModel" "isTold" "[Z") ∈ lw_all := lw_g (lw_at lw_m6 80 rfl) rfl
theorem q1381 : (Jvm.Cond.fieldLink "LosslessFabricModel" (20 : Nat) "LosslessFabricModel" "linkName" "[I") ∈ lw_all := lw_g (lw_at lw_m6 81 rfl) rfl
theorem q1382 : (Jvm.Cond.fieldLink "LosslessFabricModel" (23 : Nat) "LosslessFabricModel" "cap" "[I") ∈ lw_all := lw_g (lw_at lw_m6 82 rfl) rfl
theorem q1383 : (Jvm.Cond.fieldLink "LosslessFabricModel" (26 : Nat) "LosslessFabricModel" "delay" "[I") ∈ lw_all := lw_g (lw_at lw_m6 83 rfl) rfl
theorem q1384 : (Jvm.Cond.fieldLink "LosslessFabricModel" (29 : Nat) "LosslessFabricModel" "xoffTold" "[I") ∈ lw_all := lw_g (lw_at lw_m6 84 rfl) rfl
theorem q1385 : (Jvm.Cond.fieldLink "LosslessFabricModel" (32 : Nat) "LosslessFabricModel" "xonTold" "[I") ∈ lw_all := lw_g (lw_at lw_m6 85 rfl) rfl
theorem q1386 : (Jvm.Cond.fieldLink "LosslessFabricModel" (35 : Nat) "LosslessFabricModel" "sizeTold" "[I") ∈ lw_all := lw_g (lw_at lw_m6 86 rfl) rfl
theorem q1387 : (Jvm.Cond.fieldLink "LosslessFabricModel" (38 : Nat) "LosslessFabricModel" "flowName" "[I") ∈ lw_all := lw_g (lw_at lw_m6 87 rfl) rfl
theorem q1388 : (Jvm.Cond.fieldLink "LosslessFabricModel" (41 : Nat) "LosslessFabricModel" "rateTold" "[I") ∈ lw_all := lw_g (lw_at lw_m6 88 rfl) rfl
theorem q1389 : (Jvm.Cond.fieldLink "LosslessFabricModel" (44 : Nat) "LosslessFabricModel" "isOff" "[Z") ∈ lw_all := lw_g (lw_at lw_m6 89 rfl) rfl
theorem q1390 : (Jvm.Cond.fieldLink "LosslessFabricModel" (47 : Nat) "LosslessFabricModel" "hops" "[I") ∈ lw_all := lw_g (lw_at lw_m6 90 rfl) rfl
theorem q1391 : (Jvm.Cond.fieldLink "LosslessFabricModel" (50 : Nat) "LosslessFabricModel" "path" "[I") ∈ lw_all := lw_g (lw_at lw_m6 91 rfl) rfl
theorem q1392 : (Jvm.Cond.fieldLink "LosslessFabricModel" (229 : Nat) "LosslessFabricModel" "lines" "I") ∈ lw_all := lw_g (lw_at lw_m6 92 rfl) rfl
theorem q1393 : (Jvm.Cond.fieldLink "LosslessFabricModel" (124 : Nat) "LosslessFabricModel" "size" "I") ∈ lw_all := lw_g (lw_at lw_m6 93 rfl) rfl
theorem q1394 : (Jvm.Cond.fieldLink "LosslessFabricModel" (121 : Nat) "LosslessFabricModel" "at" "I") ∈ lw_all := lw_g (lw_at lw_m6 94 rfl) rfl
theorem q1395 : (Jvm.Cond.fieldLink "LosslessFabricModel" (131 : Nat) "LosslessFabricModel" "place" "I") ∈ lw_all := lw_g (lw_at lw_m6 95 rfl) rfl
theorem q1396 : (Jvm.Cond.fieldLink "LosslessFabricModel" (134 : Nat) "LosslessFabricModel" "sort" "I") ∈ lw_all := lw_g (lw_at lw_m6 96 rfl) rfl
theorem q1397 : (Jvm.Cond.fieldLink "LosslessFabricModel" (144 : Nat) "LosslessFabricModel" "value" "I") ∈ lw_all := lw_g (lw_at lw_m6 97 rfl) rfl
theorem q1398 : (Jvm.Cond.fieldLink "LosslessFabricModel" (165 : Nat) "LosslessFabricModel" "fault" "I") ∈ lw_all := lw_g (lw_at lw_m6 98 rfl) rfl
theorem q1399 : (Jvm.Cond.fieldLink "LosslessFabricModel" (168 : Nat) "LosslessFabricModel" "faultPlace" "I") ∈ lw_all := lw_g (lw_at lw_m6 99 rfl) rfl
theorem q1400 : (Jvm.Cond.fieldLink "LosslessFabricModel" (238 : Nat) "LosslessFabricModel" "lastFault" "I") ∈ lw_all := lw_g (lw_at lw_m6 100 rfl) rfl
theorem q1401 : (Jvm.Cond.fieldLink "LosslessFabricModel" (53 : Nat) "LosslessFabricModel" "lastPlace" "I") ∈ lw_all := lw_g (lw_at lw_m6 101 rfl) rfl
theorem q1402 : (Jvm.Cond.fieldLink "LosslessFabricModel" (57 : Nat) "LosslessFabricModel" "s" "[I") ∈ lw_all := lw_g (lw_at lw_m6 102 rfl) rfl
theorem q1403 : (Jvm.Cond.fieldLink "LosslessFabricModel" (60 : Nat) "LosslessFabricModel" "aside" "[I") ∈ lw_all := lw_g (lw_at lw_m6 103 rfl) rfl
theorem q1404 : (Jvm.Cond.fieldLink "LosslessFabricModel" (63 : Nat) "LosslessFabricModel" "further" "[I") ∈ lw_all := lw_g (lw_at lw_m6 104 rfl) rfl
theorem q1405 : (Jvm.Cond.fieldLink "LosslessFabricModel" (66 : Nat) "LosslessFabricModel" "image" "[I") ∈ lw_all := lw_g (lw_at lw_m6 105 rfl) rfl
theorem q1406 : (Jvm.Cond.fieldLink "LosslessFabricModel" (69 : Nat) "LosslessFabricModel" "pasts" "[I") ∈ lw_all := lw_g (lw_at lw_m6 106 rfl) rfl
theorem q1407 : (Jvm.Cond.fieldLink "LosslessFabricModel" (241 : Nat) "LosslessFabricModel" "undoable" "I") ∈ lw_all := lw_g (lw_at lw_m6 107 rfl) rfl
theorem q1408 : (Jvm.Cond.fieldLink "LosslessFabricModel" (244 : Nat) "LosslessFabricModel" "hasImage" "Z") ∈ lw_all := lw_g (lw_at lw_m6 108 rfl) rfl
theorem q1409 : (Jvm.Cond.fieldLink "LosslessFabricModel" (72 : Nat) "LosslessFabricModel" "can" "[I") ∈ lw_all := lw_g (lw_at lw_m6 109 rfl) rfl
theorem q1410 : (Jvm.Cond.fieldLink "LosslessFabricModel" (75 : Nat) "LosslessFabricModel" "carries" "[I") ∈ lw_all := lw_g (lw_at lw_m6 110 rfl) rfl
theorem q1411 : (Jvm.Cond.fieldLink "LosslessFabricModel" (78 : Nat) "LosslessFabricModel" "comes" "[I") ∈ lw_all := lw_g (lw_at lw_m6 111 rfl) rfl
theorem q1412 : (Jvm.Cond.fieldLink "LosslessFabricModel" (81 : Nat) "LosslessFabricModel" "noteFlow" "[I") ∈ lw_all := lw_g (lw_at lw_m6 112 rfl) rfl
theorem q1413 : (Jvm.Cond.fieldLink "LosslessFabricModel" (84 : Nat) "LosslessFabricModel" "note" "[I") ∈ lw_all := lw_g (lw_at lw_m6 113 rfl) rfl
theorem q1414 : (Jvm.Cond.fieldLink "LosslessFabricModel" (277 : Nat) "LosslessFabricModel" "notes" "I") ∈ lw_all := lw_g (lw_at lw_m6 114 rfl) rfl
theorem q1415 : (Jvm.Cond.fieldLink "LosslessFabricModel" (87 : Nat) "LosslessFabricModel" "after" "[I") ∈ lw_all := lw_g (lw_at lw_m6 115 rfl) rfl
theorem q1416 : (Jvm.Cond.fieldLink "LosslessFabricModel" (90 : Nat) "LosslessFabricModel" "steps" "[I") ∈ lw_all := lw_g (lw_at lw_m6 116 rfl) rfl
theorem q1417 : (Jvm.Cond.fieldLink "LosslessFabricModel" (93 : Nat) "LosslessFabricModel" "cycle" "[I") ∈ lw_all := lw_g (lw_at lw_m6 117 rfl) rfl
theorem q1418 : (Jvm.Cond.fieldLink "LosslessFabricModel" (346 : Nat) "LosslessFabricModel" "cycleLong" "I") ∈ lw_all := lw_g (lw_at lw_m6 118 rfl) rfl
theorem q1419 : (Jvm.Cond.fieldLink "LosslessFabricModel" (96 : Nat) "LosslessFabricModel" "upper" "[J") ∈ lw_all := lw_g (lw_at lw_m6 119 rfl) rfl
theorem q1420 : (Jvm.Cond.fieldLink "LosslessFabricModel" (100 : Nat) "LosslessFabricModel" "lower" "[J") ∈ lw_all := lw_g (lw_at lw_m6 120 rfl) rfl
theorem q1421 : (Jvm.Cond.fieldLink "LosslessFabricModel" (103 : Nat) "LosslessFabricModel" "isDone" "[Z") ∈ lw_all := lw_g (lw_at lw_m6 121 rfl) rfl
theorem q1422 : (Jvm.Cond.fieldLink "LosslessFabricModel" (356 : Nat) "LosslessFabricModel" "topNow" "J") ∈ lw_all := lw_g (lw_at lw_m6 122 rfl) rfl
theorem q1423 : (Jvm.Cond.fieldLink "LosslessFabricModel" (360 : Nat) "LosslessFabricModel" "underNow" "J") ∈ lw_all := lw_g (lw_at lw_m6 123 rfl) rfl
theorem q1424 : (Jvm.Cond.fieldLink "LosslessFabricModel" (391 : Nat) "LosslessFabricModel" "drawn" "I") ∈ lw_all := lw_g (lw_at lw_m6 124 rfl) rfl
theorem q1425 : (Jvm.Cond.lays "LosslessFabricModel" "LosslessFabricModel" "thrown" "I") ∈ lw_all := lw_g (lw_at lw_m6 125 rfl) rfl
theorem q1426 : (Jvm.Cond.soleField "LosslessFabricModel" "thrown") ∈ lw_all := lw_g (lw_at lw_m6 126 rfl) rfl
theorem q1427 : (Jvm.Cond.laysFinal "LosslessFabricModel" "LosslessFabricModel" "tape" "[I") ∈ lw_all := lw_g (lw_at lw_m6 127 rfl) rfl
theorem q1428 : (Jvm.Cond.soleField "LosslessFabricModel" "tape") ∈ lw_all := lw_g (lw_at lw_m6 128 rfl) rfl
theorem q1429 : (Jvm.Cond.lays "LosslessFabricModel" "LosslessFabricModel" "taped" "I") ∈ lw_all := lw_g (lw_at lw_m6 129 rfl) rfl
theorem q1430 : (Jvm.Cond.soleField "LosslessFabricModel" "taped") ∈ lw_all := lw_g (lw_at lw_m6 130 rfl) rfl
theorem q1431 : (Jvm.Cond.laysFinal "LosslessFabricModel" "LosslessFabricModel" "number" "[I") ∈ lw_all := lw_g (lw_at lw_m6 131 rfl) rfl
theorem q1432 : (Jvm.Cond.soleField "LosslessFabricModel" "number") ∈ lw_all := lw_g (lw_at lw_m6 132 rfl) rfl
theorem q1433 : (Jvm.Cond.laysFinal "LosslessFabricModel" "LosslessFabricModel" "isTold" "[Z") ∈ lw_all := lw_g (lw_at lw_m6 133 rfl) rfl
theorem q1434 : (Jvm.Cond.soleField "LosslessFabricModel" "isTold") ∈ lw_all := lw_g (lw_at lw_m6 134 rfl) rfl
theorem q1435 : (Jvm.Cond.laysFinal "LosslessFabricModel" "LosslessFabricModel" "linkName" "[I") ∈ lw_all := lw_g (lw_at lw_m6 135 rfl) rfl
theorem q1436 : (Jvm.Cond.soleField "LosslessFabricModel" "linkName") ∈ lw_all := lw_g (lw_at lw_m6 136 rfl) rfl
theorem q1437 : (Jvm.Cond.laysFinal "LosslessFabricModel" "LosslessFabricModel" "cap" "[I") ∈ lw_all := lw_g (lw_at lw_m6 137 rfl) rfl
theorem q1438 : (Jvm.Cond.soleField "LosslessFabricModel" "cap") ∈ lw_all := lw_g (lw_at lw_m6 138 rfl) rfl
theorem q1439 : (Jvm.Cond.laysFinal "LosslessFabricModel" "LosslessFabricModel" "delay" "[I") ∈ lw_all := lw_g (lw_at lw_m6 139 rfl) rfl
theorem q1440 : (Jvm.Cond.soleField "LosslessFabricModel" "delay") ∈ lw_all := lw_g (lw_at lw_m6 140 rfl) rfl
theorem q1441 : (Jvm.Cond.laysFinal "LosslessFabricModel" "LosslessFabricModel" "xoffTold" "[I") ∈ lw_all := lw_g (lw_at lw_m6 141 rfl) rfl
theorem q1442 : (Jvm.Cond.soleField "LosslessFabricModel" "xoffTold") ∈ lw_all := lw_g (lw_at lw_m6 142 rfl) rfl
theorem q1443 : (Jvm.Cond.laysFinal "LosslessFabricModel" "LosslessFabricModel" "xonTold" "[I") ∈ lw_all := lw_g (lw_at lw_m6 143 rfl) rfl
theorem q1444 : (Jvm.Cond.soleField "LosslessFabricModel" "xonTold") ∈ lw_all := lw_g (lw_at lw_m6 144 rfl) rfl
theorem q1445 : (Jvm.Cond.laysFinal "LosslessFabricModel" "LosslessFabricModel" "sizeTold" "[I") ∈ lw_all := lw_g (lw_at lw_m6 145 rfl) rfl
theorem q1446 : (Jvm.Cond.soleField "LosslessFabricModel" "sizeTold") ∈ lw_all := lw_g (lw_at lw_m6 146 rfl) rfl
theorem q1447 : (Jvm.Cond.laysFinal "LosslessFabricModel" "LosslessFabricModel" "flowName" "[I") ∈ lw_all := lw_g (lw_at lw_m6 147 rfl) rfl
theorem q1448 : (Jvm.Cond.soleField "LosslessFabricModel" "flowName") ∈ lw_all := lw_g (lw_at lw_m6 148 rfl) rfl
theorem q1449 : (Jvm.Cond.laysFinal "LosslessFabricModel" "LosslessFabricModel" "rateTold" "[I") ∈ lw_all := lw_g (lw_at lw_m6 149 rfl) rfl
theorem q1450 : (Jvm.Cond.soleField "LosslessFabricModel" "rateTold") ∈ lw_all := lw_g (lw_at lw_m6 150 rfl) rfl
theorem q1451 : (Jvm.Cond.laysFinal "LosslessFabricModel" "LosslessFabricModel" "isOff" "[Z") ∈ lw_all := lw_g (lw_at lw_m6 151 rfl) rfl
theorem q1452 : (Jvm.Cond.soleField "LosslessFabricModel" "isOff") ∈ lw_all := lw_g (lw_at lw_m6 152 rfl) rfl
theorem q1453 : (Jvm.Cond.laysFinal "LosslessFabricModel" "LosslessFabricModel" "hops" "[I") ∈ lw_all := lw_g (lw_at lw_m6 153 rfl) rfl
theorem q1454 : (Jvm.Cond.soleField "LosslessFabricModel" "hops") ∈ lw_all := lw_g (lw_at lw_m6 154 rfl) rfl
theorem q1455 : (Jvm.Cond.laysFinal "LosslessFabricModel" "LosslessFabricModel" "path" "[I") ∈ lw_all := lw_g (lw_at lw_m6 155 rfl) rfl
theorem q1456 : (Jvm.Cond.soleField "LosslessFabricModel" "path") ∈ lw_all := lw_g (lw_at lw_m6 156 rfl) rfl
theorem q1457 : (Jvm.Cond.lays "LosslessFabricModel" "LosslessFabricModel" "lines" "I") ∈ lw_all := lw_g (lw_at lw_m6 157 rfl) rfl
theorem q1458 : (Jvm.Cond.soleField "LosslessFabricModel" "lines") ∈ lw_all := lw_g (lw_at lw_m6 158 rfl) rfl
theorem q1459 : (Jvm.Cond.lays "LosslessFabricModel" "LosslessFabricModel" "size" "I") ∈ lw_all := lw_g (lw_at lw_m6 159 rfl) rfl
theorem q1460 : (Jvm.Cond.soleField "LosslessFabricModel" "size") ∈ lw_all := lw_g (lw_at lw_m6 160 rfl) rfl
theorem q1461 : (Jvm.Cond.lays "LosslessFabricModel" "LosslessFabricModel" "at" "I") ∈ lw_all := lw_g (lw_at lw_m6 161 rfl) rfl
theorem q1462 : (Jvm.Cond.soleField "LosslessFabricModel" "at") ∈ lw_all := lw_g (lw_at lw_m6 162 rfl) rfl
theorem q1463 : (Jvm.Cond.lays "LosslessFabricModel" "LosslessFabricModel" "place" "I") ∈ lw_all := lw_g (lw_at lw_m6 163 rfl) rfl
theorem q1464 : (Jvm.Cond.soleField "LosslessFabricModel" "place") ∈ lw_all := lw_g (lw_at lw_m6 164 rfl) rfl
theorem q1465 : (Jvm.Cond.lays "LosslessFabricModel" "LosslessFabricModel" "sort" "I") ∈ lw_all := lw_g (lw_at lw_m6 165 rfl) rfl
theorem q1466 : (Jvm.Cond.soleField "LosslessFabricModel" "sort") ∈ lw_all := lw_g (lw_at lw_m6 166 rfl) rfl
theorem q1467 : (Jvm.Cond.lays "LosslessFabricModel" "LosslessFabricModel" "value" "I") ∈ lw_all := lw_g (lw_at lw_m6 167 rfl) rfl
theorem q1468 : (Jvm.Cond.soleField "LosslessFabricModel" "value") ∈ lw_all := lw_g (lw_at lw_m6 168 rfl) rfl
theorem q1469 : (Jvm.Cond.lays "LosslessFabricModel" "LosslessFabricModel" "fault" "I") ∈ lw_all := lw_g (lw_at lw_m6 169 rfl) rfl
theorem q1470 : (Jvm.Cond.soleField "LosslessFabricModel" "fault") ∈ lw_all := lw_g (lw_at lw_m6 170 rfl) rfl
theorem q1471 : (Jvm.Cond.lays "LosslessFabricModel" "LosslessFabricModel" "faultPlace" "I") ∈ lw_all := lw_g (lw_at lw_m6 171 rfl) rfl
theorem q1472 : (Jvm.Cond.soleField "LosslessFabricModel" "faultPlace") ∈ lw_all := lw_g (lw_at lw_m6 172 rfl) rfl
theorem q1473 : (Jvm.Cond.lays "LosslessFabricModel" "LosslessFabricModel" "lastFault" "I") ∈ lw_all := lw_g (lw_at lw_m6 173 rfl) rfl
theorem q1474 : (Jvm.Cond.soleField "LosslessFabricModel" "lastFault") ∈ lw_all := lw_g (lw_at lw_m6 174 rfl) rfl
theorem q1475 : (Jvm.Cond.lays "LosslessFabricModel" "LosslessFabricModel" "lastPlace" "I") ∈ lw_all := lw_g (lw_at lw_m6 175 rfl) rfl
theorem q1476 : (Jvm.Cond.soleField "LosslessFabricModel" "lastPlace") ∈ lw_all := lw_g (lw_at lw_m6 176 rfl) rfl
theorem q1477 : (Jvm.Cond.laysFinal "LosslessFabricModel" "LosslessFabricModel" "s" "[I") ∈ lw_all := lw_g (lw_at lw_m6 177 rfl) rfl
theorem q1478 : (Jvm.Cond.soleField "LosslessFabricModel" "s") ∈ lw_all := lw_g (lw_at lw_m6 178 rfl) rfl
theorem q1479 : (Jvm.Cond.laysFinal "LosslessFabricModel" "LosslessFabricModel" "aside" "[I") ∈ lw_all := lw_g (lw_at lw_m6 179 rfl) rfl
theorem q1480 : (Jvm.Cond.soleField "LosslessFabricModel" "aside") ∈ lw_all := lw_g (lw_at lw_m6 180 rfl) rfl
theorem q1481 : (Jvm.Cond.laysFinal "LosslessFabricModel" "LosslessFabricModel" "further" "[I") ∈ lw_all := lw_g (lw_at lw_m6 181 rfl) rfl
theorem q1482 : (Jvm.Cond.soleField "LosslessFabricModel" "further") ∈ lw_all := lw_g (lw_at lw_m6 182 rfl) rfl
theorem q1483 : (Jvm.Cond.laysFinal "LosslessFabricModel" "LosslessFabricModel" "image" "[I") ∈ lw_all := lw_g (lw_at lw_m6 183 rfl) rfl
theorem q1484 : (Jvm.Cond.soleField "LosslessFabricModel" "image") ∈ lw_all := lw_g (lw_at lw_m6 184 rfl) rfl
theorem q1485 : (Jvm.Cond.laysFinal "LosslessFabricModel" "LosslessFabricModel" "pasts" "[I") ∈ lw_all := lw_g (lw_at lw_m6 185 rfl) rfl
theorem q1486 : (Jvm.Cond.soleField "LosslessFabricModel" "pasts") ∈ lw_all := lw_g (lw_at lw_m6 186 rfl) rfl
theorem q1487 : (Jvm.Cond.lays "LosslessFabricModel" "LosslessFabricModel" "undoable" "I") ∈ lw_all := lw_g (lw_at lw_m6 187 rfl) rfl
theorem q1488 : (Jvm.Cond.soleField "LosslessFabricModel" "undoable") ∈ lw_all := lw_g (lw_at lw_m6 188 rfl) rfl
theorem q1489 : (Jvm.Cond.lays "LosslessFabricModel" "LosslessFabricModel" "hasImage" "Z") ∈ lw_all := lw_g (lw_at lw_m6 189 rfl) rfl
theorem q1490 : (Jvm.Cond.soleField "LosslessFabricModel" "hasImage") ∈ lw_all := lw_g (lw_at lw_m6 190 rfl) rfl
theorem q1491 : (Jvm.Cond.laysFinal "LosslessFabricModel" "LosslessFabricModel" "can" "[I") ∈ lw_all := lw_g (lw_at lw_m6 191 rfl) rfl
theorem q1492 : (Jvm.Cond.soleField "LosslessFabricModel" "can") ∈ lw_all := lw_g (lw_at lw_m6 192 rfl) rfl
theorem q1493 : (Jvm.Cond.laysFinal "LosslessFabricModel" "LosslessFabricModel" "carries" "[I") ∈ lw_all := lw_g (lw_at lw_m6 193 rfl) rfl
theorem q1494 : (Jvm.Cond.soleField "LosslessFabricModel" "carries") ∈ lw_all := lw_g (lw_at lw_m6 194 rfl) rfl
theorem q1495 : (Jvm.Cond.laysFinal "LosslessFabricModel" "LosslessFabricModel" "comes" "[I") ∈ lw_all := lw_g (lw_at lw_m6 195 rfl) rfl
theorem q1496 : (Jvm.Cond.soleField "LosslessFabricModel" "comes") ∈ lw_all := lw_g (lw_at lw_m6 196 rfl) rfl
theorem q1497 : (Jvm.Cond.laysFinal "LosslessFabricModel" "LosslessFabricModel" "noteFlow" "[I") ∈ lw_all := lw_g (lw_at lw_m6 197 rfl) rfl
theorem q1498 : (Jvm.Cond.soleField "LosslessFabricModel" "noteFlow") ∈ lw_all := lw_g (lw_at lw_m6 198 rfl) rfl
theorem q1499 : (Jvm.Cond.laysFinal "LosslessFabricModel" "LosslessFabricModel" "note" "[I") ∈ lw_all := lw_g (lw_at lw_m6 199 rfl) rfl
theorem q1500 : (Jvm.Cond.soleField "LosslessFabricModel" "note") ∈ lw_all := lw_g (lw_at lw_m6 200 rfl) rfl
theorem q1501 : (Jvm.Cond.lays "LosslessFabricModel" "LosslessFabricModel" "notes" "I") ∈ lw_all := lw_g (lw_at lw_m6 201 rfl) rfl
theorem q1502 : (Jvm.Cond.soleField "LosslessFabricModel" "notes") ∈ lw_all := lw_g (lw_at lw_m6 202 rfl) rfl
theorem q1503 : (Jvm.Cond.laysFinal "LosslessFabricModel" "LosslessFabricModel" "after" "[I") ∈ lw_all := lw_g (lw_at lw_m6 203 rfl) rfl
theorem q1504 : (Jvm.Cond.soleField "LosslessFabricModel" "after") ∈ lw_all := lw_g (lw_at lw_m6 204 rfl) rfl
theorem q1505 : (Jvm.Cond.laysFinal "LosslessFabricModel" "LosslessFabricModel" "steps" "[I") ∈ lw_all := lw_g (lw_at lw_m6 205 rfl) rfl
theorem q1506 : (Jvm.Cond.soleField "LosslessFabricModel" "steps") ∈ lw_all := lw_g (lw_at lw_m6 206 rfl) rfl
theorem q1507 : (Jvm.Cond.laysFinal "LosslessFabricModel" "LosslessFabricModel" "cycle" "[I") ∈ lw_all := lw_g (lw_at lw_m6 207 rfl) rfl
theorem q1508 : (Jvm.Cond.soleField "LosslessFabricModel" "cycle") ∈ lw_all := lw_g (lw_at lw_m6 208 rfl) rfl
theorem q1509 : (Jvm.Cond.lays "LosslessFabricModel" "LosslessFabricModel" "cycleLong" "I") ∈ lw_all := lw_g (lw_at lw_m6 209 rfl) rfl
theorem q1510 : (Jvm.Cond.soleField "LosslessFabricModel" "cycleLong") ∈ lw_all := lw_g (lw_at lw_m6 210 rfl) rfl
theorem q1511 : (Jvm.Cond.laysFinal "LosslessFabricModel" "LosslessFabricModel" "upper" "[J") ∈ lw_all := lw_g (lw_at lw_m6 211 rfl) rfl
theorem q1512 : (Jvm.Cond.soleField "LosslessFabricModel" "upper") ∈ lw_all := lw_g (lw_at lw_m6 212 rfl) rfl
theorem q1513 : (Jvm.Cond.laysFinal "LosslessFabricModel" "LosslessFabricModel" "lower" "[J") ∈ lw_all := lw_g (lw_at lw_m6 213 rfl) rfl
theorem q1514 : (Jvm.Cond.soleField "LosslessFabricModel" "lower") ∈ lw_all := lw_g (lw_at lw_m6 214 rfl) rfl
theorem q1515 : (Jvm.Cond.laysFinal "LosslessFabricModel" "LosslessFabricModel" "isDone" "[Z") ∈ lw_all := lw_g (lw_at lw_m6 215 rfl) rfl
theorem q1516 : (Jvm.Cond.soleField "LosslessFabricModel" "isDone") ∈ lw_all := lw_g (lw_at lw_m6 216 rfl) rfl
theorem q1517 : (Jvm.Cond.lays "LosslessFabricModel" "LosslessFabricModel" "topNow" "J") ∈ lw_all := lw_g (lw_at lw_m6 217 rfl) rfl
theorem q1518 : (Jvm.Cond.soleField "LosslessFabricModel" "topNow") ∈ lw_all := lw_g (lw_at lw_m6 218 rfl) rfl
theorem q1519 : (Jvm.Cond.lays "LosslessFabricModel" "LosslessFabricModel" "underNow" "J") ∈ lw_all := lw_g (lw_at lw_m6 219 rfl) rfl
theorem q1520 : (Jvm.Cond.soleField "LosslessFabricModel" "underNow") ∈ lw_all := lw_g (lw_at lw_m6 220 rfl) rfl
theorem q1521 : (Jvm.Cond.lays "LosslessFabricModel" "LosslessFabricModel" "drawn" "I") ∈ lw_all := lw_g (lw_at lw_m6 221 rfl) rfl
theorem q1522 : (Jvm.Cond.soleField "LosslessFabricModel" "drawn") ∈ lw_all := lw_g (lw_at lw_m6 222 rfl) rfl
theorem q1523 : (Jvm.Cond.superclass "LosslessFabricModel" "java/lang/Object") ∈ lw_all := lw_g (lw_at lw_m6 223 rfl) rfl
theorem q1526 : (Jvm.Cond.instanceMethod ({ cls := "LosslessFabricModel", name := "thrown", desc := "()I" } : Jvm.MethodName)) ∈ lw_all := lw_g (lw_at lw_m6 226 rfl) rfl
theorem q1527 : (Jvm.Cond.selects "LosslessFabricModel" ({ cls := "LosslessFabricModel", name := "thrown", desc := "()I" } : Jvm.MethodName) ({ cls := "LosslessFabricModel", name := "thrown", desc := "()I" } : Jvm.MethodName)) ∈ lw_all := lw_g (lw_at lw_m6 227 rfl) rfl
theorem q1528 : (Jvm.Cond.code ({ cls := "LosslessFabricModel", name := "thrown", desc := "()I" } : Jvm.MethodName) prog_18_method_2_code (1 : Nat) (Option.some Jvm.ClassFile.FieldType.int)) ∈ lw_all := lw_g (lw_at lw_m6 228 rfl) rfl
theorem q1530 : (Jvm.Cond.instanceMethod ({ cls := "LosslessFabricModel", name := "feed", desc := "(IIIII)I" } : Jvm.MethodName)) ∈ lw_all := lw_g (lw_at lw_m6 230 rfl) rfl
theorem q1531 : (Jvm.Cond.selects "LosslessFabricModel" ({ cls := "LosslessFabricModel", name := "feed", desc := "(IIIII)I" } : Jvm.MethodName) ({ cls := "LosslessFabricModel", name := "feed", desc := "(IIIII)I" } : Jvm.MethodName)) ∈ lw_all := lw_g (lw_at lw_m6 231 rfl) rfl
theorem q1532 : (Jvm.Cond.code ({ cls := "LosslessFabricModel", name := "feed", desc := "(IIIII)I" } : Jvm.MethodName) prog_18_method_3_code (8 : Nat) (Option.some Jvm.ClassFile.FieldType.int)) ∈ lw_all := lw_g (lw_at lw_m6 232 rfl) rfl
theorem q1534 : (Jvm.Cond.instanceMethod ({ cls := "LosslessFabricModel", name := "text", desc := "(I)I" } : Jvm.MethodName)) ∈ lw_all := lw_g (lw_at lw_m6 234 rfl) rfl
theorem q1535 : (Jvm.Cond.selects "LosslessFabricModel" ({ cls := "LosslessFabricModel", name := "text", desc := "(I)I" } : Jvm.MethodName) ({ cls := "LosslessFabricModel", name := "text", desc := "(I)I" } : Jvm.MethodName)) ∈ lw_all := lw_g (lw_at lw_m6 235 rfl) rfl
theorem q1536 : (Jvm.Cond.code ({ cls := "LosslessFabricModel", name := "text", desc := "(I)I" } : Jvm.MethodName) prog_18_method_30_code (2 : Nat) (Option.some Jvm.ClassFile.FieldType.int)) ∈ lw_all := lw_g (lw_at lw_m6 236 rfl) rfl
theorem q1537 : (Jvm.Cond.methodLink "LosslessFabricModel" (235 : Nat) ({ cls := "LosslessFabricModel", name := "readText", desc := "(I)V" } : Jvm.MethodName)) ∈ lw_all := lw_g (lw_at lw_m6 237 rfl) rfl
theorem q1538 : (Jvm.Cond.privateMethod ({ cls := "LosslessFabricModel", name := "readText", desc := "(I)V" } : Jvm.MethodName)) ∈ lw_tbl := lw_at lw_m6 238 rfl
theorem q1539 : (Jvm.Cond.instanceMethod ({ cls := "LosslessFabricModel", name := "readText", desc := "(I)V" } : Jvm.MethodName)) ∈ lw_all := lw_g (lw_at lw_m6 239 rfl) rfl
theorem q1540 : (Jvm.Cond.code ({ cls := "LosslessFabricModel", name := "readText", desc := "(I)V" } : Jvm.MethodName) prog_18_method_28_code (2 : Nat) (Option.none : Option Jvm.ClassFile.FieldType)) ∈ lw_all := lw_g (lw_at lw_m7 0 rfl) rfl
theorem q1541 : (Jvm.Cond.methodLink "LosslessFabricModel" (171 : Nat) ({ cls := "LosslessFabricModel", name := "token", desc := "()V" } : Jvm.MethodName)) ∈ lw_all := lw_g (lw_at lw_m7 1 rfl) rfl
theorem q1542 : (Jvm.Cond.privateMethod ({ cls := "LosslessFabricModel", name := "token", desc := "()V" } : Jvm.MethodName)) ∈ lw_tbl := lw_at lw_m7 2 rfl
theorem q1543 : (Jvm.Cond.instanceMethod ({ cls := "LosslessFabricModel", name := "token", desc := "()V" } : Jvm.MethodName)) ∈ lw_all := lw_g (lw_at lw_m7 3 rfl) rfl
theorem q1544 : (Jvm.Cond.code ({ cls := "LosslessFabricModel", name := "token", desc := "()V" } : Jvm.MethodName) prog_18_method_7_code (2 : Nat) (Option.none : Option Jvm.ClassFile.FieldType)) ∈ lw_all := lw_g (lw_at lw_m7 4 rfl) rfl
theorem q1545 : (Jvm.Cond.methodLink "LosslessFabricModel" (127 : Nat) ({ cls := "LosslessFabricModel", name := "here", desc := "()I" } : Jvm.MethodName)) ∈ lw_all := lw_g (lw_at lw_m7 5 rfl) rfl
theorem q1546 : (Jvm.Cond.privateMethod ({ cls := "LosslessFabricModel", name := "here", desc := "()I" } : Jvm.MethodName)) ∈ lw_tbl := lw_at lw_m7 6 rfl
theorem q1547 : (Jvm.Cond.instanceMethod ({ cls := "LosslessFabricModel", name := "here", desc := "()I" } : Jvm.MethodName)) ∈ lw_all := lw_g (lw_at lw_m7 7 rfl) rfl
theorem q1548 : (Jvm.Cond.code ({ cls := "LosslessFabricModel", name := "here", desc := "()I" } : Jvm.MethodName) prog_18_method_4_code (1 : Nat) (Option.some Jvm.ClassFile.FieldType.int)) ∈ lw_all := lw_g (lw_at lw_m7 8 rfl) rfl
theorem q1549 : (Jvm.Cond.methodLink "LosslessFabricModel" (137 : Nat) ({ cls := "LosslessFabricModel", name := "isSmall", desc := "(I)Z" } : Jvm.MethodName)) ∈ lw_all := lw_g (lw_at lw_m7 9 rfl) rfl
theorem q1550 : (Jvm.Cond.static ({ cls := "LosslessFabricModel", name := "isSmall", desc := "(I)Z" } : Jvm.MethodName)) ∈ lw_all := lw_g (lw_at lw_m7 10 rfl) rfl
theorem q1551 : (Jvm.Cond.code ({ cls := "LosslessFabricModel", name := "isSmall", desc := "(I)Z" } : Jvm.MethodName) prog_18_method_5_code (1 : Nat) (Option.some Jvm.ClassFile.FieldType.boolean)) ∈ lw_all := lw_g (lw_at lw_m7 11 rfl) rfl
theorem q1552 : (Jvm.Cond.methodLink "LosslessFabricModel" (141 : Nat) ({ cls := "LosslessFabricModel", name := "wordHere", desc := "()I" } : Jvm.MethodName)) ∈ lw_all := lw_g (lw_at lw_m7 12 rfl) rfl
theorem q1553 : (Jvm.Cond.privateMethod ({ cls := "LosslessFabricModel", name := "wordHere", desc := "()I" } : Jvm.MethodName)) ∈ lw_tbl := lw_at lw_m7 13 rfl
theorem q1554 : (Jvm.Cond.instanceMethod ({ cls := "LosslessFabricModel", name := "wordHere", desc := "()I" } : Jvm.MethodName)) ∈ lw_all := lw_g (lw_at lw_m7 14 rfl) rfl
theorem q1555 : (Jvm.Cond.code ({ cls := "LosslessFabricModel", name := "wordHere", desc := "()I" } : Jvm.MethodName) prog_18_method_8_code (4 : Nat) (Option.some Jvm.ClassFile.FieldType.int)) ∈ lw_all := lw_g (lw_at lw_m7 15 rfl) rfl
theorem q1556 : (Jvm.Cond.stringRef "LosslessFabricModel" (154 : Nat) "link flow sample stage off seed ") ∈ lw_tbl := lw_at lw_m7 16 rfl
theorem q1557 : (Jvm.Cond.methodLink "LosslessFabricModel" (156 : Nat) ({ cls := "java/lang/String", name := "length", desc := "()I" } : Jvm.MethodName)) ∈ lw_all := lw_g (lw_at lw_m7 17 rfl) rfl
theorem q1558 : (Jvm.Cond.methodLink "LosslessFabricModel" (161 : Nat) ({ cls := "java/lang/String", name := "charAt", desc := "(I)C" } : Jvm.MethodName)) ∈ lw_all := lw_g (lw_at lw_m7 18 rfl) rfl
theorem q1559 : (Jvm.Cond.methodLink "LosslessFabricModel" (147 : Nat) ({ cls := "LosslessFabricModel", name := "nameHere", desc := "()V" } : Jvm.MethodName)) ∈ lw_all := lw_g (lw_at lw_m7 19 rfl) rfl
theorem q1560 : (Jvm.Cond.privateMethod ({ cls := "LosslessFabricModel", name := "nameHere", desc := "()V" } : Jvm.MethodName)) ∈ lw_tbl := lw_at lw_m7 20 rfl
theorem q1561 : (Jvm.Cond.instanceMethod ({ cls := "LosslessFabricModel", name := "nameHere", desc := "()V" } : Jvm.MethodName)) ∈ lw_all := lw_g (lw_at lw_m7 21 rfl) rfl
theorem q1562 : (Jvm.Cond.code ({ cls := "LosslessFabricModel", name := "nameHere", desc := "()V" } : Jvm.MethodName) prog_18_method_9_code (2 : Nat) (Option.none : Option Jvm.ClassFile.FieldType)) ∈ lw_all := lw_g (lw_at lw_m7 22 rfl) rfl
theorem q1563 : (Jvm.Cond.methodLink "LosslessFabricModel" (150 : Nat) ({ cls := "LosslessFabricModel", name := "isDigit", desc := "(I)Z" } : Jvm.MethodName)) ∈ lw_all := lw_g (lw_at lw_m7 23 rfl) rfl
theorem q1564 : (Jvm.Cond.static ({ cls := "LosslessFabricModel", name := "isDigit", desc := "(I)Z" } : Jvm.MethodName)) ∈ lw_all := lw_g (lw_at lw_m7 24 rfl) rfl
theorem q1565 : (Jvm.Cond.code ({ cls := "LosslessFabricModel", name := "isDigit", desc := "(I)Z" } : Jvm.MethodName) prog_18_method_6_code (1 : Nat) (Option.some Jvm.ClassFile.FieldType.boolean)) ∈ lw_all := lw_g (lw_at lw_m7 25 rfl) rfl
theorem q1566 : (Jvm.Cond.constant "LosslessFabricModel" (153 : Nat) (99999 : Int32)) ∈ lw_all := lw_g (lw_at lw_m7 26 rfl) rfl
theorem q1567 : (Jvm.Cond.methodLink "LosslessFabricModel" (232 : Nat) ({ cls := "LosslessFabricModel", name := "readLine", desc := "()V" } : Jvm.MethodName)) ∈ lw_all := lw_g (lw_at lw_m7 27 rfl) rfl
theorem q1568 : (Jvm.Cond.privateMethod ({ cls := "LosslessFabricModel", name := "readLine", desc := "()V" } : Jvm.MethodName)) ∈ lw_tbl := lw_at lw_m7 28 rfl
theorem q1569 : (Jvm.Cond.instanceMethod ({ cls := "LosslessFabricModel", name := "readLine", desc := "()V" } : Jvm.MethodName)) ∈ lw_all := lw_g (lw_at lw_m7 29 rfl) rfl
theorem q1570 : (Jvm.Cond.code ({ cls := "LosslessFabricModel", name := "readLine", desc := "()V" } : Jvm.MethodName) prog_18_method_26_code (1 : Nat) (Option.none : Option Jvm.ClassFile.FieldType)) ∈ lw_all := lw_g (lw_at lw_m7 30 rfl) rfl
theorem q1571 : (Jvm.Cond.methodLink "LosslessFabricModel" (174 : Nat) ({ cls := "LosslessFabricModel", name := "wrong", desc := "(I)V" } : Jvm.MethodName)) ∈ lw_all := lw_g (lw_at lw_m7 31 rfl) rfl
theorem q1572 : (Jvm.Cond.privateMethod ({ cls := "LosslessFabricModel", name := "wrong", desc := "(I)V" } : Jvm.MethodName)) ∈ lw_tbl := lw_at lw_m7 32 rfl
theorem q1573 : (Jvm.Cond.instanceMethod ({ cls := "LosslessFabricModel", name := "wrong", desc := "(I)V" } : Jvm.MethodName)) ∈ lw_all := lw_g (lw_at lw_m7 33 rfl) rfl
theorem q1574 : (Jvm.Cond.code ({ cls := "LosslessFabricModel", name := "wrong", desc := "(I)V" } : Jvm.MethodName) prog_18_method_10_code (2 : Nat) (Option.none : Option Jvm.ClassFile.FieldType)) ∈ lw_all := lw_g (lw_at lw_m7 34 rfl) rfl
theorem q1575 : (Jvm.Cond.methodLink "LosslessFabricModel" (211 : Nat) ({ cls := "LosslessFabricModel", name := "readLink", desc := "()V" } : Jvm.MethodName)) ∈ lw_all := lw_g (lw_at lw_m7 35 rfl) rfl
theorem q1576 : (Jvm.Cond.privateMethod ({ cls := "LosslessFabricModel", name := "readLink", desc := "()V" } : Jvm.MethodName)) ∈ lw_tbl := lw_at lw_m7 36 rfl
theorem q1577 : (Jvm.Cond.instanceMethod ({ cls := "LosslessFabricModel", name := "readLink", desc := "()V" } : Jvm.MethodName)) ∈ lw_all := lw_g (lw_at lw_m7 37 rfl) rfl
theorem q1578 : (Jvm.Cond.code ({ cls := "LosslessFabricModel", name := "readLink", desc := "()V" } : Jvm.MethodName) prog_18_method_18_code (7 : Nat) (Option.none : Option Jvm.ClassFile.FieldType)) ∈ lw_all := lw_g (lw_at lw_m7 38 rfl) rfl
theorem q1579 : (Jvm.Cond.methodLink "LosslessFabricModel" (189 : Nat) ({ cls := "LosslessFabricModel", name := "newName", desc := "([III)V" } : Jvm.MethodName)) ∈ lw_all := lw_g (lw_at lw_m7 39 rfl) rfl
theorem q1580 : (Jvm.Cond.privateMethod ({ cls := "LosslessFabricModel", name := "newName", desc := "([III)V" } : Jvm.MethodName)) ∈ lw_tbl := lw_at lw_m7 40 rfl
theorem q1581 : (Jvm.Cond.instanceMethod ({ cls := "LosslessFabricModel", name := "newName", desc := "([III)V" } : Jvm.MethodName)) ∈ lw_all := lw_g (lw_at lw_m7 41 rfl) rfl
theorem q1582 : (Jvm.Cond.code ({ cls := "LosslessFabricModel", name := "newName", desc := "([III)V" } : Jvm.MethodName) prog_18_method_17_code (4 : Nat) (Option.none : Option Jvm.ClassFile.FieldType)) ∈ lw_all := lw_g (lw_at lw_m7 42 rfl) rfl
theorem q1583 : (Jvm.Cond.methodLink "LosslessFabricModel" (178 : Nat) ({ cls := "LosslessFabricModel", name := "goOn", desc := "()V" } : Jvm.MethodName)) ∈ lw_all := lw_g (lw_at lw_m7 43 rfl) rfl
theorem q1584 : (Jvm.Cond.privateMethod ({ cls := "LosslessFabricModel", name := "goOn", desc := "()V" } : Jvm.MethodName)) ∈ lw_tbl := lw_at lw_m7 44 rfl
theorem q1585 : (Jvm.Cond.instanceMethod ({ cls := "LosslessFabricModel", name := "goOn", desc := "()V" } : Jvm.MethodName)) ∈ lw_all := lw_g (lw_at lw_m7 45 rfl) rfl
theorem q1586 : (Jvm.Cond.code ({ cls := "LosslessFabricModel", name := "goOn", desc := "()V" } : Jvm.MethodName) prog_18_method_11_code (1 : Nat) (Option.none : Option Jvm.ClassFile.FieldType)) ∈ lw_all := lw_g (lw_at lw_m7 46 rfl) rfl
theorem q1587 : (Jvm.Cond.methodLink "LosslessFabricModel" (181 : Nat) ({ cls := "LosslessFabricModel", name := "foundIn", desc := "([IIII)I" } : Jvm.MethodName)) ∈ lw_all := lw_g (lw_at lw_m7 47 rfl) rfl
theorem q1588 : (Jvm.Cond.static ({ cls := "LosslessFabricModel", name := "foundIn", desc := "([IIII)I" } : Jvm.MethodName)) ∈ lw_all := lw_g (lw_at lw_m7 48 rfl) rfl
theorem q1589 : (Jvm.Cond.code ({ cls := "LosslessFabricModel", name := "foundIn", desc := "([IIII)I" } : Jvm.MethodName) prog_18_method_16_code (5 : Nat) (Option.some Jvm.ClassFile.FieldType.int)) ∈ lw_all := lw_g (lw_at lw_m7 49 rfl) rfl
theorem q1590 : (Jvm.Cond.methodLink "LosslessFabricModel" (193 : Nat) ({ cls := "LosslessFabricModel", name := "numeral", desc := "(II)I" } : Jvm.MethodName)) ∈ lw_all := lw_g (lw_at lw_m7 50 rfl) rfl
theorem q1591 : (Jvm.Cond.privateMethod ({ cls := "LosslessFabricModel", name := "numeral", desc := "(II)I" } : Jvm.MethodName)) ∈ lw_tbl := lw_at lw_m7 51 rfl
theorem q1592 : (Jvm.Cond.instanceMethod ({ cls := "LosslessFabricModel", name := "numeral", desc := "(II)I" } : Jvm.MethodName)) ∈ lw_all := lw_g (lw_at lw_m7 52 rfl) rfl
theorem q1593 : (Jvm.Cond.code ({ cls := "LosslessFabricModel", name := "numeral", desc := "(II)I" } : Jvm.MethodName) prog_18_method_12_code (4 : Nat) (Option.some Jvm.ClassFile.FieldType.int)) ∈ lw_all := lw_g (lw_at lw_m7 53 rfl) rfl
theorem q1594 : (Jvm.Cond.methodLink "LosslessFabricModel" (214 : Nat) ({ cls := "LosslessFabricModel", name := "readFlow", desc := "()V" } : Jvm.MethodName)) ∈ lw_all := lw_g (lw_at lw_m7 54 rfl) rfl
theorem q1595 : (Jvm.Cond.privateMethod ({ cls := "LosslessFabricModel", name := "readFlow", desc := "()V" } : Jvm.MethodName)) ∈ lw_tbl := lw_at lw_m7 55 rfl
theorem q1596 : (Jvm.Cond.instanceMethod ({ cls := "LosslessFabricModel", name := "readFlow", desc := "()V" } : Jvm.MethodName)) ∈ lw_all := lw_g (lw_at lw_m7 56 rfl) rfl
theorem q1597 : (Jvm.Cond.code ({ cls := "LosslessFabricModel", name := "readFlow", desc := "()V" } : Jvm.MethodName) prog_18_method_21_code (3 : Nat) (Option.none : Option Jvm.ClassFile.FieldType)) ∈ lw_all := lw_g (lw_at lw_m7 57 rfl) rfl
theorem q1598 : (Jvm.Cond.methodLink "LosslessFabricModel" (205 : Nat) ({ cls := "LosslessFabricModel", name := "readHop", desc := "(I)V" } : Jvm.MethodName)) ∈ lw_all := lw_g (lw_at lw_m7 58 rfl) rfl
theorem q1599 : (Jvm.Cond.privateMethod ({ cls := "LosslessFabricModel", name := "readHop", desc := "(I)V" } : Jvm.MethodName)) ∈ lw_tbl := lw_at lw_m7 59 rfl
theorem q1600 : (Jvm.Cond.instanceMethod ({ cls := "LosslessFabricModel", name := "readHop", desc := "(I)V" } : Jvm.MethodName)) ∈ lw_all := lw_g (lw_at lw_m7 60 rfl) rfl
theorem q1601 : (Jvm.Cond.code ({ cls := "LosslessFabricModel", name := "readHop", desc := "(I)V" } : Jvm.MethodName) prog_18_method_20_code (3 : Nat) (Option.none : Option Jvm.ClassFile.FieldType)) ∈ lw_all := lw_g (lw_at lw_m7 61 rfl) rfl
theorem q1602 : (Jvm.Cond.methodLink "LosslessFabricModel" (201 : Nat) ({ cls := "LosslessFabricModel", name := "isOnPath", desc := "(II)Z" } : Jvm.MethodName)) ∈ lw_all := lw_g (lw_at lw_m7 62 rfl) rfl
theorem q1603 : (Jvm.Cond.privateMethod ({ cls := "LosslessFabricModel", name := "isOnPath", desc := "(II)Z" } : Jvm.MethodName)) ∈ lw_tbl := lw_at lw_m7 63 rfl
theorem q1604 : (Jvm.Cond.instanceMethod ({ cls := "LosslessFabricModel", name := "isOnPath", desc := "(II)Z" } : Jvm.MethodName)) ∈ lw_all := lw_g (lw_at lw_m7 64 rfl) rfl
theorem q1605 : (Jvm.Cond.code ({ cls := "LosslessFabricModel", name := "isOnPath", desc := "(II)Z" } : Jvm.MethodName) prog_18_method_19_code (4 : Nat) (Option.some Jvm.ClassFile.FieldType.boolean)) ∈ lw_all := lw_g (lw_at lw_m7 65 rfl) rfl
theorem q1606 : (Jvm.Cond.methodLink "LosslessFabricModel" (217 : Nat) ({ cls := "LosslessFabricModel", name := "readSample", desc := "()V" } : Jvm.MethodName)) ∈ lw_all := lw_g (lw_at lw_m7 66 rfl) rfl
theorem q1607 : (Jvm.Cond.privateMethod ({ cls := "LosslessFabricModel", name := "readSample", desc := "()V" } : Jvm.MethodName)) ∈ lw_tbl := lw_at lw_m7 67 rfl
theorem q1608 : (Jvm.Cond.instanceMethod ({ cls := "LosslessFabricModel", name := "readSample", desc := "()V" } : Jvm.MethodName)) ∈ lw_all := lw_g (lw_at lw_m7 68 rfl) rfl
theorem q1609 : (Jvm.Cond.code ({ cls := "LosslessFabricModel", name := "readSample", desc := "()V" } : Jvm.MethodName) prog_18_method_22_code (1 : Nat) (Option.none : Option Jvm.ClassFile.FieldType)) ∈ lw_all := lw_g (lw_at lw_m7 69 rfl) rfl
theorem q1610 : (Jvm.Cond.methodLink "LosslessFabricModel" (208 : Nat) ({ cls := "LosslessFabricModel", name := "once", desc := "(I)V" } : Jvm.MethodName)) ∈ lw_all := lw_g (lw_at lw_m7 70 rfl) rfl
theorem q1611 : (Jvm.Cond.privateMethod ({ cls := "LosslessFabricModel", name := "once", desc := "(I)V" } : Jvm.MethodName)) ∈ lw_tbl := lw_at lw_m7 71 rfl
theorem q1612 : (Jvm.Cond.instanceMethod ({ cls := "LosslessFabricModel", name := "once", desc := "(I)V" } : Jvm.MethodName)) ∈ lw_all := lw_g (lw_at lw_m7 72 rfl) rfl
theorem q1613 : (Jvm.Cond.code ({ cls := "LosslessFabricModel", name := "once", desc := "(I)V" } : Jvm.MethodName) prog_18_method_15_code (2 : Nat) (Option.none : Option Jvm.ClassFile.FieldType)) ∈ lw_all := lw_g (lw_at lw_m7 73 rfl) rfl
theorem q1614 : (Jvm.Cond.methodLink "LosslessFabricModel" (220 : Nat) ({ cls := "LosslessFabricModel", name := "readStage", desc := "()V" } : Jvm.MethodName)) ∈ lw_all := lw_g (lw_at lw_m7 74 rfl) rfl
theorem q1615 : (Jvm.Cond.privateMethod ({ cls := "LosslessFabricModel", name := "readStage", desc := "()V" } : Jvm.MethodName)) ∈ lw_tbl := lw_at lw_m7 75 rfl
theorem q1616 : (Jvm.Cond.instanceMethod ({ cls := "LosslessFabricModel", name := "readStage", desc := "()V" } : Jvm.MethodName)) ∈ lw_all := lw_g (lw_at lw_m7 76 rfl) rfl
theorem q1617 : (Jvm.Cond.code ({ cls := "LosslessFabricModel", name := "readStage", desc := "()V" } : Jvm.MethodName) prog_18_method_23_code (1 : Nat) (Option.none : Option Jvm.ClassFile.FieldType)) ∈ lw_all := lw_g (lw_at lw_m7 77 rfl) rfl
theorem q1618 : (Jvm.Cond.methodLink "LosslessFabricModel" (223 : Nat) ({ cls := "LosslessFabricModel", name := "readOff", desc := "()V" } : Jvm.MethodName)) ∈ lw_all := lw_g (lw_at lw_m7 78 rfl) rfl
theorem q1619 : (Jvm.Cond.privateMethod ({ cls := "LosslessFabricModel", name := "readOff", desc := "()V" } : Jvm.MethodName)) ∈ lw_tbl := lw_at lw_m7 79 rfl
theorem q1620 : (Jvm.Cond.instanceMethod ({ cls := "LosslessFabricModel", name := "readOff", desc := "()V" } : Jvm.MethodName)) ∈ lw_all := lw_g (lw_at lw_m7 80 rfl) rfl
theorem q1621 : (Jvm.Cond.code ({ cls := "LosslessFabricModel", name := "readOff", desc := "()V" } : Jvm.MethodName) prog_18_method_24_code (2 : Nat) (Option.none : Option Jvm.ClassFile.FieldType)) ∈ lw_all := lw_g (lw_at lw_m7 81 rfl) rfl
theorem q1622 : (Jvm.Cond.methodLink "LosslessFabricModel" (226 : Nat) ({ cls := "LosslessFabricModel", name := "readSeed", desc := "()V" } : Jvm.MethodName)) ∈ lw_all := lw_g (lw_at lw_m7 82 rfl) rfl
theorem q1623 : (Jvm.Cond.privateMethod ({ cls := "LosslessFabricModel", name := "readSeed", desc := "()V" } : Jvm.MethodName)) ∈ lw_tbl := lw_at lw_m7 83 rfl
theorem q1624 : (Jvm.Cond.instanceMethod ({ cls := "LosslessFabricModel", name := "readSeed", desc := "()V" } : Jvm.MethodName)) ∈ lw_all := lw_g (lw_at lw_m7 84 rfl) rfl
theorem q1625 : (Jvm.Cond.code ({ cls := "LosslessFabricModel", name := "readSeed", desc := "()V" } : Jvm.MethodName) prog_18_method_25_code (1 : Nat) (Option.none : Option Jvm.ClassFile.FieldType)) ∈ lw_all := lw_g (lw_at lw_m7 85 rfl) rfl
theorem q1627 : (Jvm.Cond.instanceMethod ({ cls := "LosslessFabricModel", name := "fault", desc := "(I)I" } : Jvm.MethodName)) ∈ lw_all := lw_g (lw_at lw_m7 87 rfl) rfl
theorem q1628 : (Jvm.Cond.selects "LosslessFabricModel" ({ cls := "LosslessFabricModel", name := "fault", desc := "(I)I" } : Jvm.MethodName) ({ cls := "LosslessFabricModel", name := "fault", desc := "(I)I" } : Jvm.MethodName)) ∈ lw_all := lw_g (lw_at lw_m7 88 rfl) rfl
theorem q1629 : (Jvm.Cond.code ({ cls := "LosslessFabricModel", name := "fault", desc := "(I)I" } : Jvm.MethodName) prog_18_method_31_code (2 : Nat) (Option.some Jvm.ClassFile.FieldType.int)) ∈ lw_all := lw_g (lw_at lw_m7 89 rfl) rfl
theorem q1631 : (Jvm.Cond.instanceMethod ({ cls := "LosslessFabricModel", name := "named", desc := "(II)I" } : Jvm.MethodName)) ∈ lw_all := lw_g (lw_at lw_m7 91 rfl) rfl
theorem q1632 : (Jvm.Cond.selects "LosslessFabricModel" ({ cls := "LosslessFabricModel", name := "named", desc := "(II)I" } : Jvm.MethodName) ({ cls := "LosslessFabricModel", name := "named", desc := "(II)I" } : Jvm.MethodName)) ∈ lw_all := lw_g (lw_at lw_m7 92 rfl) rfl
theorem q1633 : (Jvm.Cond.code ({ cls := "LosslessFabricModel", name := "named", desc := "(II)I" } : Jvm.MethodName) prog_18_method_34_code (3 : Nat) (Option.some Jvm.ClassFile.FieldType.int)) ∈ lw_all := lw_g (lw_at lw_m7 93 rfl) rfl
theorem q1635 : (Jvm.Cond.instanceMethod ({ cls := "LosslessFabricModel", name := "undo", desc := "()I" } : Jvm.MethodName)) ∈ lw_all := lw_g (lw_at lw_m7 95 rfl) rfl
theorem q1636 : (Jvm.Cond.selects "LosslessFabricModel" ({ cls := "LosslessFabricModel", name := "undo", desc := "()I" } : Jvm.MethodName) ({ cls := "LosslessFabricModel", name := "undo", desc := "()I" } : Jvm.MethodName)) ∈ lw_all := lw_g (lw_at lw_m7 96 rfl) rfl
theorem q1637 : (Jvm.Cond.code ({ cls := "LosslessFabricModel", name := "undo", desc := "()I" } : Jvm.MethodName) prog_18_method_38_code (1 : Nat) (Option.some Jvm.ClassFile.FieldType.int)) ∈ lw_all := lw_g (lw_at lw_m7 97 rfl) rfl
theorem q1638 : (Jvm.Cond.methodLink "LosslessFabricModel" (254 : Nat) ({ cls := "LosslessFabricModel", name := "copies", desc := "([II[II)V" } : Jvm.MethodName)) ∈ lw_all := lw_g (lw_at lw_m7 98 rfl) rfl
theorem q1639 : (Jvm.Cond.static ({ cls := "LosslessFabricModel", name := "copies", desc := "([II[II)V" } : Jvm.MethodName)) ∈ lw_all := lw_g (lw_at lw_m7 99 rfl) rfl
theorem q1640 : (Jvm.Cond.code ({ cls := "LosslessFabricModel", name := "copies", desc := "([II[II)V" } : Jvm.MethodName) prog_18_method_35_code (5 : Nat) (Option.none : Option Jvm.ClassFile.FieldType)) ∈ lw_all := lw_g (lw_at lw_m7 100 rfl) rfl
theorem q1642 : (Jvm.Cond.instanceMethod ({ cls := "LosslessFabricModel", name := "keep", desc := "()I" } : Jvm.MethodName)) ∈ lw_all := lw_g (lw_at lw_m7 102 rfl) rfl
theorem q1643 : (Jvm.Cond.selects "LosslessFabricModel" ({ cls := "LosslessFabricModel", name := "keep", desc := "()I" } : Jvm.MethodName) ({ cls := "LosslessFabricModel", name := "keep", desc := "()I" } : Jvm.MethodName)) ∈ lw_all := lw_g (lw_at lw_m7 103 rfl) rfl
theorem q1644 : (Jvm.Cond.code ({ cls := "LosslessFabricModel", name := "keep", desc := "()I" } : Jvm.MethodName) prog_18_method_39_code (1 : Nat) (Option.some Jvm.ClassFile.FieldType.int)) ∈ lw_all := lw_g (lw_at lw_m7 104 rfl) rfl
theorem q1646 : (Jvm.Cond.instanceMethod ({ cls := "LosslessFabricModel", name := "back", desc := "()I" } : Jvm.MethodName)) ∈ lw_all := lw_g (lw_at lw_m7 106 rfl) rfl
theorem q1647 : (Jvm.Cond.selects "LosslessFabricModel" ({ cls := "LosslessFabricModel", name := "back", desc := "()I" } : Jvm.MethodName) ({ cls := "LosslessFabricModel", name := "back", desc := "()I" } : Jvm.MethodName)) ∈ lw_all := lw_g (lw_at lw_m7 107 rfl) rfl
theorem q1648 : (Jvm.Cond.code ({ cls := "LosslessFabricModel", name := "back", desc := "()I" } : Jvm.MethodName) prog_18_method_40_code (1 : Nat) (Option.some Jvm.ClassFile.FieldType.int)) ∈ lw_all := lw_g (lw_at lw_m7 108 rfl) rfl
theorem q1650 : (Jvm.Cond.instanceMethod ({ cls := "LosslessFabricModel", name := "tick", desc := "(I)I" } : Jvm.MethodName)) ∈ lw_all := lw_g (lw_at lw_m7 110 rfl) rfl
theorem q1651 : (Jvm.Cond.selects "LosslessFabricModel" ({ cls := "LosslessFabricModel", name := "tick", desc := "(I)I" } : Jvm.MethodName) ({ cls := "LosslessFabricModel", name := "tick", desc := "(I)I" } : Jvm.MethodName)) ∈ lw_all := lw_g (lw_at lw_m7 111 rfl) rfl
theorem q1652 : (Jvm.Cond.code ({ cls := "LosslessFabricModel", name := "tick", desc := "(I)I" } : Jvm.MethodName) prog_18_method_59_code (3 : Nat) (Option.some Jvm.ClassFile.FieldType.int)) ∈ lw_all := lw_g (lw_at lw_m7 112 rfl) rfl
theorem q1653 : (Jvm.Cond.methodLink "LosslessFabricModel" (310 : Nat) ({ cls := "LosslessFabricModel", name := "remembers", desc := "()V" } : Jvm.MethodName)) ∈ lw_all := lw_g (lw_at lw_m7 113 rfl) rfl
theorem q1654 : (Jvm.Cond.privateMethod ({ cls := "LosslessFabricModel", name := "remembers", desc := "()V" } : Jvm.MethodName)) ∈ lw_tbl := lw_at lw_m7 114 rfl
theorem q1655 : (Jvm.Cond.instanceMethod ({ cls := "LosslessFabricModel", name := "remembers", desc := "()V" } : Jvm.MethodName)) ∈ lw_all := lw_g (lw_at lw_m7 115 rfl) rfl
theorem q1656 : (Jvm.Cond.code ({ cls := "LosslessFabricModel", name := "remembers", desc := "()V" } : Jvm.MethodName) prog_18_method_37_code (2 : Nat) (Option.none : Option Jvm.ClassFile.FieldType)) ∈ lw_all := lw_g (lw_at lw_m7 116 rfl) rfl
theorem q1657 : (Jvm.Cond.methodLink "LosslessFabricModel" (313 : Nat) ({ cls := "LosslessFabricModel", name := "tickGoes", desc := "()V" } : Jvm.MethodName)) ∈ lw_all := lw_g (lw_at lw_m7 117 rfl) rfl
theorem q1658 : (Jvm.Cond.privateMethod ({ cls := "LosslessFabricModel", name := "tickGoes", desc := "()V" } : Jvm.MethodName)) ∈ lw_tbl := lw_at lw_m7 118 rfl
theorem q1659 : (Jvm.Cond.instanceMethod ({ cls := "LosslessFabricModel", name := "tickGoes", desc := "()V" } : Jvm.MethodName)) ∈ lw_all := lw_g (lw_at lw_m7 119 rfl) rfl
theorem q1660 : (Jvm.Cond.code ({ cls := "LosslessFabricModel", name := "tickGoes", desc := "()V" } : Jvm.MethodName) prog_18_method_58_code (3 : Nat) (Option.none : Option Jvm.ClassFile.FieldType)) ∈ lw_all := lw_g (lw_at lw_m7 120 rfl) rfl
theorem q1661 : (Jvm.Cond.methodLink "LosslessFabricModel" (258 : Nat) ({ cls := "LosslessFabricModel", name := "flowAt", desc := "(I)I" } : Jvm.MethodName)) ∈ lw_all := lw_g (lw_at lw_m7 121 rfl) rfl
theorem q1662 : (Jvm.Cond.static ({ cls := "LosslessFabricModel", name := "flowAt", desc := "(I)I" } : Jvm.MethodName)) ∈ lw_all := lw_g (lw_at lw_m7 122 rfl) rfl
theorem q1663 : (Jvm.Cond.code ({ cls := "LosslessFabricModel", name := "flowAt", desc := "(I)I" } : Jvm.MethodName) prog_18_method_41_code (1 : Nat) (Option.some Jvm.ClassFile.FieldType.int)) ∈ lw_all := lw_g (lw_at lw_m7 123 rfl) rfl
theorem q1664 : (Jvm.Cond.methodLink "LosslessFabricModel" (283 : Nat) ({ cls := "LosslessFabricModel", name := "isOn", desc := "(I)Z" } : Jvm.MethodName)) ∈ lw_all := lw_g (lw_at lw_m7 124 rfl) rfl
theorem q1665 : (Jvm.Cond.privateMethod ({ cls := "LosslessFabricModel", name := "isOn", desc := "(I)Z" } : Jvm.MethodName)) ∈ lw_tbl := lw_at lw_m7 125 rfl
theorem q1666 : (Jvm.Cond.instanceMethod ({ cls := "LosslessFabricModel", name := "isOn", desc := "(I)Z" } : Jvm.MethodName)) ∈ lw_all := lw_g (lw_at lw_m7 126 rfl) rfl
theorem q1667 : (Jvm.Cond.code ({ cls := "LosslessFabricModel", name := "isOn", desc := "(I)Z" } : Jvm.MethodName) prog_18_method_43_code (2 : Nat) (Option.some Jvm.ClassFile.FieldType.boolean)) ∈ lw_all := lw_g (lw_at lw_m7 127 rfl) rfl
theorem q1668 : (Jvm.Cond.methodLink "LosslessFabricModel" (267 : Nat) ({ cls := "LosslessFabricModel", name := "within", desc := "(III)I" } : Jvm.MethodName)) ∈ lw_all := lw_g (lw_at lw_m7 128 rfl) rfl
theorem q1669 : (Jvm.Cond.static ({ cls := "LosslessFabricModel", name := "within", desc := "(III)I" } : Jvm.MethodName)) ∈ lw_all := lw_g (lw_at lw_m7 129 rfl) rfl
theorem q1670 : (Jvm.Cond.code ({ cls := "LosslessFabricModel", name := "within", desc := "(III)I" } : Jvm.MethodName) prog_18_method_46_code (3 : Nat) (Option.some Jvm.ClassFile.FieldType.int)) ∈ lw_all := lw_g (lw_at lw_m7 130 rfl) rfl
theorem q1671 : (Jvm.Cond.methodLink "LosslessFabricModel" (286 : Nat) ({ cls := "LosslessFabricModel", name := "laysCan", desc := "()V" } : Jvm.MethodName)) ∈ lw_all := lw_g (lw_at lw_m7 131 rfl) rfl
theorem q1672 : (Jvm.Cond.privateMethod ({ cls := "LosslessFabricModel", name := "laysCan", desc := "()V" } : Jvm.MethodName)) ∈ lw_tbl := lw_at lw_m7 132 rfl
theorem q1673 : (Jvm.Cond.instanceMethod ({ cls := "LosslessFabricModel", name := "laysCan", desc := "()V" } : Jvm.MethodName)) ∈ lw_all := lw_g (lw_at lw_m7 133 rfl) rfl
theorem q1674 : (Jvm.Cond.code ({ cls := "LosslessFabricModel", name := "laysCan", desc := "()V" } : Jvm.MethodName) prog_18_method_47_code (5 : Nat) (Option.none : Option Jvm.ClassFile.FieldType)) ∈ lw_all := lw_g (lw_at lw_m7 134 rfl) rfl
theorem q1675 : (Jvm.Cond.methodLink "LosslessFabricModel" (261 : Nat) ({ cls := "LosslessFabricModel", name := "hopOf", desc := "(II)I" } : Jvm.MethodName)) ∈ lw_all := lw_g (lw_at lw_m7 135 rfl) rfl
theorem q1676 : (Jvm.Cond.privateMethod ({ cls := "LosslessFabricModel", name := "hopOf", desc := "(II)I" } : Jvm.MethodName)) ∈ lw_tbl := lw_at lw_m7 136 rfl
theorem q1677 : (Jvm.Cond.instanceMethod ({ cls := "LosslessFabricModel", name := "hopOf", desc := "(II)I" } : Jvm.MethodName)) ∈ lw_all := lw_g (lw_at lw_m7 137 rfl) rfl
theorem q1678 : (Jvm.Cond.code ({ cls := "LosslessFabricModel", name := "hopOf", desc := "(II)I" } : Jvm.MethodName) prog_18_method_45_code (4 : Nat) (Option.some Jvm.ClassFile.FieldType.int)) ∈ lw_all := lw_g (lw_at lw_m7 138 rfl) rfl
theorem q1679 : (Jvm.Cond.methodLink "LosslessFabricModel" (289 : Nat) ({ cls := "LosslessFabricModel", name := "carriesOf", desc := "(I)V" } : Jvm.MethodName)) ∈ lw_all := lw_g (lw_at lw_m7 139 rfl) rfl
theorem q1680 : (Jvm.Cond.privateMethod ({ cls := "LosslessFabricModel", name := "carriesOf", desc := "(I)V" } : Jvm.MethodName)) ∈ lw_tbl := lw_at lw_m7 140 rfl
theorem q1681 : (Jvm.Cond.instanceMethod ({ cls := "LosslessFabricModel", name := "carriesOf", desc := "(I)V" } : Jvm.MethodName)) ∈ lw_all := lw_g (lw_at lw_m7 141 rfl) rfl
theorem q1682 : (Jvm.Cond.code ({ cls := "LosslessFabricModel", name := "carriesOf", desc := "(I)V" } : Jvm.MethodName) prog_18_method_48_code (6 : Nat) (Option.none : Option Jvm.ClassFile.FieldType)) ∈ lw_all := lw_g (lw_at lw_m7 142 rfl) rfl
theorem q1683 : (Jvm.Cond.methodLink "LosslessFabricModel" (292 : Nat) ({ cls := "LosslessFabricModel", name := "takesOff", desc := "()V" } : Jvm.MethodName)) ∈ lw_all := lw_g (lw_at lw_m7 143 rfl) rfl
theorem q1684 : (Jvm.Cond.privateMethod ({ cls := "LosslessFabricModel", name := "takesOff", desc := "()V" } : Jvm.MethodName)) ∈ lw_tbl := lw_at lw_m7 144 rfl
theorem q1685 : (Jvm.Cond.instanceMethod ({ cls := "LosslessFabricModel", name := "takesOff", desc := "()V" } : Jvm.MethodName)) ∈ lw_all := lw_g (lw_at lw_m7 145 rfl) rfl
theorem q1686 : (Jvm.Cond.code ({ cls := "LosslessFabricModel", name := "takesOff", desc := "()V" } : Jvm.MethodName) prog_18_method_49_code (5 : Nat) (Option.none : Option Jvm.ClassFile.FieldType)) ∈ lw_all := lw_g (lw_at lw_m7 146 rfl) rfl
theorem q1687 : (Jvm.Cond.methodLink "LosslessFabricModel" (295 : Nat) ({ cls := "LosslessFabricModel", name := "comesTo", desc := "(I)V" } : Jvm.MethodName)) ∈ lw_all := lw_g (lw_at lw_m7 147 rfl) rfl
theorem q1688 : (Jvm.Cond.privateMethod ({ cls := "LosslessFabricModel", name := "comesTo", desc := "(I)V" } : Jvm.MethodName)) ∈ lw_tbl := lw_at lw_m7 148 rfl
theorem q1689 : (Jvm.Cond.instanceMethod ({ cls := "LosslessFabricModel", name := "comesTo", desc := "(I)V" } : Jvm.MethodName)) ∈ lw_all := lw_g (lw_at lw_m7 149 rfl) rfl
theorem q1690 : (Jvm.Cond.code ({ cls := "LosslessFabricModel", name := "comesTo", desc := "(I)V" } : Jvm.MethodName) prog_18_method_50_code (6 : Nat) (Option.none : Option Jvm.ClassFile.FieldType)) ∈ lw_all := lw_g (lw_at lw_m7 150 rfl) rfl
theorem q1691 : (Jvm.Cond.methodLink "LosslessFabricModel" (264 : Nat) ({ cls := "LosslessFabricModel", name := "queueOf", desc := "(I)I" } : Jvm.MethodName)) ∈ lw_all := lw_g (lw_at lw_m7 151 rfl) rfl
theorem q1692 : (Jvm.Cond.privateMethod ({ cls := "LosslessFabricModel", name := "queueOf", desc := "(I)I" } : Jvm.MethodName)) ∈ lw_tbl := lw_at lw_m7 152 rfl
theorem q1693 : (Jvm.Cond.instanceMethod ({ cls := "LosslessFabricModel", name := "queueOf", desc := "(I)I" } : Jvm.MethodName)) ∈ lw_all := lw_g (lw_at lw_m7 153 rfl) rfl
theorem q1694 : (Jvm.Cond.code ({ cls := "LosslessFabricModel", name := "queueOf", desc := "(I)I" } : Jvm.MethodName) prog_18_method_42_code (4 : Nat) (Option.some Jvm.ClassFile.FieldType.int)) ∈ lw_all := lw_g (lw_at lw_m7 154 rfl) rfl
theorem q1695 : (Jvm.Cond.methodLink "LosslessFabricModel" (298 : Nat) ({ cls := "LosslessFabricModel", name := "asks", desc := "(I)V" } : Jvm.MethodName)) ∈ lw_all := lw_g (lw_at lw_m7 155 rfl) rfl
theorem q1696 : (Jvm.Cond.privateMethod ({ cls := "LosslessFabricModel", name := "asks", desc := "(I)V" } : Jvm.MethodName)) ∈ lw_tbl := lw_at lw_m7 156 rfl
theorem q1697 : (Jvm.Cond.instanceMethod ({ cls := "LosslessFabricModel", name := "asks", desc := "(I)V" } : Jvm.MethodName)) ∈ lw_all := lw_g (lw_at lw_m7 157 rfl) rfl
theorem q1698 : (Jvm.Cond.code ({ cls := "LosslessFabricModel", name := "asks", desc := "(I)V" } : Jvm.MethodName) prog_18_method_51_code (5 : Nat) (Option.none : Option Jvm.ClassFile.FieldType)) ∈ lw_all := lw_g (lw_at lw_m7 158 rfl) rfl
theorem q1699 : (Jvm.Cond.methodLink "LosslessFabricModel" (301 : Nat) ({ cls := "LosslessFabricModel", name := "samples", desc := "(I)V" } : Jvm.MethodName)) ∈ lw_all := lw_g (lw_at lw_m7 159 rfl) rfl
theorem q1700 : (Jvm.Cond.privateMethod ({ cls := "LosslessFabricModel", name := "samples", desc := "(I)V" } : Jvm.MethodName)) ∈ lw_tbl := lw_at lw_m7 160 rfl
theorem q1701 : (Jvm.Cond.instanceMethod ({ cls := "LosslessFabricModel", name := "samples", desc := "(I)V" } : Jvm.MethodName)) ∈ lw_all := lw_g (lw_at lw_m7 161 rfl) rfl
theorem q1702 : (Jvm.Cond.code ({ cls := "LosslessFabricModel", name := "samples", desc := "(I)V" } : Jvm.MethodName) prog_18_method_54_code (5 : Nat) (Option.none : Option Jvm.ClassFile.FieldType)) ∈ lw_all := lw_g (lw_at lw_m7 162 rfl) rfl
theorem q1703 : (Jvm.Cond.methodLink "LosslessFabricModel" (271 : Nat) ({ cls := "LosslessFabricModel", name := "feedbackOf", desc := "(I)I" } : Jvm.MethodName)) ∈ lw_all := lw_g (lw_at lw_m7 163 rfl) rfl
theorem q1704 : (Jvm.Cond.privateMethod ({ cls := "LosslessFabricModel", name := "feedbackOf", desc := "(I)I" } : Jvm.MethodName)) ∈ lw_tbl := lw_at lw_m7 164 rfl
theorem q1705 : (Jvm.Cond.instanceMethod ({ cls := "LosslessFabricModel", name := "feedbackOf", desc := "(I)I" } : Jvm.MethodName)) ∈ lw_all := lw_g (lw_at lw_m7 165 rfl) rfl
theorem q1706 : (Jvm.Cond.code ({ cls := "LosslessFabricModel", name := "feedbackOf", desc := "(I)I" } : Jvm.MethodName) prog_18_method_52_code (3 : Nat) (Option.some Jvm.ClassFile.FieldType.int)) ∈ lw_all := lw_g (lw_at lw_m7 166 rfl) rfl
theorem q1707 : (Jvm.Cond.methodLink "LosslessFabricModel" (274 : Nat) ({ cls := "LosslessFabricModel", name := "noticeOf", desc := "(I)I" } : Jvm.MethodName)) ∈ lw_all := lw_g (lw_at lw_m7 167 rfl) rfl
theorem q1708 : (Jvm.Cond.privateMethod ({ cls := "LosslessFabricModel", name := "noticeOf", desc := "(I)I" } : Jvm.MethodName)) ∈ lw_tbl := lw_at lw_m7 168 rfl
theorem q1709 : (Jvm.Cond.instanceMethod ({ cls := "LosslessFabricModel", name := "noticeOf", desc := "(I)I" } : Jvm.MethodName)) ∈ lw_all := lw_g (lw_at lw_m7 169 rfl) rfl
theorem q1710 : (Jvm.Cond.code ({ cls := "LosslessFabricModel", name := "noticeOf", desc := "(I)I" } : Jvm.MethodName) prog_18_method_53_code (2 : Nat) (Option.some Jvm.ClassFile.FieldType.int)) ∈ lw_all := lw_g (lw_at lw_m7 170 rfl) rfl
theorem q1711 : (Jvm.Cond.methodLink "LosslessFabricModel" (304 : Nat) ({ cls := "LosslessFabricModel", name := "takesNotices", desc := "()V" } : Jvm.MethodName)) ∈ lw_all := lw_g (lw_at lw_m7 171 rfl) rfl
theorem q1712 : (Jvm.Cond.privateMethod ({ cls := "LosslessFabricModel", name := "takesNotices", desc := "()V" } : Jvm.MethodName)) ∈ lw_tbl := lw_at lw_m7 172 rfl
theorem q1713 : (Jvm.Cond.instanceMethod ({ cls := "LosslessFabricModel", name := "takesNotices", desc := "()V" } : Jvm.MethodName)) ∈ lw_all := lw_g (lw_at lw_m7 173 rfl) rfl
theorem q1714 : (Jvm.Cond.code ({ cls := "LosslessFabricModel", name := "takesNotices", desc := "()V" } : Jvm.MethodName) prog_18_method_55_code (4 : Nat) (Option.none : Option Jvm.ClassFile.FieldType)) ∈ lw_all := lw_g (lw_at lw_m7 174 rfl) rfl
theorem q1715 : (Jvm.Cond.methodLink "LosslessFabricModel" (307 : Nat) ({ cls := "LosslessFabricModel", name := "recovers", desc := "(I)V" } : Jvm.MethodName)) ∈ lw_all := lw_g (lw_at lw_m7 175 rfl) rfl
theorem q1716 : (Jvm.Cond.privateMethod ({ cls := "LosslessFabricModel", name := "recovers", desc := "(I)V" } : Jvm.MethodName)) ∈ lw_tbl := lw_at lw_m7 176 rfl
theorem q1717 : (Jvm.Cond.instanceMethod ({ cls := "LosslessFabricModel", name := "recovers", desc := "(I)V" } : Jvm.MethodName)) ∈ lw_all := lw_g (lw_at lw_m7 177 rfl) rfl
theorem q1718 : (Jvm.Cond.code ({ cls := "LosslessFabricModel", name := "recovers", desc := "(I)V" } : Jvm.MethodName) prog_18_method_57_code (3 : Nat) (Option.none : Option Jvm.ClassFile.FieldType)) ∈ lw_all := lw_g (lw_at lw_m7 178 rfl) rfl
theorem q1719 : (Jvm.Cond.methodLink "LosslessFabricModel" (280 : Nat) ({ cls := "LosslessFabricModel", name := "climbs", desc := "(I)V" } : Jvm.MethodName)) ∈ lw_all := lw_g (lw_at lw_m7 179 rfl) rfl
theorem q1720 : (Jvm.Cond.privateMethod ({ cls := "LosslessFabricModel", name := "climbs", desc := "(I)V" } : Jvm.MethodName)) ∈ lw_tbl := lw_at lw_m7 180 rfl
theorem q1721 : (Jvm.Cond.instanceMethod ({ cls := "LosslessFabricModel", name := "climbs", desc := "(I)V" } : Jvm.MethodName)) ∈ lw_all := lw_g (lw_at lw_m7 181 rfl) rfl
theorem q1722 : (Jvm.Cond.code ({ cls := "LosslessFabricModel", name := "climbs", desc := "(I)V" } : Jvm.MethodName) prog_18_method_56_code (6 : Nat) (Option.none : Option Jvm.ClassFile.FieldType)) ∈ lw_all := lw_g (lw_at lw_m7 182 rfl) rfl
theorem q1724 : (Jvm.Cond.instanceMethod ({ cls := "LosslessFabricModel", name := "rate", desc := "(II)I" } : Jvm.MethodName)) ∈ lw_all := lw_g (lw_at lw_m7 184 rfl) rfl
theorem q1725 : (Jvm.Cond.selects "LosslessFabricModel" ({ cls := "LosslessFabricModel", name := "rate", desc := "(II)I" } : Jvm.MethodName) ({ cls := "LosslessFabricModel", name := "rate", desc := "(II)I" } : Jvm.MethodName)) ∈ lw_all := lw_g (lw_at lw_m7 185 rfl) rfl
theorem q1726 : (Jvm.Cond.code ({ cls := "LosslessFabricModel", name := "rate", desc := "(II)I" } : Jvm.MethodName) prog_18_method_62_code (4 : Nat) (Option.some Jvm.ClassFile.FieldType.int)) ∈ lw_all := lw_g (lw_at lw_m7 186 rfl) rfl
theorem q1727 : (Jvm.Cond.methodLink "LosslessFabricModel" (316 : Nat) ({ cls := "LosslessFabricModel", name := "isFlow", desc := "(I)Z" } : Jvm.MethodName)) ∈ lw_all := lw_g (lw_at lw_m7 187 rfl) rfl
theorem q1728 : (Jvm.Cond.privateMethod ({ cls := "LosslessFabricModel", name := "isFlow", desc := "(I)Z" } : Jvm.MethodName)) ∈ lw_tbl := lw_at lw_m7 188 rfl
theorem q1729 : (Jvm.Cond.instanceMethod ({ cls := "LosslessFabricModel", name := "isFlow", desc := "(I)Z" } : Jvm.MethodName)) ∈ lw_all := lw_g (lw_at lw_m7 189 rfl) rfl
theorem q1730 : (Jvm.Cond.code ({ cls := "LosslessFabricModel", name := "isFlow", desc := "(I)Z" } : Jvm.MethodName) prog_18_method_61_code (2 : Nat) (Option.some Jvm.ClassFile.FieldType.boolean)) ∈ lw_all := lw_g (lw_at lw_m7 190 rfl) rfl
theorem q1732 : (Jvm.Cond.instanceMethod ({ cls := "LosslessFabricModel", name := "turn", desc := "(I)I" } : Jvm.MethodName)) ∈ lw_all := lw_g (lw_at lw_m7 192 rfl) rfl
theorem q1733 : (Jvm.Cond.selects "LosslessFabricModel" ({ cls := "LosslessFabricModel", name := "turn", desc := "(I)I" } : Jvm.MethodName) ({ cls := "LosslessFabricModel", name := "turn", desc := "(I)I" } : Jvm.MethodName)) ∈ lw_all := lw_g (lw_at lw_m7 193 rfl) rfl
theorem q1734 : (Jvm.Cond.code ({ cls := "LosslessFabricModel", name := "turn", desc := "(I)I" } : Jvm.MethodName) prog_18_method_63_code (2 : Nat) (Option.some Jvm.ClassFile.FieldType.int)) ∈ lw_all := lw_g (lw_at lw_m7 194 rfl) rfl
theorem q1736 : (Jvm.Cond.instanceMethod ({ cls := "LosslessFabricModel", name := "bounds", desc := "(III)Z" } : Jvm.MethodName)) ∈ lw_all := lw_g (lw_at lw_m7 196 rfl) rfl
theorem q1737 : (Jvm.Cond.selects "LosslessFabricModel" ({ cls := "LosslessFabricModel", name := "bounds", desc := "(III)Z" } : Jvm.MethodName) ({ cls := "LosslessFabricModel", name := "bounds", desc := "(III)Z" } : Jvm.MethodName)) ∈ lw_all := lw_g (lw_at lw_m7 197 rfl) rfl
theorem q1738 : (Jvm.Cond.code ({ cls := "LosslessFabricModel", name := "bounds", desc := "(III)Z" } : Jvm.MethodName) prog_18_method_64_code (4 : Nat) (Option.some Jvm.ClassFile.FieldType.boolean)) ∈ lw_all := lw_g (lw_at lw_m7 198 rfl) rfl
theorem q1739 : (Jvm.Cond.methodLink "LosslessFabricModel" (319 : Nat) ({ cls := "LosslessFabricModel", name := "isLink", desc := "(I)Z" } : Jvm.MethodName)) ∈ lw_all := lw_g (lw_at lw_m7 199 rfl) rfl
theorem q1740 : (Jvm.Cond.privateMethod ({ cls := "LosslessFabricModel", name := "isLink", desc := "(I)Z" } : Jvm.MethodName)) ∈ lw_tbl := lw_at lw_m7 200 rfl
theorem q1741 : (Jvm.Cond.instanceMethod ({ cls := "LosslessFabricModel", name := "isLink", desc := "(I)Z" } : Jvm.MethodName)) ∈ lw_all := lw_g (lw_at lw_m7 201 rfl) rfl
theorem q1742 : (Jvm.Cond.code ({ cls := "LosslessFabricModel", name := "isLink", desc := "(I)Z" } : Jvm.MethodName) prog_18_method_60_code (2 : Nat) (Option.some Jvm.ClassFile.FieldType.boolean)) ∈ lw_all := lw_g (lw_at lw_m7 202 rfl) rfl
theorem q1744 : (Jvm.Cond.instanceMethod ({ cls := "LosslessFabricModel", name := "size", desc := "(II)I" } : Jvm.MethodName)) ∈ lw_all := lw_g (lw_at lw_m7 204 rfl) rfl
theorem q1745 : (Jvm.Cond.selects "LosslessFabricModel" ({ cls := "LosslessFabricModel", name := "size", desc := "(II)I" } : Jvm.MethodName) ({ cls := "LosslessFabricModel", name := "size", desc := "(II)I" } : Jvm.MethodName)) ∈ lw_all := lw_g (lw_at lw_m7 205 rfl) rfl
theorem q1746 : (Jvm.Cond.code ({ cls := "LosslessFabricModel", name := "size", desc := "(II)I" } : Jvm.MethodName) prog_18_method_65_code (4 : Nat) (Option.some Jvm.ClassFile.FieldType.int)) ∈ lw_all := lw_g (lw_at lw_m7 206 rfl) rfl
theorem q1748 : (Jvm.Cond.instanceMethod ({ cls := "LosslessFabricModel", name := "link", desc := "(II)I" } : Jvm.MethodName)) ∈ lw_all := lw_g (lw_at lw_m7 208 rfl) rfl
theorem q1749 : (Jvm.Cond.selects "LosslessFabricModel" ({ cls := "LosslessFabricModel", name := "link", desc := "(II)I" } : Jvm.MethodName) ({ cls := "LosslessFabricModel", name := "link", desc := "(II)I" } : Jvm.MethodName)) ∈ lw_all := lw_g (lw_at lw_m7 209 rfl) rfl
theorem q1750 : (Jvm.Cond.code ({ cls := "LosslessFabricModel", name := "link", desc := "(II)I" } : Jvm.MethodName) prog_18_method_66_code (4 : Nat) (Option.some Jvm.ClassFile.FieldType.int)) ∈ lw_all := lw_g (lw_at lw_m7 210 rfl) rfl
theorem q1752 : (Jvm.Cond.instanceMethod ({ cls := "LosslessFabricModel", name := "queue", desc := "(II)I" } : Jvm.MethodName)) ∈ lw_all := lw_g (lw_at lw_m7 212 rfl) rfl
theorem q1753 : (Jvm.Cond.selects "LosslessFabricModel" ({ cls := "LosslessFabricModel", name := "queue", desc := "(II)I" } : Jvm.MethodName) ({ cls := "LosslessFabricModel", name := "queue", desc := "(II)I" } : Jvm.MethodName)) ∈ lw_all := lw_g (lw_at lw_m7 213 rfl) rfl
theorem q1754 : (Jvm.Cond.code ({ cls := "LosslessFabricModel", name := "queue", desc := "(II)I" } : Jvm.MethodName) prog_18_method_67_code (3 : Nat) (Option.some Jvm.ClassFile.FieldType.int)) ∈ lw_all := lw_g (lw_at lw_m7 214 rfl) rfl
theorem q1756 : (Jvm.Cond.instanceMethod ({ cls := "LosslessFabricModel", name := "flow", desc := "(II)I" } : Jvm.MethodName)) ∈ lw_all := lw_g (lw_at lw_m7 216 rfl) rfl
theorem q1757 : (Jvm.Cond.selects "LosslessFabricModel" ({ cls := "LosslessFabricModel", name := "flow", desc := "(II)I" } : Jvm.MethodName) ({ cls := "LosslessFabricModel", name := "flow", desc := "(II)I" } : Jvm.MethodName)) ∈ lw_all := lw_g (lw_at lw_m7 217 rfl) rfl
theorem q1758 : (Jvm.Cond.code ({ cls := "LosslessFabricModel", name := "flow", desc := "(II)I" } : Jvm.MethodName) prog_18_method_68_code (3 : Nat) (Option.some Jvm.ClassFile.FieldType.int)) ∈ lw_all := lw_g (lw_at lw_m7 218 rfl) rfl
theorem q1760 : (Jvm.Cond.instanceMethod ({ cls := "LosslessFabricModel", name := "path", desc := "(II)I" } : Jvm.MethodName)) ∈ lw_all := lw_g (lw_at lw_m7 220 rfl) rfl
theorem q1761 : (Jvm.Cond.selects "LosslessFabricModel" ({ cls := "LosslessFabricModel", name := "path", desc := "(II)I" } : Jvm.MethodName) ({ cls := "LosslessFabricModel", name := "path", desc := "(II)I" } : Jvm.MethodName)) ∈ lw_all := lw_g (lw_at lw_m7 221 rfl) rfl
theorem q1762 : (Jvm.Cond.code ({ cls := "LosslessFabricModel", name := "path", desc := "(II)I" } : Jvm.MethodName) prog_18_method_69_code (3 : Nat) (Option.some Jvm.ClassFile.FieldType.int)) ∈ lw_all := lw_g (lw_at lw_m7 222 rfl) rfl
theorem q1764 : (Jvm.Cond.instanceMethod ({ cls := "LosslessFabricModel", name := "feedback", desc := "(I)I" } : Jvm.MethodName)) ∈ lw_all := lw_g (lw_at lw_m7 224 rfl) rfl
theorem q1765 : (Jvm.Cond.selects "LosslessFabricModel" ({ cls := "LosslessFabricModel", name := "feedback", desc := "(I)I" } : Jvm.MethodName) ({ cls := "LosslessFabricModel", name := "feedback", desc := "(I)I" } : Jvm.MethodName)) ∈ lw_all := lw_g (lw_at lw_m7 225 rfl) rfl
theorem q1766 : (Jvm.Cond.code ({ cls := "LosslessFabricModel", name := "feedback", desc := "(I)I" } : Jvm.MethodName) prog_18_method_70_code (2 : Nat) (Option.some Jvm.ClassFile.FieldType.int)) ∈ lw_all := lw_g (lw_at lw_m7 226 rfl) rfl
theorem q1767 : (Jvm.Cond.constant "LosslessFabricModel" (322 : Nat) (-2147483648 : Int32)) ∈ lw_all := lw_g (lw_at lw_m7 227 rfl) rfl
theorem q1769 : (Jvm.Cond.instanceMethod ({ cls := "LosslessFabricModel", name := "notice", desc := "(I)I" } : Jvm.MethodName)) ∈ lw_all := lw_g (lw_at lw_m7 229 rfl) rfl
theorem q1770 : (Jvm.Cond.selects "LosslessFabricModel" ({ cls := "LosslessFabricModel", name := "notice", desc := "(I)I" } : Jvm.MethodName) ({ cls := "LosslessFabricModel", name := "notice", desc := "(I)I" } : Jvm.MethodName)) ∈ lw_all := lw_g (lw_at lw_m7 230 rfl) rfl
theorem q1771 : (Jvm.Cond.code ({ cls := "LosslessFabricModel", name := "notice", desc := "(I)I" } : Jvm.MethodName) prog_18_method_71_code (2 : Nat) (Option.some Jvm.ClassFile.FieldType.int)) ∈ lw_all := lw_g (lw_at lw_m7 231 rfl) rfl
theorem q1773 : (Jvm.Cond.instanceMethod ({ cls := "LosslessFabricModel", name := "headroom", desc := "(I)I" } : Jvm.MethodName)) ∈ lw_all := lw_g (lw_at lw_m7 233 rfl) rfl
theorem q1774 : (Jvm.Cond.selects "LosslessFabricModel" ({ cls := "LosslessFabricModel", name := "headroom", desc := "(I)I" } : Jvm.MethodName) ({ cls := "LosslessFabricModel", name := "headroom", desc := "(I)I" } : Jvm.MethodName)) ∈ lw_all := lw_g (lw_at lw_m7 234 rfl) rfl
theorem q1775 : (Jvm.Cond.code ({ cls := "LosslessFabricModel", name := "headroom", desc := "(I)I" } : Jvm.MethodName) prog_18_method_73_code (2 : Nat) (Option.some Jvm.ClassFile.FieldType.int)) ∈ lw_all := lw_g (lw_at lw_m7 235 rfl) rfl
theorem q1776 : (Jvm.Cond.methodLink "LosslessFabricModel" (323 : Nat) ({ cls := "LosslessFabricModel", name := "headroomOf", desc := "(I)I" } : Jvm.MethodName)) ∈ lw_all := lw_g (lw_at lw_m7 236 rfl) rfl
theorem q1777 : (Jvm.Cond.privateMethod ({ cls := "LosslessFabricModel", name := "headroomOf", desc := "(I)I" } : Jvm.MethodName)) ∈ lw_tbl := lw_at lw_m7 237 rfl
theorem q1778 : (Jvm.Cond.instanceMethod ({ cls := "LosslessFabricModel", name := "headroomOf", desc := "(I)I" } : Jvm.MethodName)) ∈ lw_all := lw_g (lw_at lw_m7 238 rfl) rfl
theorem q1779 : (Jvm.Cond.code ({ cls := "LosslessFabricModel", name := "headroomOf", desc := "(I)I" } : Jvm.MethodName) prog_18_method_72_code (2 : Nat) (Option.some Jvm.ClassFile.FieldType.int)) ∈ lw_all := lw_g (lw_at lw_m7 239 rfl) rfl
theorem q1781 : (Jvm.Cond.instanceMethod ({ cls := "LosslessFabricModel", name := "safe", desc := "()I" } : Jvm.MethodName)) ∈ lw_all := lw_g (lw_at lw_m8 1 rfl) rfl
theorem q1782 : (Jvm.Cond.selects "LosslessFabricModel" ({ cls := "LosslessFabricModel", name := "safe", desc := "()I" } : Jvm.MethodName) ({ cls := "LosslessFabricModel", name := "safe", desc := "()I" } : Jvm.MethodName)) ∈ lw_all := lw_g (lw_at lw_m8 2 rfl) rfl
theorem q1783 : (Jvm.Cond.code ({ cls := "LosslessFabricModel", name := "safe", desc := "()I" } : Jvm.MethodName) prog_18_method_74_code (3 : Nat) (Option.some Jvm.ClassFile.FieldType.int)) ∈ lw_all := lw_g (lw_at lw_m8 3 rfl) rfl
theorem q1785 : (Jvm.Cond.instanceMethod ({ cls := "LosslessFabricModel", name := "onWay", desc := "(I)I" } : Jvm.MethodName)) ∈ lw_all := lw_g (lw_at lw_m8 5 rfl) rfl
theorem q1786 : (Jvm.Cond.selects "LosslessFabricModel" ({ cls := "LosslessFabricModel", name := "onWay", desc := "(I)I" } : Jvm.MethodName) ({ cls := "LosslessFabricModel", name := "onWay", desc := "(I)I" } : Jvm.MethodName)) ∈ lw_all := lw_g (lw_at lw_m8 6 rfl) rfl
theorem q1787 : (Jvm.Cond.code ({ cls := "LosslessFabricModel", name := "onWay", desc := "(I)I" } : Jvm.MethodName) prog_18_method_75_code (2 : Nat) (Option.some Jvm.ClassFile.FieldType.int)) ∈ lw_all := lw_g (lw_at lw_m8 7 rfl) rfl
theorem q1789 : (Jvm.Cond.instanceMethod ({ cls := "LosslessFabricModel", name := "waits", desc := "(I)I" } : Jvm.MethodName)) ∈ lw_all := lw_g (lw_at lw_m8 9 rfl) rfl
theorem q1790 : (Jvm.Cond.selects "LosslessFabricModel" ({ cls := "LosslessFabricModel", name := "waits", desc := "(I)I" } : Jvm.MethodName) ({ cls := "LosslessFabricModel", name := "waits", desc := "(I)I" } : Jvm.MethodName)) ∈ lw_all := lw_g (lw_at lw_m8 10 rfl) rfl
theorem q1791 : (Jvm.Cond.code ({ cls := "LosslessFabricModel", name := "waits", desc := "(I)I" } : Jvm.MethodName) prog_18_method_79_code (2 : Nat) (Option.some Jvm.ClassFile.FieldType.int)) ∈ lw_all := lw_g (lw_at lw_m8 11 rfl) rfl
theorem q1792 : (Jvm.Cond.methodLink "LosslessFabricModel" (336 : Nat) ({ cls := "LosslessFabricModel", name := "laysWaits", desc := "(Z)V" } : Jvm.MethodName)) ∈ lw_all := lw_g (lw_at lw_m8 12 rfl) rfl
theorem q1793 : (Jvm.Cond.privateMethod ({ cls := "LosslessFabricModel", name := "laysWaits", desc := "(Z)V" } : Jvm.MethodName)) ∈ lw_tbl := lw_at lw_m8 13 rfl
theorem q1794 : (Jvm.Cond.instanceMethod ({ cls := "LosslessFabricModel", name := "laysWaits", desc := "(Z)V" } : Jvm.MethodName)) ∈ lw_all := lw_g (lw_at lw_m8 14 rfl) rfl
theorem q1795 : (Jvm.Cond.code ({ cls := "LosslessFabricModel", name := "laysWaits", desc := "(Z)V" } : Jvm.MethodName) prog_18_method_78_code (5 : Nat) (Option.none : Option Jvm.ClassFile.FieldType)) ∈ lw_all := lw_g (lw_at lw_m8 15 rfl) rfl
theorem q1796 : (Jvm.Cond.methodLink "LosslessFabricModel" (329 : Nat) ({ cls := "LosslessFabricModel", name := "nextOf", desc := "(II)I" } : Jvm.MethodName)) ∈ lw_all := lw_g (lw_at lw_m8 16 rfl) rfl
theorem q1797 : (Jvm.Cond.privateMethod ({ cls := "LosslessFabricModel", name := "nextOf", desc := "(II)I" } : Jvm.MethodName)) ∈ lw_tbl := lw_at lw_m8 17 rfl
theorem q1798 : (Jvm.Cond.instanceMethod ({ cls := "LosslessFabricModel", name := "nextOf", desc := "(II)I" } : Jvm.MethodName)) ∈ lw_all := lw_g (lw_at lw_m8 18 rfl) rfl
theorem q1799 : (Jvm.Cond.code ({ cls := "LosslessFabricModel", name := "nextOf", desc := "(II)I" } : Jvm.MethodName) prog_18_method_76_code (4 : Nat) (Option.some Jvm.ClassFile.FieldType.int)) ∈ lw_all := lw_g (lw_at lw_m8 19 rfl) rfl
theorem q1800 : (Jvm.Cond.methodLink "LosslessFabricModel" (332 : Nat) ({ cls := "LosslessFabricModel", name := "isWaiting", desc := "(III)Z" } : Jvm.MethodName)) ∈ lw_all := lw_g (lw_at lw_m8 20 rfl) rfl
theorem q1801 : (Jvm.Cond.privateMethod ({ cls := "LosslessFabricModel", name := "isWaiting", desc := "(III)Z" } : Jvm.MethodName)) ∈ lw_tbl := lw_at lw_m8 21 rfl
theorem q1802 : (Jvm.Cond.instanceMethod ({ cls := "LosslessFabricModel", name := "isWaiting", desc := "(III)Z" } : Jvm.MethodName)) ∈ lw_all := lw_g (lw_at lw_m8 22 rfl) rfl
theorem q1803 : (Jvm.Cond.code ({ cls := "LosslessFabricModel", name := "isWaiting", desc := "(III)Z" } : Jvm.MethodName) prog_18_method_77_code (4 : Nat) (Option.some Jvm.ClassFile.FieldType.boolean)) ∈ lw_all := lw_g (lw_at lw_m8 23 rfl) rfl
theorem q1804 : (Jvm.Cond.methodLink "LosslessFabricModel" (326 : Nat) ({ cls := "LosslessFabricModel", name := "asked", desc := "(I)Z" } : Jvm.MethodName)) ∈ lw_all := lw_g (lw_at lw_m8 24 rfl) rfl
theorem q1805 : (Jvm.Cond.privateMethod ({ cls := "LosslessFabricModel", name := "asked", desc := "(I)Z" } : Jvm.MethodName)) ∈ lw_tbl := lw_at lw_m8 25 rfl
theorem q1806 : (Jvm.Cond.instanceMethod ({ cls := "LosslessFabricModel", name := "asked", desc := "(I)Z" } : Jvm.MethodName)) ∈ lw_all := lw_g (lw_at lw_m8 26 rfl) rfl
theorem q1807 : (Jvm.Cond.code ({ cls := "LosslessFabricModel", name := "asked", desc := "(I)Z" } : Jvm.MethodName) prog_18_method_44_code (2 : Nat) (Option.some Jvm.ClassFile.FieldType.boolean)) ∈ lw_all := lw_g (lw_at lw_m8 27 rfl) rfl
theorem q1809 : (Jvm.Cond.instanceMethod ({ cls := "LosslessFabricModel", name := "inCycles", desc := "(I)I" } : Jvm.MethodName)) ∈ lw_all := lw_g (lw_at lw_m8 29 rfl) rfl
theorem q1810 : (Jvm.Cond.selects "LosslessFabricModel" ({ cls := "LosslessFabricModel", name := "inCycles", desc := "(I)I" } : Jvm.MethodName) ({ cls := "LosslessFabricModel", name := "inCycles", desc := "(I)I" } : Jvm.MethodName)) ∈ lw_all := lw_g (lw_at lw_m8 30 rfl) rfl
theorem q1811 : (Jvm.Cond.code ({ cls := "LosslessFabricModel", name := "inCycles", desc := "(I)I" } : Jvm.MethodName) prog_18_method_82_code (2 : Nat) (Option.some Jvm.ClassFile.FieldType.int)) ∈ lw_all := lw_g (lw_at lw_m8 31 rfl) rfl
theorem q1812 : (Jvm.Cond.methodLink "LosslessFabricModel" (343 : Nat) ({ cls := "LosslessFabricModel", name := "inCyclesNow", desc := "()I" } : Jvm.MethodName)) ∈ lw_all := lw_g (lw_at lw_m8 32 rfl) rfl
theorem q1813 : (Jvm.Cond.privateMethod ({ cls := "LosslessFabricModel", name := "inCyclesNow", desc := "()I" } : Jvm.MethodName)) ∈ lw_tbl := lw_at lw_m8 33 rfl
theorem q1814 : (Jvm.Cond.instanceMethod ({ cls := "LosslessFabricModel", name := "inCyclesNow", desc := "()I" } : Jvm.MethodName)) ∈ lw_all := lw_g (lw_at lw_m8 34 rfl) rfl
theorem q1815 : (Jvm.Cond.code ({ cls := "LosslessFabricModel", name := "inCyclesNow", desc := "()I" } : Jvm.MethodName) prog_18_method_81_code (3 : Nat) (Option.some Jvm.ClassFile.FieldType.int)) ∈ lw_all := lw_g (lw_at lw_m8 35 rfl) rfl
theorem q1816 : (Jvm.Cond.methodLink "LosslessFabricModel" (340 : Nat) ({ cls := "LosslessFabricModel", name := "laysSteps", desc := "(I)V" } : Jvm.MethodName)) ∈ lw_all := lw_g (lw_at lw_m8 36 rfl) rfl
theorem q1817 : (Jvm.Cond.privateMethod ({ cls := "LosslessFabricModel", name := "laysSteps", desc := "(I)V" } : Jvm.MethodName)) ∈ lw_tbl := lw_at lw_m8 37 rfl
theorem q1818 : (Jvm.Cond.instanceMethod ({ cls := "LosslessFabricModel", name := "laysSteps", desc := "(I)V" } : Jvm.MethodName)) ∈ lw_all := lw_g (lw_at lw_m8 38 rfl) rfl
theorem q1819 : (Jvm.Cond.code ({ cls := "LosslessFabricModel", name := "laysSteps", desc := "(I)V" } : Jvm.MethodName) prog_18_method_80_code (6 : Nat) (Option.none : Option Jvm.ClassFile.FieldType)) ∈ lw_all := lw_g (lw_at lw_m8 39 rfl) rfl
theorem q1821 : (Jvm.Cond.instanceMethod ({ cls := "LosslessFabricModel", name := "cycle", desc := "(I)I" } : Jvm.MethodName)) ∈ lw_all := lw_g (lw_at lw_m8 41 rfl) rfl
theorem q1822 : (Jvm.Cond.selects "LosslessFabricModel" ({ cls := "LosslessFabricModel", name := "cycle", desc := "(I)I" } : Jvm.MethodName) ({ cls := "LosslessFabricModel", name := "cycle", desc := "(I)I" } : Jvm.MethodName)) ∈ lw_all := lw_g (lw_at lw_m8 42 rfl) rfl
theorem q1823 : (Jvm.Cond.code ({ cls := "LosslessFabricModel", name := "cycle", desc := "(I)I" } : Jvm.MethodName) prog_18_method_84_code (2 : Nat) (Option.some Jvm.ClassFile.FieldType.int)) ∈ lw_all := lw_g (lw_at lw_m8 43 rfl) rfl
theorem q1824 : (Jvm.Cond.methodLink "LosslessFabricModel" (349 : Nat) ({ cls := "LosslessFabricModel", name := "laysCycle", desc := "()V" } : Jvm.MethodName)) ∈ lw_all := lw_g (lw_at lw_m8 44 rfl) rfl
theorem q1825 : (Jvm.Cond.privateMethod ({ cls := "LosslessFabricModel", name := "laysCycle", desc := "()V" } : Jvm.MethodName)) ∈ lw_tbl := lw_at lw_m8 45 rfl
theorem q1826 : (Jvm.Cond.instanceMethod ({ cls := "LosslessFabricModel", name := "laysCycle", desc := "()V" } : Jvm.MethodName)) ∈ lw_all := lw_g (lw_at lw_m8 46 rfl) rfl
theorem q1827 : (Jvm.Cond.code ({ cls := "LosslessFabricModel", name := "laysCycle", desc := "()V" } : Jvm.MethodName) prog_18_method_83_code (6 : Nat) (Option.none : Option Jvm.ClassFile.FieldType)) ∈ lw_all := lw_g (lw_at lw_m8 47 rfl) rfl
theorem q1829 : (Jvm.Cond.instanceMethod ({ cls := "LosslessFabricModel", name := "witness", desc := "(I)I" } : Jvm.MethodName)) ∈ lw_all := lw_g (lw_at lw_m8 49 rfl) rfl
theorem q1830 : (Jvm.Cond.selects "LosslessFabricModel" ({ cls := "LosslessFabricModel", name := "witness", desc := "(I)I" } : Jvm.MethodName) ({ cls := "LosslessFabricModel", name := "witness", desc := "(I)I" } : Jvm.MethodName)) ∈ lw_all := lw_g (lw_at lw_m8 50 rfl) rfl
theorem q1831 : (Jvm.Cond.code ({ cls := "LosslessFabricModel", name := "witness", desc := "(I)I" } : Jvm.MethodName) prog_18_method_85_code (4 : Nat) (Option.some Jvm.ClassFile.FieldType.int)) ∈ lw_all := lw_g (lw_at lw_m8 51 rfl) rfl
theorem q1833 : (Jvm.Cond.instanceMethod ({ cls := "LosslessFabricModel", name := "fair", desc := "(IZ)J" } : Jvm.MethodName)) ∈ lw_all := lw_g (lw_at lw_m8 53 rfl) rfl
theorem q1834 : (Jvm.Cond.selects "LosslessFabricModel" ({ cls := "LosslessFabricModel", name := "fair", desc := "(IZ)J" } : Jvm.MethodName) ({ cls := "LosslessFabricModel", name := "fair", desc := "(IZ)J" } : Jvm.MethodName)) ∈ lw_all := lw_g (lw_at lw_m8 54 rfl) rfl
theorem q1835 : (Jvm.Cond.code ({ cls := "LosslessFabricModel", name := "fair", desc := "(IZ)J" } : Jvm.MethodName) prog_18_method_91_code (3 : Nat) (Option.some Jvm.ClassFile.FieldType.long)) ∈ lw_all := lw_g (lw_at lw_m8 55 rfl) rfl
theorem q1836 : (Jvm.Cond.constantLong "LosslessFabricModel" (373 : Nat) (-1 : Int64)) ∈ lw_all := lw_g (lw_at lw_m8 56 rfl) rfl
theorem q1837 : (Jvm.Cond.methodLink "LosslessFabricModel" (375 : Nat) ({ cls := "LosslessFabricModel", name := "laysFair", desc := "()V" } : Jvm.MethodName)) ∈ lw_all := lw_g (lw_at lw_m8 57 rfl) rfl
theorem q1838 : (Jvm.Cond.privateMethod ({ cls := "LosslessFabricModel", name := "laysFair", desc := "()V" } : Jvm.MethodName)) ∈ lw_tbl := lw_at lw_m8 58 rfl
theorem q1839 : (Jvm.Cond.instanceMethod ({ cls := "LosslessFabricModel", name := "laysFair", desc := "()V" } : Jvm.MethodName)) ∈ lw_all := lw_g (lw_at lw_m8 59 rfl) rfl
theorem q1840 : (Jvm.Cond.code ({ cls := "LosslessFabricModel", name := "laysFair", desc := "()V" } : Jvm.MethodName) prog_18_method_89_code (8 : Nat) (Option.none : Option Jvm.ClassFile.FieldType)) ∈ lw_all := lw_g (lw_at lw_m8 60 rfl) rfl
theorem q1841 : (Jvm.Cond.methodLink "LosslessFabricModel" (367 : Nat) ({ cls := "LosslessFabricModel", name := "leftOf", desc := "(I)I" } : Jvm.MethodName)) ∈ lw_all := lw_g (lw_at lw_m8 61 rfl) rfl
theorem q1842 : (Jvm.Cond.privateMethod ({ cls := "LosslessFabricModel", name := "leftOf", desc := "(I)I" } : Jvm.MethodName)) ∈ lw_tbl := lw_at lw_m8 62 rfl
theorem q1843 : (Jvm.Cond.instanceMethod ({ cls := "LosslessFabricModel", name := "leftOf", desc := "(I)I" } : Jvm.MethodName)) ∈ lw_all := lw_g (lw_at lw_m8 63 rfl) rfl
theorem q1844 : (Jvm.Cond.code ({ cls := "LosslessFabricModel", name := "leftOf", desc := "(I)I" } : Jvm.MethodName) prog_18_method_88_code (4 : Nat) (Option.some Jvm.ClassFile.FieldType.int)) ∈ lw_all := lw_g (lw_at lw_m8 64 rfl) rfl
theorem q1845 : (Jvm.Cond.methodLink "LosslessFabricModel" (363 : Nat) ({ cls := "LosslessFabricModel", name := "tells", desc := "(JJ)V" } : Jvm.MethodName)) ∈ lw_all := lw_g (lw_at lw_m8 65 rfl) rfl
theorem q1846 : (Jvm.Cond.privateMethod ({ cls := "LosslessFabricModel", name := "tells", desc := "(JJ)V" } : Jvm.MethodName)) ∈ lw_tbl := lw_at lw_m8 66 rfl
theorem q1847 : (Jvm.Cond.instanceMethod ({ cls := "LosslessFabricModel", name := "tells", desc := "(JJ)V" } : Jvm.MethodName)) ∈ lw_all := lw_g (lw_at lw_m8 67 rfl) rfl
theorem q1848 : (Jvm.Cond.code ({ cls := "LosslessFabricModel", name := "tells", desc := "(JJ)V" } : Jvm.MethodName) prog_18_method_87_code (7 : Nat) (Option.none : Option Jvm.ClassFile.FieldType)) ∈ lw_all := lw_g (lw_at lw_m8 68 rfl) rfl
theorem q1849 : (Jvm.Cond.methodLink "LosslessFabricModel" (352 : Nat) ({ cls := "LosslessFabricModel", name := "divisor", desc := "(JJ)J" } : Jvm.MethodName)) ∈ lw_all := lw_g (lw_at lw_m8 69 rfl) rfl
theorem q1850 : (Jvm.Cond.static ({ cls := "LosslessFabricModel", name := "divisor", desc := "(JJ)J" } : Jvm.MethodName)) ∈ lw_all := lw_g (lw_at lw_m8 70 rfl) rfl
theorem q1851 : (Jvm.Cond.code ({ cls := "LosslessFabricModel", name := "divisor", desc := "(JJ)J" } : Jvm.MethodName) prog_18_method_86_code (10 : Nat) (Option.some Jvm.ClassFile.FieldType.long)) ∈ lw_all := lw_g (lw_at lw_m8 71 rfl) rfl
theorem q1852 : (Jvm.Cond.methodLink "LosslessFabricModel" (370 : Nat) ({ cls := "LosslessFabricModel", name := "stops", desc := "(JJ)V" } : Jvm.MethodName)) ∈ lw_all := lw_g (lw_at lw_m8 72 rfl) rfl
theorem q1853 : (Jvm.Cond.privateMethod ({ cls := "LosslessFabricModel", name := "stops", desc := "(JJ)V" } : Jvm.MethodName)) ∈ lw_tbl := lw_at lw_m8 73 rfl
theorem q1854 : (Jvm.Cond.instanceMethod ({ cls := "LosslessFabricModel", name := "stops", desc := "(JJ)V" } : Jvm.MethodName)) ∈ lw_all := lw_g (lw_at lw_m8 74 rfl) rfl
theorem q1855 : (Jvm.Cond.code ({ cls := "LosslessFabricModel", name := "stops", desc := "(JJ)V" } : Jvm.MethodName) prog_18_method_90_code (9 : Nat) (Option.none : Option Jvm.ClassFile.FieldType)) ∈ lw_all := lw_g (lw_at lw_m8 75 rfl) rfl
theorem q1857 : (Jvm.Cond.instanceMethod ({ cls := "LosslessFabricModel", name := "full", desc := "()I" } : Jvm.MethodName)) ∈ lw_all := lw_g (lw_at lw_m8 77 rfl) rfl
theorem q1858 : (Jvm.Cond.selects "LosslessFabricModel" ({ cls := "LosslessFabricModel", name := "full", desc := "()I" } : Jvm.MethodName) ({ cls := "LosslessFabricModel", name := "full", desc := "()I" } : Jvm.MethodName)) ∈ lw_all := lw_g (lw_at lw_m8 78 rfl) rfl
theorem q1859 : (Jvm.Cond.code ({ cls := "LosslessFabricModel", name := "full", desc := "()I" } : Jvm.MethodName) prog_18_method_92_code (3 : Nat) (Option.some Jvm.ClassFile.FieldType.int)) ∈ lw_all := lw_g (lw_at lw_m8 79 rfl) rfl
theorem q1861 : (Jvm.Cond.instanceMethod ({ cls := "LosslessFabricModel", name := "ahead", desc := "(III)I" } : Jvm.MethodName)) ∈ lw_all := lw_g (lw_at lw_m8 81 rfl) rfl
theorem q1862 : (Jvm.Cond.selects "LosslessFabricModel" ({ cls := "LosslessFabricModel", name := "ahead", desc := "(III)I" } : Jvm.MethodName) ({ cls := "LosslessFabricModel", name := "ahead", desc := "(III)I" } : Jvm.MethodName)) ∈ lw_all := lw_g (lw_at lw_m8 82 rfl) rfl
theorem q1863 : (Jvm.Cond.code ({ cls := "LosslessFabricModel", name := "ahead", desc := "(III)I" } : Jvm.MethodName) prog_18_method_94_code (7 : Nat) (Option.some Jvm.ClassFile.FieldType.int)) ∈ lw_all := lw_g (lw_at lw_m8 83 rfl) rfl
theorem q1864 : (Jvm.Cond.methodLink "LosslessFabricModel" (378 : Nat) ({ cls := "LosslessFabricModel", name := "isFar", desc := "(I)Z" } : Jvm.MethodName)) ∈ lw_all := lw_g (lw_at lw_m8 84 rfl) rfl
theorem q1865 : (Jvm.Cond.static ({ cls := "LosslessFabricModel", name := "isFar", desc := "(I)Z" } : Jvm.MethodName)) ∈ lw_all := lw_g (lw_at lw_m8 85 rfl) rfl
theorem q1866 : (Jvm.Cond.code ({ cls := "LosslessFabricModel", name := "isFar", desc := "(I)Z" } : Jvm.MethodName) prog_18_method_93_code (1 : Nat) (Option.some Jvm.ClassFile.FieldType.boolean)) ∈ lw_all := lw_g (lw_at lw_m8 86 rfl) rfl
theorem q1868 : (Jvm.Cond.instanceMethod ({ cls := "LosslessFabricModel", name := "flows", desc := "(III)I" } : Jvm.MethodName)) ∈ lw_all := lw_g (lw_at lw_m8 88 rfl) rfl
theorem q1869 : (Jvm.Cond.selects "LosslessFabricModel" ({ cls := "LosslessFabricModel", name := "flows", desc := "(III)I" } : Jvm.MethodName) ({ cls := "LosslessFabricModel", name := "flows", desc := "(III)I" } : Jvm.MethodName)) ∈ lw_all := lw_g (lw_at lw_m8 89 rfl) rfl
theorem q1870 : (Jvm.Cond.code ({ cls := "LosslessFabricModel", name := "flows", desc := "(III)I" } : Jvm.MethodName) prog_18_method_95_code (7 : Nat) (Option.some Jvm.ClassFile.FieldType.int)) ∈ lw_all := lw_g (lw_at lw_m8 90 rfl) rfl
theorem q1872 : (Jvm.Cond.instanceMethod ({ cls := "LosslessFabricModel", name := "stalls", desc := "()I" } : Jvm.MethodName)) ∈ lw_all := lw_g (lw_at lw_m8 92 rfl) rfl
theorem q1873 : (Jvm.Cond.selects "LosslessFabricModel" ({ cls := "LosslessFabricModel", name := "stalls", desc := "()I" } : Jvm.MethodName) ({ cls := "LosslessFabricModel", name := "stalls", desc := "()I" } : Jvm.MethodName)) ∈ lw_all := lw_g (lw_at lw_m8 93 rfl) rfl
theorem q1874 : (Jvm.Cond.code ({ cls := "LosslessFabricModel", name := "stalls", desc := "()I" } : Jvm.MethodName) prog_18_method_97_code (3 : Nat) (Option.some Jvm.ClassFile.FieldType.int)) ∈ lw_all := lw_g (lw_at lw_m8 94 rfl) rfl
theorem q1875 : (Jvm.Cond.methodLink "LosslessFabricModel" (381 : Nat) ({ cls := "LosslessFabricModel", name := "isStalled", desc := "()Z" } : Jvm.MethodName)) ∈ lw_all := lw_g (lw_at lw_m8 95 rfl) rfl
theorem q1876 : (Jvm.Cond.privateMethod ({ cls := "LosslessFabricModel", name := "isStalled", desc := "()Z" } : Jvm.MethodName)) ∈ lw_tbl := lw_at lw_m8 96 rfl
theorem q1877 : (Jvm.Cond.instanceMethod ({ cls := "LosslessFabricModel", name := "isStalled", desc := "()Z" } : Jvm.MethodName)) ∈ lw_all := lw_g (lw_at lw_m8 97 rfl) rfl
theorem q1878 : (Jvm.Cond.code ({ cls := "LosslessFabricModel", name := "isStalled", desc := "()Z" } : Jvm.MethodName) prog_18_method_96_code (1 : Nat) (Option.some Jvm.ClassFile.FieldType.boolean)) ∈ lw_all := lw_g (lw_at lw_m8 98 rfl) rfl
theorem q1880 : (Jvm.Cond.instanceMethod ({ cls := "LosslessFabricModel", name := "quiet", desc := "()I" } : Jvm.MethodName)) ∈ lw_all := lw_g (lw_at lw_m8 100 rfl) rfl
theorem q1881 : (Jvm.Cond.selects "LosslessFabricModel" ({ cls := "LosslessFabricModel", name := "quiet", desc := "()I" } : Jvm.MethodName) ({ cls := "LosslessFabricModel", name := "quiet", desc := "()I" } : Jvm.MethodName)) ∈ lw_all := lw_g (lw_at lw_m8 101 rfl) rfl
theorem q1882 : (Jvm.Cond.code ({ cls := "LosslessFabricModel", name := "quiet", desc := "()I" } : Jvm.MethodName) prog_18_method_99_code (3 : Nat) (Option.some Jvm.ClassFile.FieldType.int)) ∈ lw_all := lw_g (lw_at lw_m8 102 rfl) rfl
theorem q1883 : (Jvm.Cond.methodLink "LosslessFabricModel" (385 : Nat) ({ cls := "LosslessFabricModel", name := "isEmpty", desc := "()Z" } : Jvm.MethodName)) ∈ lw_all := lw_g (lw_at lw_m8 103 rfl) rfl
theorem q1884 : (Jvm.Cond.privateMethod ({ cls := "LosslessFabricModel", name := "isEmpty", desc := "()Z" } : Jvm.MethodName)) ∈ lw_tbl := lw_at lw_m8 104 rfl
theorem q1885 : (Jvm.Cond.instanceMethod ({ cls := "LosslessFabricModel", name := "isEmpty", desc := "()Z" } : Jvm.MethodName)) ∈ lw_all := lw_g (lw_at lw_m8 105 rfl) rfl
theorem q1886 : (Jvm.Cond.code ({ cls := "LosslessFabricModel", name := "isEmpty", desc := "()Z" } : Jvm.MethodName) prog_18_method_98_code (2 : Nat) (Option.some Jvm.ClassFile.FieldType.boolean)) ∈ lw_all := lw_g (lw_at lw_m8 106 rfl) rfl
theorem q1888 : (Jvm.Cond.instanceMethod ({ cls := "LosslessFabricModel", name := "worst", desc := "(I)I" } : Jvm.MethodName)) ∈ lw_all := lw_g (lw_at lw_m8 108 rfl) rfl
theorem q1889 : (Jvm.Cond.selects "LosslessFabricModel" ({ cls := "LosslessFabricModel", name := "worst", desc := "(I)I" } : Jvm.MethodName) ({ cls := "LosslessFabricModel", name := "worst", desc := "(I)I" } : Jvm.MethodName)) ∈ lw_all := lw_g (lw_at lw_m8 109 rfl) rfl
theorem q1890 : (Jvm.Cond.code ({ cls := "LosslessFabricModel", name := "worst", desc := "(I)I" } : Jvm.MethodName) prog_18_method_101_code (7 : Nat) (Option.some Jvm.ClassFile.FieldType.int)) ∈ lw_all := lw_g (lw_at lw_m8 110 rfl) rfl
theorem q1891 : (Jvm.Cond.methodLink "LosslessFabricModel" (388 : Nat) ({ cls := "LosslessFabricModel", name := "sumOf", desc := "(I)I" } : Jvm.MethodName)) ∈ lw_all := lw_g (lw_at lw_m8 111 rfl) rfl
theorem q1892 : (Jvm.Cond.privateMethod ({ cls := "LosslessFabricModel", name := "sumOf", desc := "(I)I" } : Jvm.MethodName)) ∈ lw_tbl := lw_at lw_m8 112 rfl
theorem q1893 : (Jvm.Cond.instanceMethod ({ cls := "LosslessFabricModel", name := "sumOf", desc := "(I)I" } : Jvm.MethodName)) ∈ lw_all := lw_g (lw_at lw_m8 113 rfl) rfl
theorem q1894 : (Jvm.Cond.code ({ cls := "LosslessFabricModel", name := "sumOf", desc := "(I)I" } : Jvm.MethodName) prog_18_method_100_code (4 : Nat) (Option.some Jvm.ClassFile.FieldType.int)) ∈ lw_all := lw_g (lw_at lw_m8 114 rfl) rfl
theorem q1896 : (Jvm.Cond.instanceMethod ({ cls := "LosslessFabricModel", name := "leastSize", desc := "(II)I" } : Jvm.MethodName)) ∈ lw_all := lw_g (lw_at lw_m8 116 rfl) rfl
theorem q1897 : (Jvm.Cond.selects "LosslessFabricModel" ({ cls := "LosslessFabricModel", name := "leastSize", desc := "(II)I" } : Jvm.MethodName) ({ cls := "LosslessFabricModel", name := "leastSize", desc := "(II)I" } : Jvm.MethodName)) ∈ lw_all := lw_g (lw_at lw_m8 117 rfl) rfl
theorem q1898 : (Jvm.Cond.code ({ cls := "LosslessFabricModel", name := "leastSize", desc := "(II)I" } : Jvm.MethodName) prog_18_method_102_code (8 : Nat) (Option.some Jvm.ClassFile.FieldType.int)) ∈ lw_all := lw_g (lw_at lw_m8 118 rfl) rfl
theorem q1900 : (Jvm.Cond.instanceMethod ({ cls := "LosslessFabricModel", name := "chance", desc := "(IIII)I" } : Jvm.MethodName)) ∈ lw_all := lw_g (lw_at lw_m8 120 rfl) rfl
theorem q1901 : (Jvm.Cond.selects "LosslessFabricModel" ({ cls := "LosslessFabricModel", name := "chance", desc := "(IIII)I" } : Jvm.MethodName) ({ cls := "LosslessFabricModel", name := "chance", desc := "(IIII)I" } : Jvm.MethodName)) ∈ lw_all := lw_g (lw_at lw_m8 121 rfl) rfl
theorem q1902 : (Jvm.Cond.code ({ cls := "LosslessFabricModel", name := "chance", desc := "(IIII)I" } : Jvm.MethodName) prog_18_method_105_code (9 : Nat) (Option.some Jvm.ClassFile.FieldType.int)) ∈ lw_all := lw_g (lw_at lw_m8 122 rfl) rfl
theorem q1903 : (Jvm.Cond.methodLink "LosslessFabricModel" (396 : Nat) ({ cls := "LosslessFabricModel", name := "lostAll", desc := "()I" } : Jvm.MethodName)) ∈ lw_all := lw_g (lw_at lw_m8 123 rfl) rfl
theorem q1904 : (Jvm.Cond.privateMethod ({ cls := "LosslessFabricModel", name := "lostAll", desc := "()I" } : Jvm.MethodName)) ∈ lw_tbl := lw_at lw_m8 124 rfl
theorem q1905 : (Jvm.Cond.instanceMethod ({ cls := "LosslessFabricModel", name := "lostAll", desc := "()I" } : Jvm.MethodName)) ∈ lw_all := lw_g (lw_at lw_m8 125 rfl) rfl
theorem q1906 : (Jvm.Cond.code ({ cls := "LosslessFabricModel", name := "lostAll", desc := "()I" } : Jvm.MethodName) prog_18_method_104_code (3 : Nat) (Option.some Jvm.ClassFile.FieldType.int)) ∈ lw_all := lw_g (lw_at lw_m8 126 rfl) rfl
theorem q1907 : (Jvm.Cond.methodLink "LosslessFabricModel" (399 : Nat) ({ cls := "LosslessFabricModel", name := "draw", desc := "(I)I" } : Jvm.MethodName)) ∈ lw_all := lw_g (lw_at lw_m8 127 rfl) rfl
theorem q1908 : (Jvm.Cond.privateMethod ({ cls := "LosslessFabricModel", name := "draw", desc := "(I)I" } : Jvm.MethodName)) ∈ lw_tbl := lw_at lw_m8 128 rfl
theorem q1909 : (Jvm.Cond.instanceMethod ({ cls := "LosslessFabricModel", name := "draw", desc := "(I)I" } : Jvm.MethodName)) ∈ lw_all := lw_g (lw_at lw_m8 129 rfl) rfl
theorem q1910 : (Jvm.Cond.code ({ cls := "LosslessFabricModel", name := "draw", desc := "(I)I" } : Jvm.MethodName) prog_18_method_103_code (2 : Nat) (Option.some Jvm.ClassFile.FieldType.int)) ∈ lw_all := lw_g (lw_at lw_m8 130 rfl) rfl
theorem q1911 : (Jvm.Cond.constant "LosslessFabricModel" (394 : Nat) (1103515245 : Int32)) ∈ lw_all := lw_g (lw_at lw_m8 131 rfl) rfl
theorem q1912 : (Jvm.Cond.constant "LosslessFabricModel" (395 : Nat) (2147483647 : Int32)) ∈ lw_all := lw_g (lw_at lw_m8 132 rfl) rfl
theorem q1914 : (Jvm.Cond.instanceMethod ({ cls := "LosslessFabricModel", name := "count", desc := "(I)I" } : Jvm.MethodName)) ∈ lw_all := lw_g (lw_at lw_m8 134 rfl) rfl
theorem q1915 : (Jvm.Cond.selects "LosslessFabricModel" ({ cls := "LosslessFabricModel", name := "count", desc := "(I)I" } : Jvm.MethodName) ({ cls := "LosslessFabricModel", name := "count", desc := "(I)I" } : Jvm.MethodName)) ∈ lw_all := lw_g (lw_at lw_m8 135 rfl) rfl
theorem q1916 : (Jvm.Cond.code ({ cls := "LosslessFabricModel", name := "count", desc := "(I)I" } : Jvm.MethodName) prog_18_method_107_code (2 : Nat) (Option.some Jvm.ClassFile.FieldType.int)) ∈ lw_all := lw_g (lw_at lw_m8 136 rfl) rfl
theorem q1917 : (Jvm.Cond.methodLink "LosslessFabricModel" (402 : Nat) ({ cls := "LosslessFabricModel", name := "askedMany", desc := "()I" } : Jvm.MethodName)) ∈ lw_all := lw_g (lw_at lw_m8 137 rfl) rfl
theorem q1918 : (Jvm.Cond.privateMethod ({ cls := "LosslessFabricModel", name := "askedMany", desc := "()I" } : Jvm.MethodName)) ∈ lw_tbl := lw_at lw_m8 138 rfl
theorem q1919 : (Jvm.Cond.instanceMethod ({ cls := "LosslessFabricModel", name := "askedMany", desc := "()I" } : Jvm.MethodName)) ∈ lw_all := lw_g (lw_at lw_m8 139 rfl) rfl
theorem q1920 : (Jvm.Cond.code ({ cls := "LosslessFabricModel", name := "askedMany", desc := "()I" } : Jvm.MethodName) prog_18_method_106_code (3 : Nat) (Option.some Jvm.ClassFile.FieldType.int)) ∈ lw_all := lw_g (lw_at lw_m8 140 rfl) rfl
theorem q1928 : (Jvm.Cond.castable "LosslessFabricModel" "java/lang/Object") ∈ lw_tbl := lw_at lw_m8 148 rfl
theorem in_X6 : ∀ w ∈ wsX60, w ∈ lw_all := lw_in wsX60 [1425, 1427, 1429, 1431, 1433, 1435, 1437, 1439, 1441, 1443, 1445, 1447, 1449, 1451, 1453, 1455, 1457, 1459, 1461, 1463, 1465, 1467, 1469, 1471, 1473, 1475, 1477, 1479, 1481, 1483, 1485, 1487, 1489, 1491, 1493, 1495, 1497, 1499, 1501, 1503, 1505, 1507, 1509, 1511, 1513, 1515, 1517, 1519, 1521] (by decide +kernel) (by decide +kernel)
