/-! LosslessFabric -/
set_option maxRecDepth 100000
def RX1 : String := "LosslessFabric"
def TX1 : u_T := fun k => match k with
  | 0 => ("LosslessFabric", "tape", "[B", true)
  | 1 => ("LosslessFabric", "taped", "I", false)
  | 2 => ("LosslessFabric", "fault", "I", false)
  | 3 => ("LosslessFabric", "faultPlace", "I", false)
  | 4 => ("LosslessFabric", "told", "LLosslessFabric$Told;", false)
  | 5 => ("LosslessFabric", "ready", "[I", true)
  | 6 => ("LosslessFabric", "gives", "[I", true)
  | 7 => ("LosslessFabric", "comes", "[I", true)
  | 8 => ("LosslessFabric", "notices", "[LLosslessFabric$Notice;", true)
  | 9 => ("LosslessFabric", "noticeMany", "I", false)
  | 10 => ("LosslessFabric", "climb", "LLosslessFabric$Climb;", true)
  | 11 => ("LosslessFabric", "now", "LLosslessFabric$State;", true)
  | 12 => ("LosslessFabric", "image", "LLosslessFabric$State;", true)
  | 13 => ("LosslessFabric", "trial", "LLosslessFabric$State;", true)
  | 14 => ("LosslessFabric", "kept", "[LLosslessFabric$State;", true)
  | 15 => ("LosslessFabric", "acts", "I", false)
  | 16 => ("LosslessFabric", "hasImage", "Z", false)
  | _ => ("LosslessFabric", "drawn", "J", false)
def tyX1 : Nat → FieldType := fun k => match k with
  | 0 => .array .byte
  | 1 => .int
  | 2 => .int
  | 3 => .int
  | 4 => .object "LosslessFabric$Told"
  | 5 => .array .int
  | 6 => .array .int
  | 7 => .array .int
  | 8 => .array (.object "LosslessFabric$Notice")
  | 9 => .int
  | 10 => .object "LosslessFabric$Climb"
  | 11 => .object "LosslessFabric$State"
  | 12 => .object "LosslessFabric$State"
  | 13 => .object "LosslessFabric$State"
  | 14 => .array (.object "LosslessFabric$State")
  | 15 => .int
  | 16 => .boolean
  | _ => .long
abbrev wsX10 : List Cond := u_ws RX1 TX1 18
set_option maxRecDepth 100000 in
theorem nmX1 : ∀ a, a < 18 → ∀ b, b < 18 → a ≠ b → (TX1 a).2.1 ≠ (TX1 b).2.1 := by decide +kernel
set_option maxRecDepth 100000 in
theorem tyX1_ok : ∀ k, k < 18 → parseFieldDescriptor (TX1 k).2.2.1 = some (tyX1 k) := by decide +kernel
abbrev cX1_init : ByteArray := prog_1_method_1_code
def yX1_init : MethodName := ⟨RX1, "<init>", "()V"⟩
def dkwX1_init_5 : List UInt8 := [182, 0, 65, 177]
abbrev dktX1_init_5 : List UInt8 := dkwX1_init_5 ++ []
def dkwX1_init_4 : List UInt8 := [181, 0, 55, 42, 187, 0, 48, 89, 183, 0, 50, 181, 0, 58, 42, 16, 20, 189, 0, 48, 181, 0, 61, 42]
abbrev dktX1_init_4 : List UInt8 := dkwX1_init_4 ++ dktX1_init_5
def dkwX1_init_3 : List UInt8 := [181, 0, 44, 42, 187, 0, 48, 89, 183, 0, 50, 181, 0, 51, 42, 187, 0, 48, 89, 183, 0, 50]
abbrev dktX1_init_3 : List UInt8 := dkwX1_init_3 ++ dktX1_init_4
def dkwX1_init_2 : List UInt8 := [16, 80, 188, 10, 181, 0, 31, 42, 16, 10, 189, 0, 34, 181, 0, 36, 42, 42, 186, 0, 40, 0, 0]
abbrev dktX1_init_2 : List UInt8 := dkwX1_init_2 ++ dktX1_init_3
def dkwX1_init_1 : List UInt8 := [183, 0, 19, 181, 0, 20, 42, 16, 80, 188, 10, 181, 0, 24, 42, 16, 80, 188, 10, 181, 0, 28, 42]
abbrev dktX1_init_1 : List UInt8 := dkwX1_init_1 ++ dktX1_init_2
def dkwX1_init_0 : List UInt8 := [42, 183, 0, 1, 42, 17, 2, 188, 188, 8, 181, 0, 9, 42, 2, 181, 0, 13, 42, 187, 0, 17, 89]
abbrev dktX1_init_0 : List UInt8 := dkwX1_init_0 ++ dktX1_init_1
theorem dksX1_init_0 : cX1_init.data.toList.drop 0 = dktX1_init_0 := by decide +kernel
theorem dksX1_init_1 : cX1_init.data.toList.drop 23 = dktX1_init_1 := dk_seg dksX1_init_0 23 rfl rfl
theorem dksX1_init_2 : cX1_init.data.toList.drop 46 = dktX1_init_2 := dk_seg dksX1_init_1 23 rfl rfl
theorem dksX1_init_3 : cX1_init.data.toList.drop 69 = dktX1_init_3 := dk_seg dksX1_init_2 23 rfl rfl
theorem dksX1_init_4 : cX1_init.data.toList.drop 91 = dktX1_init_4 := dk_seg dksX1_init_3 22 rfl rfl
theorem dksX1_init_5 : cX1_init.data.toList.drop 115 = dktX1_init_5 := dk_seg dksX1_init_4 24 rfl rfl
theorem dX1_init_0 : decode cX1_init 0 = .ok (.aload_n 0, 1) := dk_42 (dk_at dksX1_init_0 0 rfl rfl)
theorem dX1_init_1 : decode cX1_init 1 = .ok (.invokespecial 1, 3) := dk_183 0 1 (dk_at dksX1_init_0 1 rfl rfl)
theorem dX1_init_4 : decode cX1_init 4 = .ok (.aload_n 0, 1) := dk_42 (dk_at dksX1_init_0 4 rfl rfl)
theorem dX1_init_5 : decode cX1_init 5 = .ok (.sipush 700, 3) := dk_17 2 188 (dk_at dksX1_init_0 5 rfl rfl)
theorem dX1_init_8 : decode cX1_init 8 = .ok (.newarray .byte, 2) := dk_188_8 (dk_at dksX1_init_0 8 rfl rfl)
theorem dX1_init_10 : decode cX1_init 10 = .ok (.putfield 9, 3) := dk_181 0 9 (dk_at dksX1_init_0 10 rfl rfl)
theorem dX1_init_13 : decode cX1_init 13 = .ok (.aload_n 0, 1) := dk_42 (dk_at dksX1_init_0 13 rfl rfl)
theorem dX1_init_14 : decode cX1_init 14 = .ok (.iconst (-1), 1) := dk_2 (dk_at dksX1_init_0 14 rfl rfl)
theorem dX1_init_15 : decode cX1_init 15 = .ok (.putfield 13, 3) := dk_181 0 13 (dk_at dksX1_init_0 15 rfl rfl)
theorem dX1_init_18 : decode cX1_init 18 = .ok (.aload_n 0, 1) := dk_42 (dk_at dksX1_init_0 18 rfl rfl)
theorem dX1_init_19 : decode cX1_init 19 = .ok (.new 17, 3) := dk_187 0 17 (dk_at dksX1_init_0 19 rfl rfl)
theorem dX1_init_22 : decode cX1_init 22 = .ok (.dup, 1) := dk_89 (dk_at dksX1_init_0 22 rfl rfl)
theorem dX1_init_23 : decode cX1_init 23 = .ok (.invokespecial 19, 3) := dk_183 0 19 (dk_at dksX1_init_1 0 rfl rfl)
theorem dX1_init_26 : decode cX1_init 26 = .ok (.putfield 20, 3) := dk_181 0 20 (dk_at dksX1_init_1 3 rfl rfl)
theorem dX1_init_29 : decode cX1_init 29 = .ok (.aload_n 0, 1) := dk_42 (dk_at dksX1_init_1 6 rfl rfl)
theorem dX1_init_30 : decode cX1_init 30 = .ok (.bipush 80, 2) := dk_16 80 (dk_at dksX1_init_1 7 rfl rfl)
theorem dX1_init_32 : decode cX1_init 32 = .ok (.newarray .int, 2) := dk_188_10 (dk_at dksX1_init_1 9 rfl rfl)
theorem dX1_init_34 : decode cX1_init 34 = .ok (.putfield 24, 3) := dk_181 0 24 (dk_at dksX1_init_1 11 rfl rfl)
theorem dX1_init_37 : decode cX1_init 37 = .ok (.aload_n 0, 1) := dk_42 (dk_at dksX1_init_1 14 rfl rfl)
theorem dX1_init_38 : decode cX1_init 38 = .ok (.bipush 80, 2) := dk_16 80 (dk_at dksX1_init_1 15 rfl rfl)
theorem dX1_init_40 : decode cX1_init 40 = .ok (.newarray .int, 2) := dk_188_10 (dk_at dksX1_init_1 17 rfl rfl)
theorem dX1_init_42 : decode cX1_init 42 = .ok (.putfield 28, 3) := dk_181 0 28 (dk_at dksX1_init_1 19 rfl rfl)
theorem dX1_init_45 : decode cX1_init 45 = .ok (.aload_n 0, 1) := dk_42 (dk_at dksX1_init_1 22 rfl rfl)
theorem dX1_init_46 : decode cX1_init 46 = .ok (.bipush 80, 2) := dk_16 80 (dk_at dksX1_init_2 0 rfl rfl)
theorem dX1_init_48 : decode cX1_init 48 = .ok (.newarray .int, 2) := dk_188_10 (dk_at dksX1_init_2 2 rfl rfl)
theorem dX1_init_50 : decode cX1_init 50 = .ok (.putfield 31, 3) := dk_181 0 31 (dk_at dksX1_init_2 4 rfl rfl)
theorem dX1_init_53 : decode cX1_init 53 = .ok (.aload_n 0, 1) := dk_42 (dk_at dksX1_init_2 7 rfl rfl)
theorem dX1_init_54 : decode cX1_init 54 = .ok (.bipush 10, 2) := dk_16 10 (dk_at dksX1_init_2 8 rfl rfl)
theorem dX1_init_56 : decode cX1_init 56 = .ok (.anewarray 34, 3) := dk_189 0 34 (dk_at dksX1_init_2 10 rfl rfl)
theorem dX1_init_59 : decode cX1_init 59 = .ok (.putfield 36, 3) := dk_181 0 36 (dk_at dksX1_init_2 13 rfl rfl)
theorem dX1_init_62 : decode cX1_init 62 = .ok (.aload_n 0, 1) := dk_42 (dk_at dksX1_init_2 16 rfl rfl)
theorem dX1_init_63 : decode cX1_init 63 = .ok (.aload_n 0, 1) := dk_42 (dk_at dksX1_init_2 17 rfl rfl)
theorem dX1_init_64 : decode cX1_init 64 = .ok (.invokedynamic 40, 5) := by decide +kernel
theorem dX1_init_69 : decode cX1_init 69 = .ok (.putfield 44, 3) := dk_181 0 44 (dk_at dksX1_init_3 0 rfl rfl)
theorem dX1_init_72 : decode cX1_init 72 = .ok (.aload_n 0, 1) := dk_42 (dk_at dksX1_init_3 3 rfl rfl)
theorem dX1_init_73 : decode cX1_init 73 = .ok (.new 48, 3) := dk_187 0 48 (dk_at dksX1_init_3 4 rfl rfl)
theorem dX1_init_76 : decode cX1_init 76 = .ok (.dup, 1) := dk_89 (dk_at dksX1_init_3 7 rfl rfl)
theorem dX1_init_77 : decode cX1_init 77 = .ok (.invokespecial 50, 3) := dk_183 0 50 (dk_at dksX1_init_3 8 rfl rfl)
theorem dX1_init_80 : decode cX1_init 80 = .ok (.putfield 51, 3) := dk_181 0 51 (dk_at dksX1_init_3 11 rfl rfl)
theorem dX1_init_83 : decode cX1_init 83 = .ok (.aload_n 0, 1) := dk_42 (dk_at dksX1_init_3 14 rfl rfl)
theorem dX1_init_84 : decode cX1_init 84 = .ok (.new 48, 3) := dk_187 0 48 (dk_at dksX1_init_3 15 rfl rfl)
theorem dX1_init_87 : decode cX1_init 87 = .ok (.dup, 1) := dk_89 (dk_at dksX1_init_3 18 rfl rfl)
theorem dX1_init_88 : decode cX1_init 88 = .ok (.invokespecial 50, 3) := dk_183 0 50 (dk_at dksX1_init_3 19 rfl rfl)
theorem dX1_init_91 : decode cX1_init 91 = .ok (.putfield 55, 3) := dk_181 0 55 (dk_at dksX1_init_4 0 rfl rfl)
theorem dX1_init_94 : decode cX1_init 94 = .ok (.aload_n 0, 1) := dk_42 (dk_at dksX1_init_4 3 rfl rfl)
theorem dX1_init_95 : decode cX1_init 95 = .ok (.new 48, 3) := dk_187 0 48 (dk_at dksX1_init_4 4 rfl rfl)
theorem dX1_init_98 : decode cX1_init 98 = .ok (.dup, 1) := dk_89 (dk_at dksX1_init_4 7 rfl rfl)
theorem dX1_init_99 : decode cX1_init 99 = .ok (.invokespecial 50, 3) := dk_183 0 50 (dk_at dksX1_init_4 8 rfl rfl)
theorem dX1_init_102 : decode cX1_init 102 = .ok (.putfield 58, 3) := dk_181 0 58 (dk_at dksX1_init_4 11 rfl rfl)
theorem dX1_init_105 : decode cX1_init 105 = .ok (.aload_n 0, 1) := dk_42 (dk_at dksX1_init_4 14 rfl rfl)
theorem dX1_init_106 : decode cX1_init 106 = .ok (.bipush 20, 2) := dk_16 20 (dk_at dksX1_init_4 15 rfl rfl)
theorem dX1_init_108 : decode cX1_init 108 = .ok (.anewarray 48, 3) := dk_189 0 48 (dk_at dksX1_init_4 17 rfl rfl)
theorem dX1_init_111 : decode cX1_init 111 = .ok (.putfield 61, 3) := dk_181 0 61 (dk_at dksX1_init_4 20 rfl rfl)
theorem dX1_init_114 : decode cX1_init 114 = .ok (.aload_n 0, 1) := dk_42 (dk_at dksX1_init_4 23 rfl rfl)
theorem dX1_init_115 : decode cX1_init 115 = .ok (.invokevirtual 65, 3) := dk_182 0 65 (dk_at dksX1_init_5 0 rfl rfl)
theorem dX1_init_118 : decode cX1_init 118 = .ok (.return_, 1) := dk_177 (dk_at dksX1_init_5 3 rfl rfl)
abbrev cX1_lambda_new_0 : ByteArray := prog_1_method_62_code
def yX1_lambda_new_0 : MethodName := ⟨RX1, "lambda$new$0", "(II)I"⟩
def dkwX1_lambda_new_0_1 : List UInt8 := [164, 0, 13, 42, 180, 0, 20, 180, 1, 217, 167, 0, 4, 3, 172]
abbrev dktX1_lambda_new_0_1 : List UInt8 := dkwX1_lambda_new_0_1 ++ []
def dkwX1_lambda_new_0_0 : List UInt8 := [27, 8, 164, 0, 19, 42, 180, 0, 20, 180, 1, 217, 5, 104, 27, 8, 100, 104, 167, 0, 19, 28, 8]
abbrev dktX1_lambda_new_0_0 : List UInt8 := dkwX1_lambda_new_0_0 ++ dktX1_lambda_new_0_1
theorem dksX1_lambda_new_0_0 : cX1_lambda_new_0.data.toList.drop 0 = dktX1_lambda_new_0_0 := by decide +kernel
theorem dksX1_lambda_new_0_1 : cX1_lambda_new_0.data.toList.drop 23 = dktX1_lambda_new_0_1 := dk_seg dksX1_lambda_new_0_0 23 rfl rfl
theorem dX1_lambda_new_0_0 : decode cX1_lambda_new_0 0 = .ok (.iload_n 1, 1) := dk_27 (dk_at dksX1_lambda_new_0_0 0 rfl rfl)
theorem dX1_lambda_new_0_1 : decode cX1_lambda_new_0 1 = .ok (.iconst 5, 1) := dk_8 (dk_at dksX1_lambda_new_0_0 1 rfl rfl)
theorem dX1_lambda_new_0_2 : decode cX1_lambda_new_0 2 = .ok (.if_icmp .le 19, 3) := dk_164 0 19 (dk_at dksX1_lambda_new_0_0 2 rfl rfl)
theorem dX1_lambda_new_0_5 : decode cX1_lambda_new_0 5 = .ok (.aload_n 0, 1) := dk_42 (dk_at dksX1_lambda_new_0_0 5 rfl rfl)
theorem dX1_lambda_new_0_6 : decode cX1_lambda_new_0 6 = .ok (.getfield 20, 3) := dk_180 0 20 (dk_at dksX1_lambda_new_0_0 6 rfl rfl)
theorem dX1_lambda_new_0_9 : decode cX1_lambda_new_0 9 = .ok (.getfield 473, 3) := dk_180 1 217 (dk_at dksX1_lambda_new_0_0 9 rfl rfl)
theorem dX1_lambda_new_0_12 : decode cX1_lambda_new_0 12 = .ok (.iconst 2, 1) := dk_5 (dk_at dksX1_lambda_new_0_0 12 rfl rfl)
theorem dX1_lambda_new_0_13 : decode cX1_lambda_new_0 13 = .ok (.imul, 1) := dk_104 (dk_at dksX1_lambda_new_0_0 13 rfl rfl)
theorem dX1_lambda_new_0_14 : decode cX1_lambda_new_0 14 = .ok (.iload_n 1, 1) := dk_27 (dk_at dksX1_lambda_new_0_0 14 rfl rfl)
theorem dX1_lambda_new_0_15 : decode cX1_lambda_new_0 15 = .ok (.iconst 5, 1) := dk_8 (dk_at dksX1_lambda_new_0_0 15 rfl rfl)
theorem dX1_lambda_new_0_16 : decode cX1_lambda_new_0 16 = .ok (.isub, 1) := dk_100 (dk_at dksX1_lambda_new_0_0 16 rfl rfl)
theorem dX1_lambda_new_0_17 : decode cX1_lambda_new_0 17 = .ok (.imul, 1) := dk_104 (dk_at dksX1_lambda_new_0_0 17 rfl rfl)
theorem dX1_lambda_new_0_18 : decode cX1_lambda_new_0 18 = .ok (.goto 19, 3) := dk_167 0 19 (dk_at dksX1_lambda_new_0_0 18 rfl rfl)
theorem dX1_lambda_new_0_21 : decode cX1_lambda_new_0 21 = .ok (.iload_n 2, 1) := dk_28 (dk_at dksX1_lambda_new_0_0 21 rfl rfl)
theorem dX1_lambda_new_0_22 : decode cX1_lambda_new_0 22 = .ok (.iconst 5, 1) := dk_8 (dk_at dksX1_lambda_new_0_0 22 rfl rfl)
theorem dX1_lambda_new_0_23 : decode cX1_lambda_new_0 23 = .ok (.if_icmp .le 13, 3) := dk_164 0 13 (dk_at dksX1_lambda_new_0_1 0 rfl rfl)
theorem dX1_lambda_new_0_26 : decode cX1_lambda_new_0 26 = .ok (.aload_n 0, 1) := dk_42 (dk_at dksX1_lambda_new_0_1 3 rfl rfl)
theorem dX1_lambda_new_0_27 : decode cX1_lambda_new_0 27 = .ok (.getfield 20, 3) := dk_180 0 20 (dk_at dksX1_lambda_new_0_1 4 rfl rfl)
theorem dX1_lambda_new_0_30 : decode cX1_lambda_new_0 30 = .ok (.getfield 473, 3) := dk_180 1 217 (dk_at dksX1_lambda_new_0_1 7 rfl rfl)
theorem dX1_lambda_new_0_33 : decode cX1_lambda_new_0 33 = .ok (.goto 4, 3) := dk_167 0 4 (dk_at dksX1_lambda_new_0_1 10 rfl rfl)
theorem dX1_lambda_new_0_36 : decode cX1_lambda_new_0 36 = .ok (.iconst 0, 1) := dk_3 (dk_at dksX1_lambda_new_0_1 13 rfl rfl)
theorem dX1_lambda_new_0_37 : decode cX1_lambda_new_0 37 = .ok (.ireturn, 1) := dk_172 (dk_at dksX1_lambda_new_0_1 14 rfl rfl)
abbrev cX1_begin : ByteArray := prog_1_method_15_code
def yX1_begin : MethodName := ⟨RX1, "begin", "()V"⟩
def dkwX1_begin_0 : List UInt8 := [42, 180, 0, 51, 42, 180, 0, 20, 182, 1, 9, 42, 3, 181, 1, 13, 42, 3, 181, 1, 16, 177]
abbrev dktX1_begin_0 : List UInt8 := dkwX1_begin_0 ++ []
theorem dksX1_begin_0 : cX1_begin.data.toList.drop 0 = dktX1_begin_0 := by decide +kernel
theorem dX1_begin_0 : decode cX1_begin 0 = .ok (.aload_n 0, 1) := dk_42 (dk_at dksX1_begin_0 0 rfl rfl)
theorem dX1_begin_1 : decode cX1_begin 1 = .ok (.getfield 51, 3) := dk_180 0 51 (dk_at dksX1_begin_0 1 rfl rfl)
theorem dX1_begin_4 : decode cX1_begin 4 = .ok (.aload_n 0, 1) := dk_42 (dk_at dksX1_begin_0 4 rfl rfl)
theorem dX1_begin_5 : decode cX1_begin 5 = .ok (.getfield 20, 3) := dk_180 0 20 (dk_at dksX1_begin_0 5 rfl rfl)
theorem dX1_begin_8 : decode cX1_begin 8 = .ok (.invokevirtual 265, 3) := dk_182 1 9 (dk_at dksX1_begin_0 8 rfl rfl)
theorem dX1_begin_11 : decode cX1_begin 11 = .ok (.aload_n 0, 1) := dk_42 (dk_at dksX1_begin_0 11 rfl rfl)
theorem dX1_begin_12 : decode cX1_begin 12 = .ok (.iconst 0, 1) := dk_3 (dk_at dksX1_begin_0 12 rfl rfl)
theorem dX1_begin_13 : decode cX1_begin 13 = .ok (.putfield 269, 3) := dk_181 1 13 (dk_at dksX1_begin_0 13 rfl rfl)
theorem dX1_begin_16 : decode cX1_begin 16 = .ok (.aload_n 0, 1) := dk_42 (dk_at dksX1_begin_0 16 rfl rfl)
theorem dX1_begin_17 : decode cX1_begin 17 = .ok (.iconst 0, 1) := dk_3 (dk_at dksX1_begin_0 17 rfl rfl)
theorem dX1_begin_18 : decode cX1_begin 18 = .ok (.putfield 272, 3) := dk_181 1 16 (dk_at dksX1_begin_0 18 rfl rfl)
theorem dX1_begin_21 : decode cX1_begin 21 = .ok (.return_, 1) := dk_177 (dk_at dksX1_begin_0 21 rfl rfl)
abbrev cX1_feed : ByteArray := prog_1_method_6_code
def yX1_feed : MethodName := ⟨RX1, "feed", "(IIIII)I"⟩
def dkwX1_feed_5 : List UInt8 := [180, 0, 71, 172]
abbrev dktX1_feed_5 : List UInt8 := dkwX1_feed_5 ++ []
def dkwX1_feed_4 : List UInt8 := [112, 104, 100, 122, 145, 84, 132, 6, 1, 167, 255, 172, 42, 89, 180, 0, 71, 16, 20, 96, 181, 0, 71, 42]
abbrev dktX1_feed_4 : List UInt8 := dkwX1_feed_4 ++ dktX1_feed_5
def dkwX1_feed_3 : List UInt8 := [21, 5, 54, 7, 42, 180, 0, 9, 42, 180, 0, 71, 21, 6, 96, 21, 7, 16, 24, 16, 8, 21, 6, 7]
abbrev dktX1_feed_3 : List UInt8 := dkwX1_feed_3 ++ dktX1_feed_4
def dkwX1_feed_2 : List UInt8 := [21, 6, 16, 12, 162, 0, 7, 29, 167, 0, 17, 21, 6, 16, 16, 162, 0, 8, 21, 4, 167, 0, 5]
abbrev dktX1_feed_2 : List UInt8 := dkwX1_feed_2 ++ dktX1_feed_3
def dkwX1_feed_1 : List UInt8 := [162, 0, 83, 21, 6, 7, 162, 0, 7, 27, 167, 0, 39, 21, 6, 16, 8, 162, 0, 7, 28, 167, 0, 28]
abbrev dktX1_feed_1 : List UInt8 := dkwX1_feed_1 ++ dktX1_feed_2
def dkwX1_feed_0 : List UInt8 := [42, 180, 0, 71, 16, 20, 96, 17, 2, 188, 164, 0, 5, 2, 172, 3, 54, 6, 21, 6, 16, 20]
abbrev dktX1_feed_0 : List UInt8 := dkwX1_feed_0 ++ dktX1_feed_1
theorem dksX1_feed_0 : cX1_feed.data.toList.drop 0 = dktX1_feed_0 := by decide +kernel
theorem dksX1_feed_1 : cX1_feed.data.toList.drop 22 = dktX1_feed_1 := dk_seg dksX1_feed_0 22 rfl rfl
theorem dksX1_feed_2 : cX1_feed.data.toList.drop 46 = dktX1_feed_2 := dk_seg dksX1_feed_1 24 rfl rfl
theorem dksX1_feed_3 : cX1_feed.data.toList.drop 69 = dktX1_feed_3 := dk_seg dksX1_feed_2 23 rfl rfl
theorem dksX1_feed_4 : cX1_feed.data.toList.drop 93 = dktX1_feed_4 := dk_seg dksX1_feed_3 24 rfl rfl
theorem dksX1_feed_5 : cX1_feed.data.toList.drop 117 = dktX1_feed_5 := dk_seg dksX1_feed_4 24 rfl rfl
theorem dX1_feed_0 : decode cX1_feed 0 = .ok (.aload_n 0, 1) := dk_42 (dk_at dksX1_feed_0 0 rfl rfl)
theorem dX1_feed_1 : decode cX1_feed 1 = .ok (.getfield 71, 3) := dk_180 0 71 (dk_at dksX1_feed_0 1 rfl rfl)
theorem dX1_feed_4 : decode cX1_feed 4 = .ok (.bipush 20, 2) := dk_16 20 (dk_at dksX1_feed_0 4 rfl rfl)
theorem dX1_feed_6 : decode cX1_feed 6 = .ok (.iadd, 1) := dk_96 (dk_at dksX1_feed_0 6 rfl rfl)
theorem dX1_feed_7 : decode cX1_feed 7 = .ok (.sipush 700, 3) := dk_17 2 188 (dk_at dksX1_feed_0 7 rfl rfl)
theorem dX1_feed_10 : decode cX1_feed 10 = .ok (.if_icmp .le 5, 3) := dk_164 0 5 (dk_at dksX1_feed_0 10 rfl rfl)
theorem dX1_feed_13 : decode cX1_feed 13 = .ok (.iconst (-1), 1) := dk_2 (dk_at dksX1_feed_0 13 rfl rfl)
theorem dX1_feed_14 : decode cX1_feed 14 = .ok (.ireturn, 1) := dk_172 (dk_at dksX1_feed_0 14 rfl rfl)
theorem dX1_feed_15 : decode cX1_feed 15 = .ok (.iconst 0, 1) := dk_3 (dk_at dksX1_feed_0 15 rfl rfl)
theorem dX1_feed_16 : decode cX1_feed 16 = .ok (.istore 6, 2) := dk_54 6 (dk_at dksX1_feed_0 16 rfl rfl)
theorem dX1_feed_18 : decode cX1_feed 18 = .ok (.iload 6, 2) := dk_21 6 (dk_at dksX1_feed_0 18 rfl rfl)
theorem dX1_feed_20 : decode cX1_feed 20 = .ok (.bipush 20, 2) := dk_16 20 (dk_at dksX1_feed_0 20 rfl rfl)
theorem dX1_feed_22 : decode cX1_feed 22 = .ok (.if_icmp .ge 83, 3) := dk_162 0 83 (dk_at dksX1_feed_1 0 rfl rfl)
theorem dX1_feed_25 : decode cX1_feed 25 = .ok (.iload 6, 2) := dk_21 6 (dk_at dksX1_feed_1 3 rfl rfl)
theorem dX1_feed_27 : decode cX1_feed 27 = .ok (.iconst 4, 1) := dk_7 (dk_at dksX1_feed_1 5 rfl rfl)
theorem dX1_feed_28 : decode cX1_feed 28 = .ok (.if_icmp .ge 7, 3) := dk_162 0 7 (dk_at dksX1_feed_1 6 rfl rfl)
theorem dX1_feed_31 : decode cX1_feed 31 = .ok (.iload_n 1, 1) := dk_27 (dk_at dksX1_feed_1 9 rfl rfl)
theorem dX1_feed_32 : decode cX1_feed 32 = .ok (.goto 39, 3) := dk_167 0 39 (dk_at dksX1_feed_1 10 rfl rfl)
theorem dX1_feed_35 : decode cX1_feed 35 = .ok (.iload 6, 2) := dk_21 6 (dk_at dksX1_feed_1 13 rfl rfl)
theorem dX1_feed_37 : decode cX1_feed 37 = .ok (.bipush 8, 2) := dk_16 8 (dk_at dksX1_feed_1 15 rfl rfl)
theorem dX1_feed_39 : decode cX1_feed 39 = .ok (.if_icmp .ge 7, 3) := dk_162 0 7 (dk_at dksX1_feed_1 17 rfl rfl)
theorem dX1_feed_42 : decode cX1_feed 42 = .ok (.iload_n 2, 1) := dk_28 (dk_at dksX1_feed_1 20 rfl rfl)
theorem dX1_feed_43 : decode cX1_feed 43 = .ok (.goto 28, 3) := dk_167 0 28 (dk_at dksX1_feed_1 21 rfl rfl)
theorem dX1_feed_46 : decode cX1_feed 46 = .ok (.iload 6, 2) := dk_21 6 (dk_at dksX1_feed_2 0 rfl rfl)
theorem dX1_feed_48 : decode cX1_feed 48 = .ok (.bipush 12, 2) := dk_16 12 (dk_at dksX1_feed_2 2 rfl rfl)
theorem dX1_feed_50 : decode cX1_feed 50 = .ok (.if_icmp .ge 7, 3) := dk_162 0 7 (dk_at dksX1_feed_2 4 rfl rfl)
theorem dX1_feed_53 : decode cX1_feed 53 = .ok (.iload_n 3, 1) := dk_29 (dk_at dksX1_feed_2 7 rfl rfl)
theorem dX1_feed_54 : decode cX1_feed 54 = .ok (.goto 17, 3) := dk_167 0 17 (dk_at dksX1_feed_2 8 rfl rfl)
theorem dX1_feed_57 : decode cX1_feed 57 = .ok (.iload 6, 2) := dk_21 6 (dk_at dksX1_feed_2 11 rfl rfl)
theorem dX1_feed_59 : decode cX1_feed 59 = .ok (.bipush 16, 2) := dk_16 16 (dk_at dksX1_feed_2 13 rfl rfl)
theorem dX1_feed_61 : decode cX1_feed 61 = .ok (.if_icmp .ge 8, 3) := dk_162 0 8 (dk_at dksX1_feed_2 15 rfl rfl)
theorem dX1_feed_64 : decode cX1_feed 64 = .ok (.iload 4, 2) := dk_21 4 (dk_at dksX1_feed_2 18 rfl rfl)
theorem dX1_feed_66 : decode cX1_feed 66 = .ok (.goto 5, 3) := dk_167 0 5 (dk_at dksX1_feed_2 20 rfl rfl)
theorem dX1_feed_69 : decode cX1_feed 69 = .ok (.iload 5, 2) := dk_21 5 (dk_at dksX1_feed_3 0 rfl rfl)
theorem dX1_feed_71 : decode cX1_feed 71 = .ok (.istore 7, 2) := dk_54 7 (dk_at dksX1_feed_3 2 rfl rfl)
theorem dX1_feed_73 : decode cX1_feed 73 = .ok (.aload_n 0, 1) := dk_42 (dk_at dksX1_feed_3 4 rfl rfl)
theorem dX1_feed_74 : decode cX1_feed 74 = .ok (.getfield 9, 3) := dk_180 0 9 (dk_at dksX1_feed_3 5 rfl rfl)
theorem dX1_feed_77 : decode cX1_feed 77 = .ok (.aload_n 0, 1) := dk_42 (dk_at dksX1_feed_3 8 rfl rfl)
theorem dX1_feed_78 : decode cX1_feed 78 = .ok (.getfield 71, 3) := dk_180 0 71 (dk_at dksX1_feed_3 9 rfl rfl)
theorem dX1_feed_81 : decode cX1_feed 81 = .ok (.iload 6, 2) := dk_21 6 (dk_at dksX1_feed_3 12 rfl rfl)
theorem dX1_feed_83 : decode cX1_feed 83 = .ok (.iadd, 1) := dk_96 (dk_at dksX1_feed_3 14 rfl rfl)
theorem dX1_feed_84 : decode cX1_feed 84 = .ok (.iload 7, 2) := dk_21 7 (dk_at dksX1_feed_3 15 rfl rfl)
theorem dX1_feed_86 : decode cX1_feed 86 = .ok (.bipush 24, 2) := dk_16 24 (dk_at dksX1_feed_3 17 rfl rfl)
theorem dX1_feed_88 : decode cX1_feed 88 = .ok (.bipush 8, 2) := dk_16 8 (dk_at dksX1_feed_3 19 rfl rfl)
theorem dX1_feed_90 : decode cX1_feed 90 = .ok (.iload 6, 2) := dk_21 6 (dk_at dksX1_feed_3 21 rfl rfl)
theorem dX1_feed_92 : decode cX1_feed 92 = .ok (.iconst 4, 1) := dk_7 (dk_at dksX1_feed_3 23 rfl rfl)
theorem dX1_feed_93 : decode cX1_feed 93 = .ok (.irem, 1) := dk_112 (dk_at dksX1_feed_4 0 rfl rfl)
theorem dX1_feed_94 : decode cX1_feed 94 = .ok (.imul, 1) := dk_104 (dk_at dksX1_feed_4 1 rfl rfl)
theorem dX1_feed_95 : decode cX1_feed 95 = .ok (.isub, 1) := dk_100 (dk_at dksX1_feed_4 2 rfl rfl)
theorem dX1_feed_96 : decode cX1_feed 96 = .ok (.ishr, 1) := dk_122 (dk_at dksX1_feed_4 3 rfl rfl)
theorem dX1_feed_97 : decode cX1_feed 97 = .ok (.i2b, 1) := dk_145 (dk_at dksX1_feed_4 4 rfl rfl)
theorem dX1_feed_98 : decode cX1_feed 98 = .ok (.bastore, 1) := dk_84 (dk_at dksX1_feed_4 5 rfl rfl)
theorem dX1_feed_99 : decode cX1_feed 99 = .ok (.iinc 6 1, 3) := dk_132 6 1 (dk_at dksX1_feed_4 6 rfl rfl)
theorem dX1_feed_102 : decode cX1_feed 102 = .ok (.goto (-84), 3) := dk_167 255 172 (dk_at dksX1_feed_4 9 rfl rfl)
theorem dX1_feed_105 : decode cX1_feed 105 = .ok (.aload_n 0, 1) := dk_42 (dk_at dksX1_feed_4 12 rfl rfl)
theorem dX1_feed_106 : decode cX1_feed 106 = .ok (.dup, 1) := dk_89 (dk_at dksX1_feed_4 13 rfl rfl)
theorem dX1_feed_107 : decode cX1_feed 107 = .ok (.getfield 71, 3) := dk_180 0 71 (dk_at dksX1_feed_4 14 rfl rfl)
theorem dX1_feed_110 : decode cX1_feed 110 = .ok (.bipush 20, 2) := dk_16 20 (dk_at dksX1_feed_4 17 rfl rfl)
theorem dX1_feed_112 : decode cX1_feed 112 = .ok (.iadd, 1) := dk_96 (dk_at dksX1_feed_4 19 rfl rfl)
theorem dX1_feed_113 : decode cX1_feed 113 = .ok (.putfield 71, 3) := dk_181 0 71 (dk_at dksX1_feed_4 20 rfl rfl)
theorem dX1_feed_116 : decode cX1_feed 116 = .ok (.aload_n 0, 1) := dk_42 (dk_at dksX1_feed_4 23 rfl rfl)
theorem dX1_feed_117 : decode cX1_feed 117 = .ok (.getfield 71, 3) := dk_180 0 71 (dk_at dksX1_feed_5 0 rfl rfl)
theorem dX1_feed_120 : decode cX1_feed 120 = .ok (.ireturn, 1) := dk_172 (dk_at dksX1_feed_5 3 rfl rfl)
abbrev cX1_text : ByteArray := prog_1_method_7_code
def yX1_text : MethodName := ⟨RX1, "text", "(I)I"⟩
def dkwX1_text_3 : List UInt8 := [182, 0, 65, 42, 180, 0, 20, 180, 0, 98, 172]
abbrev dktX1_text_3 : List UInt8 := dkwX1_text_3 ++ []
def dkwX1_text_2 : List UInt8 := [167, 0, 22, 77, 42, 44, 180, 0, 92, 181, 0, 78, 42, 44, 180, 0, 95, 181, 0, 13, 2, 172, 42]
abbrev dktX1_text_2 : List UInt8 := dkwX1_text_2 ++ dktX1_text_3
def dkwX1_text_1 : List UInt8 := [181, 0, 78, 42, 2, 181, 0, 13, 42, 187, 0, 81, 89, 42, 27, 183, 0, 83, 182, 0, 86, 181, 0, 20]
abbrev dktX1_text_1 : List UInt8 := dkwX1_text_1 ++ dktX1_text_2
def dkwX1_text_0 : List UInt8 := [27, 133, 9, 42, 180, 0, 71, 133, 184, 0, 74, 154, 0, 6, 16, 254, 172, 42, 3, 181, 0, 71, 42, 3]
abbrev dktX1_text_0 : List UInt8 := dkwX1_text_0 ++ dktX1_text_1
theorem dksX1_text_0 : cX1_text.data.toList.drop 0 = dktX1_text_0 := by decide +kernel
theorem dksX1_text_1 : cX1_text.data.toList.drop 24 = dktX1_text_1 := dk_seg dksX1_text_0 24 rfl rfl
theorem dksX1_text_2 : cX1_text.data.toList.drop 48 = dktX1_text_2 := dk_seg dksX1_text_1 24 rfl rfl
theorem dksX1_text_3 : cX1_text.data.toList.drop 71 = dktX1_text_3 := dk_seg dksX1_text_2 23 rfl rfl
theorem dX1_text_0 : decode cX1_text 0 = .ok (.iload_n 1, 1) := dk_27 (dk_at dksX1_text_0 0 rfl rfl)
theorem dX1_text_1 : decode cX1_text 1 = .ok (.i2l, 1) := dk_133 (dk_at dksX1_text_0 1 rfl rfl)
theorem dX1_text_2 : decode cX1_text 2 = .ok (.lconst 0, 1) := dk_9 (dk_at dksX1_text_0 2 rfl rfl)
theorem dX1_text_3 : decode cX1_text 3 = .ok (.aload_n 0, 1) := dk_42 (dk_at dksX1_text_0 3 rfl rfl)
theorem dX1_text_4 : decode cX1_text 4 = .ok (.getfield 71, 3) := dk_180 0 71 (dk_at dksX1_text_0 4 rfl rfl)
theorem dX1_text_7 : decode cX1_text 7 = .ok (.i2l, 1) := dk_133 (dk_at dksX1_text_0 7 rfl rfl)
theorem dX1_text_8 : decode cX1_text 8 = .ok (.invokestatic 74, 3) := dk_184 0 74 (dk_at dksX1_text_0 8 rfl rfl)
theorem dX1_text_11 : decode cX1_text 11 = .ok (.ifCond .ne 6, 3) := dk_154 0 6 (dk_at dksX1_text_0 11 rfl rfl)
theorem dX1_text_14 : decode cX1_text 14 = .ok (.bipush (-2), 2) := dk_16 254 (dk_at dksX1_text_0 14 rfl rfl)
theorem dX1_text_16 : decode cX1_text 16 = .ok (.ireturn, 1) := dk_172 (dk_at dksX1_text_0 16 rfl rfl)
theorem dX1_text_17 : decode cX1_text 17 = .ok (.aload_n 0, 1) := dk_42 (dk_at dksX1_text_0 17 rfl rfl)
theorem dX1_text_18 : decode cX1_text 18 = .ok (.iconst 0, 1) := dk_3 (dk_at dksX1_text_0 18 rfl rfl)
theorem dX1_text_19 : decode cX1_text 19 = .ok (.putfield 71, 3) := dk_181 0 71 (dk_at dksX1_text_0 19 rfl rfl)
theorem dX1_text_22 : decode cX1_text 22 = .ok (.aload_n 0, 1) := dk_42 (dk_at dksX1_text_0 22 rfl rfl)
theorem dX1_text_23 : decode cX1_text 23 = .ok (.iconst 0, 1) := dk_3 (dk_at dksX1_text_0 23 rfl rfl)
theorem dX1_text_24 : decode cX1_text 24 = .ok (.putfield 78, 3) := dk_181 0 78 (dk_at dksX1_text_1 0 rfl rfl)
theorem dX1_text_27 : decode cX1_text 27 = .ok (.aload_n 0, 1) := dk_42 (dk_at dksX1_text_1 3 rfl rfl)
theorem dX1_text_28 : decode cX1_text 28 = .ok (.iconst (-1), 1) := dk_2 (dk_at dksX1_text_1 4 rfl rfl)
theorem dX1_text_29 : decode cX1_text 29 = .ok (.putfield 13, 3) := dk_181 0 13 (dk_at dksX1_text_1 5 rfl rfl)
theorem dX1_text_32 : decode cX1_text 32 = .ok (.aload_n 0, 1) := dk_42 (dk_at dksX1_text_1 8 rfl rfl)
theorem dX1_text_33 : decode cX1_text 33 = .ok (.new 81, 3) := dk_187 0 81 (dk_at dksX1_text_1 9 rfl rfl)
theorem dX1_text_36 : decode cX1_text 36 = .ok (.dup, 1) := dk_89 (dk_at dksX1_text_1 12 rfl rfl)
theorem dX1_text_37 : decode cX1_text 37 = .ok (.aload_n 0, 1) := dk_42 (dk_at dksX1_text_1 13 rfl rfl)
theorem dX1_text_38 : decode cX1_text 38 = .ok (.iload_n 1, 1) := dk_27 (dk_at dksX1_text_1 14 rfl rfl)
theorem dX1_text_39 : decode cX1_text 39 = .ok (.invokespecial 83, 3) := dk_183 0 83 (dk_at dksX1_text_1 15 rfl rfl)
theorem dX1_text_42 : decode cX1_text 42 = .ok (.invokevirtual 86, 3) := dk_182 0 86 (dk_at dksX1_text_1 18 rfl rfl)
theorem dX1_text_45 : decode cX1_text 45 = .ok (.putfield 20, 3) := dk_181 0 20 (dk_at dksX1_text_1 21 rfl rfl)
theorem dX1_text_48 : decode cX1_text 48 = .ok (.goto 22, 3) := dk_167 0 22 (dk_at dksX1_text_2 0 rfl rfl)
theorem dX1_text_51 : decode cX1_text 51 = .ok (.astore_n 2, 1) := dk_77 (dk_at dksX1_text_2 3 rfl rfl)
theorem dX1_text_52 : decode cX1_text 52 = .ok (.aload_n 0, 1) := dk_42 (dk_at dksX1_text_2 4 rfl rfl)
theorem dX1_text_53 : decode cX1_text 53 = .ok (.aload_n 2, 1) := dk_44 (dk_at dksX1_text_2 5 rfl rfl)
theorem dX1_text_54 : decode cX1_text 54 = .ok (.getfield 92, 3) := dk_180 0 92 (dk_at dksX1_text_2 6 rfl rfl)
theorem dX1_text_57 : decode cX1_text 57 = .ok (.putfield 78, 3) := dk_181 0 78 (dk_at dksX1_text_2 9 rfl rfl)
theorem dX1_text_60 : decode cX1_text 60 = .ok (.aload_n 0, 1) := dk_42 (dk_at dksX1_text_2 12 rfl rfl)
theorem dX1_text_61 : decode cX1_text 61 = .ok (.aload_n 2, 1) := dk_44 (dk_at dksX1_text_2 13 rfl rfl)
theorem dX1_text_62 : decode cX1_text 62 = .ok (.getfield 95, 3) := dk_180 0 95 (dk_at dksX1_text_2 14 rfl rfl)
theorem dX1_text_65 : decode cX1_text 65 = .ok (.putfield 13, 3) := dk_181 0 13 (dk_at dksX1_text_2 17 rfl rfl)
theorem dX1_text_68 : decode cX1_text 68 = .ok (.iconst (-1), 1) := dk_2 (dk_at dksX1_text_2 20 rfl rfl)
theorem dX1_text_69 : decode cX1_text 69 = .ok (.ireturn, 1) := dk_172 (dk_at dksX1_text_2 21 rfl rfl)
theorem dX1_text_70 : decode cX1_text 70 = .ok (.aload_n 0, 1) := dk_42 (dk_at dksX1_text_2 22 rfl rfl)
theorem dX1_text_71 : decode cX1_text 71 = .ok (.invokevirtual 65, 3) := dk_182 0 65 (dk_at dksX1_text_3 0 rfl rfl)
theorem dX1_text_74 : decode cX1_text 74 = .ok (.aload_n 0, 1) := dk_42 (dk_at dksX1_text_3 3 rfl rfl)
theorem dX1_text_75 : decode cX1_text 75 = .ok (.getfield 20, 3) := dk_180 0 20 (dk_at dksX1_text_3 4 rfl rfl)
theorem dX1_text_78 : decode cX1_text 78 = .ok (.getfield 98, 3) := dk_180 0 98 (dk_at dksX1_text_3 7 rfl rfl)
theorem dX1_text_81 : decode cX1_text 81 = .ok (.ireturn, 1) := dk_172 (dk_at dksX1_text_3 10 rfl rfl)
abbrev cX1_isIn : ByteArray := prog_1_method_2_code
def yX1_isIn : MethodName := ⟨RX1, "isIn", "(JJJ)Z"⟩
def dkwX1_isIn_0 : List UInt8 := [30, 32, 148, 155, 0, 14, 30, 22, 4, 148, 157, 0, 7, 4, 167, 0, 4, 3, 172]
abbrev dktX1_isIn_0 : List UInt8 := dkwX1_isIn_0 ++ []
theorem dksX1_isIn_0 : cX1_isIn.data.toList.drop 0 = dktX1_isIn_0 := by decide +kernel
theorem dX1_isIn_0 : decode cX1_isIn 0 = .ok (.lload_n 0, 1) := dk_30 (dk_at dksX1_isIn_0 0 rfl rfl)
theorem dX1_isIn_1 : decode cX1_isIn 1 = .ok (.lload_n 2, 1) := dk_32 (dk_at dksX1_isIn_0 1 rfl rfl)
theorem dX1_isIn_2 : decode cX1_isIn 2 = .ok (.lcmp, 1) := dk_148 (dk_at dksX1_isIn_0 2 rfl rfl)
theorem dX1_isIn_3 : decode cX1_isIn 3 = .ok (.ifCond .lt 14, 3) := dk_155 0 14 (dk_at dksX1_isIn_0 3 rfl rfl)
theorem dX1_isIn_6 : decode cX1_isIn 6 = .ok (.lload_n 0, 1) := dk_30 (dk_at dksX1_isIn_0 6 rfl rfl)
theorem dX1_isIn_7 : decode cX1_isIn 7 = .ok (.lload 4, 2) := dk_22 4 (dk_at dksX1_isIn_0 7 rfl rfl)
theorem dX1_isIn_9 : decode cX1_isIn 9 = .ok (.lcmp, 1) := dk_148 (dk_at dksX1_isIn_0 9 rfl rfl)
theorem dX1_isIn_10 : decode cX1_isIn 10 = .ok (.ifCond .gt 7, 3) := dk_157 0 7 (dk_at dksX1_isIn_0 10 rfl rfl)
theorem dX1_isIn_13 : decode cX1_isIn 13 = .ok (.iconst 1, 1) := dk_4 (dk_at dksX1_isIn_0 13 rfl rfl)
theorem dX1_isIn_14 : decode cX1_isIn 14 = .ok (.goto 4, 3) := dk_167 0 4 (dk_at dksX1_isIn_0 14 rfl rfl)
theorem dX1_isIn_17 : decode cX1_isIn 17 = .ok (.iconst 0, 1) := dk_3 (dk_at dksX1_isIn_0 17 rfl rfl)
theorem dX1_isIn_18 : decode cX1_isIn 18 = .ok (.ireturn, 1) := dk_172 (dk_at dksX1_isIn_0 18 rfl rfl)
abbrev cX1_fault : ByteArray := prog_1_method_8_code
def yX1_fault : MethodName := ⟨RX1, "fault", "(I)I"⟩
def dkwX1_fault_1 : List UInt8 := [172]
abbrev dktX1_fault_1 : List UInt8 := dkwX1_fault_1 ++ []
def dkwX1_fault_0 : List UInt8 := [27, 154, 0, 10, 42, 180, 0, 78, 167, 0, 16, 27, 4, 160, 0, 10, 42, 180, 0, 13, 167, 0, 4, 2]
abbrev dktX1_fault_0 : List UInt8 := dkwX1_fault_0 ++ dktX1_fault_1
theorem dksX1_fault_0 : cX1_fault.data.toList.drop 0 = dktX1_fault_0 := by decide +kernel
theorem dksX1_fault_1 : cX1_fault.data.toList.drop 24 = dktX1_fault_1 := dk_seg dksX1_fault_0 24 rfl rfl
theorem dX1_fault_0 : decode cX1_fault 0 = .ok (.iload_n 1, 1) := dk_27 (dk_at dksX1_fault_0 0 rfl rfl)
theorem dX1_fault_1 : decode cX1_fault 1 = .ok (.ifCond .ne 10, 3) := dk_154 0 10 (dk_at dksX1_fault_0 1 rfl rfl)
theorem dX1_fault_4 : decode cX1_fault 4 = .ok (.aload_n 0, 1) := dk_42 (dk_at dksX1_fault_0 4 rfl rfl)
theorem dX1_fault_5 : decode cX1_fault 5 = .ok (.getfield 78, 3) := dk_180 0 78 (dk_at dksX1_fault_0 5 rfl rfl)
theorem dX1_fault_8 : decode cX1_fault 8 = .ok (.goto 16, 3) := dk_167 0 16 (dk_at dksX1_fault_0 8 rfl rfl)
theorem dX1_fault_11 : decode cX1_fault 11 = .ok (.iload_n 1, 1) := dk_27 (dk_at dksX1_fault_0 11 rfl rfl)
theorem dX1_fault_12 : decode cX1_fault 12 = .ok (.iconst 1, 1) := dk_4 (dk_at dksX1_fault_0 12 rfl rfl)
theorem dX1_fault_13 : decode cX1_fault 13 = .ok (.if_icmp .ne 10, 3) := dk_160 0 10 (dk_at dksX1_fault_0 13 rfl rfl)
theorem dX1_fault_16 : decode cX1_fault 16 = .ok (.aload_n 0, 1) := dk_42 (dk_at dksX1_fault_0 16 rfl rfl)
theorem dX1_fault_17 : decode cX1_fault 17 = .ok (.getfield 13, 3) := dk_180 0 13 (dk_at dksX1_fault_0 17 rfl rfl)
theorem dX1_fault_20 : decode cX1_fault 20 = .ok (.goto 4, 3) := dk_167 0 4 (dk_at dksX1_fault_0 20 rfl rfl)
theorem dX1_fault_23 : decode cX1_fault 23 = .ok (.iconst (-1), 1) := dk_2 (dk_at dksX1_fault_0 23 rfl rfl)
theorem dX1_fault_24 : decode cX1_fault 24 = .ok (.ireturn, 1) := dk_172 (dk_at dksX1_fault_1 0 rfl rfl)
abbrev cX1_named : ByteArray := prog_1_method_9_code
def yX1_named : MethodName := ⟨RX1, "named", "(II)I"⟩
def dkwX1_named_1 : List UInt8 := [28, 182, 0, 105, 167, 0, 4, 2, 172]
abbrev dktX1_named_1 : List UInt8 := dkwX1_named_1 ++ []
def dkwX1_named_0 : List UInt8 := [27, 154, 0, 14, 42, 180, 0, 20, 28, 182, 0, 101, 167, 0, 20, 27, 4, 160, 0, 14, 42, 180, 0, 20]
abbrev dktX1_named_0 : List UInt8 := dkwX1_named_0 ++ dktX1_named_1
theorem dksX1_named_0 : cX1_named.data.toList.drop 0 = dktX1_named_0 := by decide +kernel
theorem dksX1_named_1 : cX1_named.data.toList.drop 24 = dktX1_named_1 := dk_seg dksX1_named_0 24 rfl rfl
theorem dX1_named_0 : decode cX1_named 0 = .ok (.iload_n 1, 1) := dk_27 (dk_at dksX1_named_0 0 rfl rfl)
theorem dX1_named_1 : decode cX1_named 1 = .ok (.ifCond .ne 14, 3) := dk_154 0 14 (dk_at dksX1_named_0 1 rfl rfl)
theorem dX1_named_4 : decode cX1_named 4 = .ok (.aload_n 0, 1) := dk_42 (dk_at dksX1_named_0 4 rfl rfl)
theorem dX1_named_5 : decode cX1_named 5 = .ok (.getfield 20, 3) := dk_180 0 20 (dk_at dksX1_named_0 5 rfl rfl)
theorem dX1_named_8 : decode cX1_named 8 = .ok (.iload_n 2, 1) := dk_28 (dk_at dksX1_named_0 8 rfl rfl)
theorem dX1_named_9 : decode cX1_named 9 = .ok (.invokevirtual 101, 3) := dk_182 0 101 (dk_at dksX1_named_0 9 rfl rfl)
theorem dX1_named_12 : decode cX1_named 12 = .ok (.goto 20, 3) := dk_167 0 20 (dk_at dksX1_named_0 12 rfl rfl)
theorem dX1_named_15 : decode cX1_named 15 = .ok (.iload_n 1, 1) := dk_27 (dk_at dksX1_named_0 15 rfl rfl)
theorem dX1_named_16 : decode cX1_named 16 = .ok (.iconst 1, 1) := dk_4 (dk_at dksX1_named_0 16 rfl rfl)
theorem dX1_named_17 : decode cX1_named 17 = .ok (.if_icmp .ne 14, 3) := dk_160 0 14 (dk_at dksX1_named_0 17 rfl rfl)
theorem dX1_named_20 : decode cX1_named 20 = .ok (.aload_n 0, 1) := dk_42 (dk_at dksX1_named_0 20 rfl rfl)
theorem dX1_named_21 : decode cX1_named 21 = .ok (.getfield 20, 3) := dk_180 0 20 (dk_at dksX1_named_0 21 rfl rfl)
theorem dX1_named_24 : decode cX1_named 24 = .ok (.iload_n 2, 1) := dk_28 (dk_at dksX1_named_1 0 rfl rfl)
theorem dX1_named_25 : decode cX1_named 25 = .ok (.invokevirtual 105, 3) := dk_182 0 105 (dk_at dksX1_named_1 1 rfl rfl)
theorem dX1_named_28 : decode cX1_named 28 = .ok (.goto 4, 3) := dk_167 0 4 (dk_at dksX1_named_1 4 rfl rfl)
theorem dX1_named_31 : decode cX1_named 31 = .ok (.iconst (-1), 1) := dk_2 (dk_at dksX1_named_1 7 rfl rfl)
theorem dX1_named_32 : decode cX1_named 32 = .ok (.ireturn, 1) := dk_172 (dk_at dksX1_named_1 8 rfl rfl)
abbrev cX1_undo : ByteArray := prog_1_method_17_code
def yX1_undo : MethodName := ⟨RX1, "undo", "()I"⟩
def dkwX1_undo_1 : List UInt8 := [180, 0, 61, 42, 180, 1, 13, 50, 182, 1, 25, 87, 42, 180, 1, 13, 172]
abbrev dktX1_undo_1 : List UInt8 := dkwX1_undo_1 ++ []
def dkwX1_undo_0 : List UInt8 := [42, 180, 1, 13, 154, 0, 5, 2, 172, 42, 89, 180, 1, 13, 4, 100, 181, 1, 13, 42, 180, 0, 51, 42]
abbrev dktX1_undo_0 : List UInt8 := dkwX1_undo_0 ++ dktX1_undo_1
theorem dksX1_undo_0 : cX1_undo.data.toList.drop 0 = dktX1_undo_0 := by decide +kernel
theorem dksX1_undo_1 : cX1_undo.data.toList.drop 24 = dktX1_undo_1 := dk_seg dksX1_undo_0 24 rfl rfl
theorem dX1_undo_0 : decode cX1_undo 0 = .ok (.aload_n 0, 1) := dk_42 (dk_at dksX1_undo_0 0 rfl rfl)
theorem dX1_undo_1 : decode cX1_undo 1 = .ok (.getfield 269, 3) := dk_180 1 13 (dk_at dksX1_undo_0 1 rfl rfl)
theorem dX1_undo_4 : decode cX1_undo 4 = .ok (.ifCond .ne 5, 3) := dk_154 0 5 (dk_at dksX1_undo_0 4 rfl rfl)
theorem dX1_undo_7 : decode cX1_undo 7 = .ok (.iconst (-1), 1) := dk_2 (dk_at dksX1_undo_0 7 rfl rfl)
theorem dX1_undo_8 : decode cX1_undo 8 = .ok (.ireturn, 1) := dk_172 (dk_at dksX1_undo_0 8 rfl rfl)
theorem dX1_undo_9 : decode cX1_undo 9 = .ok (.aload_n 0, 1) := dk_42 (dk_at dksX1_undo_0 9 rfl rfl)
theorem dX1_undo_10 : decode cX1_undo 10 = .ok (.dup, 1) := dk_89 (dk_at dksX1_undo_0 10 rfl rfl)
theorem dX1_undo_11 : decode cX1_undo 11 = .ok (.getfield 269, 3) := dk_180 1 13 (dk_at dksX1_undo_0 11 rfl rfl)
theorem dX1_undo_14 : decode cX1_undo 14 = .ok (.iconst 1, 1) := dk_4 (dk_at dksX1_undo_0 14 rfl rfl)
theorem dX1_undo_15 : decode cX1_undo 15 = .ok (.isub, 1) := dk_100 (dk_at dksX1_undo_0 15 rfl rfl)
theorem dX1_undo_16 : decode cX1_undo 16 = .ok (.putfield 269, 3) := dk_181 1 13 (dk_at dksX1_undo_0 16 rfl rfl)
theorem dX1_undo_19 : decode cX1_undo 19 = .ok (.aload_n 0, 1) := dk_42 (dk_at dksX1_undo_0 19 rfl rfl)
theorem dX1_undo_20 : decode cX1_undo 20 = .ok (.getfield 51, 3) := dk_180 0 51 (dk_at dksX1_undo_0 20 rfl rfl)
theorem dX1_undo_23 : decode cX1_undo 23 = .ok (.aload_n 0, 1) := dk_42 (dk_at dksX1_undo_0 23 rfl rfl)
theorem dX1_undo_24 : decode cX1_undo 24 = .ok (.getfield 61, 3) := dk_180 0 61 (dk_at dksX1_undo_1 0 rfl rfl)
theorem dX1_undo_27 : decode cX1_undo 27 = .ok (.aload_n 0, 1) := dk_42 (dk_at dksX1_undo_1 3 rfl rfl)
theorem dX1_undo_28 : decode cX1_undo 28 = .ok (.getfield 269, 3) := dk_180 1 13 (dk_at dksX1_undo_1 4 rfl rfl)
theorem dX1_undo_31 : decode cX1_undo 31 = .ok (.aaload, 1) := dk_50 (dk_at dksX1_undo_1 7 rfl rfl)
theorem dX1_undo_32 : decode cX1_undo 32 = .ok (.invokevirtual 281, 3) := dk_182 1 25 (dk_at dksX1_undo_1 8 rfl rfl)
theorem dX1_undo_35 : decode cX1_undo 35 = .ok (.pop, 1) := dk_87 (dk_at dksX1_undo_1 11 rfl rfl)
theorem dX1_undo_36 : decode cX1_undo 36 = .ok (.aload_n 0, 1) := dk_42 (dk_at dksX1_undo_1 12 rfl rfl)
theorem dX1_undo_37 : decode cX1_undo 37 = .ok (.getfield 269, 3) := dk_180 1 13 (dk_at dksX1_undo_1 13 rfl rfl)
theorem dX1_undo_40 : decode cX1_undo 40 = .ok (.ireturn, 1) := dk_172 (dk_at dksX1_undo_1 16 rfl rfl)
abbrev cX1_keep : ByteArray := prog_1_method_18_code
def yX1_keep : MethodName := ⟨RX1, "keep", "()I"⟩
def dkwX1_keep_1 : List UInt8 := [172]
abbrev dktX1_keep_1 : List UInt8 := dkwX1_keep_1 ++ []
def dkwX1_keep_0 : List UInt8 := [42, 180, 0, 55, 42, 180, 0, 51, 182, 1, 25, 87, 42, 4, 181, 1, 16, 42, 180, 0, 51, 180, 0, 108]
abbrev dktX1_keep_0 : List UInt8 := dkwX1_keep_0 ++ dktX1_keep_1
theorem dksX1_keep_0 : cX1_keep.data.toList.drop 0 = dktX1_keep_0 := by decide +kernel
theorem dksX1_keep_1 : cX1_keep.data.toList.drop 24 = dktX1_keep_1 := dk_seg dksX1_keep_0 24 rfl rfl
theorem dX1_keep_0 : decode cX1_keep 0 = .ok (.aload_n 0, 1) := dk_42 (dk_at dksX1_keep_0 0 rfl rfl)
theorem dX1_keep_1 : decode cX1_keep 1 = .ok (.getfield 55, 3) := dk_180 0 55 (dk_at dksX1_keep_0 1 rfl rfl)
theorem dX1_keep_4 : decode cX1_keep 4 = .ok (.aload_n 0, 1) := dk_42 (dk_at dksX1_keep_0 4 rfl rfl)
theorem dX1_keep_5 : decode cX1_keep 5 = .ok (.getfield 51, 3) := dk_180 0 51 (dk_at dksX1_keep_0 5 rfl rfl)
theorem dX1_keep_8 : decode cX1_keep 8 = .ok (.invokevirtual 281, 3) := dk_182 1 25 (dk_at dksX1_keep_0 8 rfl rfl)
theorem dX1_keep_11 : decode cX1_keep 11 = .ok (.pop, 1) := dk_87 (dk_at dksX1_keep_0 11 rfl rfl)
theorem dX1_keep_12 : decode cX1_keep 12 = .ok (.aload_n 0, 1) := dk_42 (dk_at dksX1_keep_0 12 rfl rfl)
theorem dX1_keep_13 : decode cX1_keep 13 = .ok (.iconst 1, 1) := dk_4 (dk_at dksX1_keep_0 13 rfl rfl)
theorem dX1_keep_14 : decode cX1_keep 14 = .ok (.putfield 272, 3) := dk_181 1 16 (dk_at dksX1_keep_0 14 rfl rfl)
theorem dX1_keep_17 : decode cX1_keep 17 = .ok (.aload_n 0, 1) := dk_42 (dk_at dksX1_keep_0 17 rfl rfl)
theorem dX1_keep_18 : decode cX1_keep 18 = .ok (.getfield 51, 3) := dk_180 0 51 (dk_at dksX1_keep_0 18 rfl rfl)
theorem dX1_keep_21 : decode cX1_keep 21 = .ok (.getfield 108, 3) := dk_180 0 108 (dk_at dksX1_keep_0 21 rfl rfl)
theorem dX1_keep_24 : decode cX1_keep 24 = .ok (.ireturn, 1) := dk_172 (dk_at dksX1_keep_1 0 rfl rfl)
abbrev cX1_back : ByteArray := prog_1_method_19_code
def yX1_back : MethodName := ⟨RX1, "back", "()I"⟩
def dkwX1_back_1 : List UInt8 := [181, 1, 13, 42, 180, 0, 51, 180, 0, 108, 172]
abbrev dktX1_back_1 : List UInt8 := dkwX1_back_1 ++ []
def dkwX1_back_0 : List UInt8 := [42, 180, 1, 16, 154, 0, 5, 2, 172, 42, 180, 0, 51, 42, 180, 0, 55, 182, 1, 25, 87, 42, 3]
abbrev dktX1_back_0 : List UInt8 := dkwX1_back_0 ++ dktX1_back_1
theorem dksX1_back_0 : cX1_back.data.toList.drop 0 = dktX1_back_0 := by decide +kernel
theorem dksX1_back_1 : cX1_back.data.toList.drop 23 = dktX1_back_1 := dk_seg dksX1_back_0 23 rfl rfl
theorem dX1_back_0 : decode cX1_back 0 = .ok (.aload_n 0, 1) := dk_42 (dk_at dksX1_back_0 0 rfl rfl)
theorem dX1_back_1 : decode cX1_back 1 = .ok (.getfield 272, 3) := dk_180 1 16 (dk_at dksX1_back_0 1 rfl rfl)
theorem dX1_back_4 : decode cX1_back 4 = .ok (.ifCond .ne 5, 3) := dk_154 0 5 (dk_at dksX1_back_0 4 rfl rfl)
theorem dX1_back_7 : decode cX1_back 7 = .ok (.iconst (-1), 1) := dk_2 (dk_at dksX1_back_0 7 rfl rfl)
theorem dX1_back_8 : decode cX1_back 8 = .ok (.ireturn, 1) := dk_172 (dk_at dksX1_back_0 8 rfl rfl)
theorem dX1_back_9 : decode cX1_back 9 = .ok (.aload_n 0, 1) := dk_42 (dk_at dksX1_back_0 9 rfl rfl)
theorem dX1_back_10 : decode cX1_back 10 = .ok (.getfield 51, 3) := dk_180 0 51 (dk_at dksX1_back_0 10 rfl rfl)
theorem dX1_back_13 : decode cX1_back 13 = .ok (.aload_n 0, 1) := dk_42 (dk_at dksX1_back_0 13 rfl rfl)
theorem dX1_back_14 : decode cX1_back 14 = .ok (.getfield 55, 3) := dk_180 0 55 (dk_at dksX1_back_0 14 rfl rfl)
theorem dX1_back_17 : decode cX1_back 17 = .ok (.invokevirtual 281, 3) := dk_182 1 25 (dk_at dksX1_back_0 17 rfl rfl)
theorem dX1_back_20 : decode cX1_back 20 = .ok (.pop, 1) := dk_87 (dk_at dksX1_back_0 20 rfl rfl)
theorem dX1_back_21 : decode cX1_back 21 = .ok (.aload_n 0, 1) := dk_42 (dk_at dksX1_back_0 21 rfl rfl)
theorem dX1_back_22 : decode cX1_back 22 = .ok (.iconst 0, 1) := dk_3 (dk_at dksX1_back_0 22 rfl rfl)
theorem dX1_back_23 : decode cX1_back 23 = .ok (.putfield 269, 3) := dk_181 1 13 (dk_at dksX1_back_1 0 rfl rfl)
theorem dX1_back_26 : decode cX1_back 26 = .ok (.aload_n 0, 1) := dk_42 (dk_at dksX1_back_1 3 rfl rfl)
theorem dX1_back_27 : decode cX1_back 27 = .ok (.getfield 51, 3) := dk_180 0 51 (dk_at dksX1_back_1 4 rfl rfl)
theorem dX1_back_30 : decode cX1_back 30 = .ok (.getfield 108, 3) := dk_180 0 108 (dk_at dksX1_back_1 7 rfl rfl)
theorem dX1_back_33 : decode cX1_back 33 = .ok (.ireturn, 1) := dk_172 (dk_at dksX1_back_1 10 rfl rfl)
abbrev cX1_tick : ByteArray := prog_1_method_20_code
def yX1_tick : MethodName := ⟨RX1, "tick", "(I)I"⟩
def dkwX1_tick_2 : List UInt8 := [180, 0, 51, 182, 1, 34, 132, 2, 1, 167, 255, 240, 42, 180, 0, 51, 180, 0, 108, 172]
abbrev dktX1_tick_2 : List UInt8 := dkwX1_tick_2 ++ []
def dkwX1_tick_1 : List UInt8 := [17, 39, 15, 164, 0, 6, 16, 254, 172, 42, 182, 1, 31, 3, 61, 28, 27, 162, 0, 17, 42, 42]
abbrev dktX1_tick_1 : List UInt8 := dkwX1_tick_1 ++ dktX1_tick_2
def dkwX1_tick_0 : List UInt8 := [27, 133, 10, 20, 1, 29, 184, 0, 74, 154, 0, 5, 2, 172, 42, 180, 0, 51, 180, 0, 108, 27, 96]
abbrev dktX1_tick_0 : List UInt8 := dkwX1_tick_0 ++ dktX1_tick_1
theorem dksX1_tick_0 : cX1_tick.data.toList.drop 0 = dktX1_tick_0 := by decide +kernel
theorem dksX1_tick_1 : cX1_tick.data.toList.drop 23 = dktX1_tick_1 := dk_seg dksX1_tick_0 23 rfl rfl
theorem dksX1_tick_2 : cX1_tick.data.toList.drop 45 = dktX1_tick_2 := dk_seg dksX1_tick_1 22 rfl rfl
theorem dX1_tick_0 : decode cX1_tick 0 = .ok (.iload_n 1, 1) := dk_27 (dk_at dksX1_tick_0 0 rfl rfl)
theorem dX1_tick_1 : decode cX1_tick 1 = .ok (.i2l, 1) := dk_133 (dk_at dksX1_tick_0 1 rfl rfl)
theorem dX1_tick_2 : decode cX1_tick 2 = .ok (.lconst 1, 1) := dk_10 (dk_at dksX1_tick_0 2 rfl rfl)
theorem dX1_tick_3 : decode cX1_tick 3 = .ok (.ldc2_w 285, 3) := dk_20 1 29 (dk_at dksX1_tick_0 3 rfl rfl)
theorem dX1_tick_6 : decode cX1_tick 6 = .ok (.invokestatic 74, 3) := dk_184 0 74 (dk_at dksX1_tick_0 6 rfl rfl)
theorem dX1_tick_9 : decode cX1_tick 9 = .ok (.ifCond .ne 5, 3) := dk_154 0 5 (dk_at dksX1_tick_0 9 rfl rfl)
theorem dX1_tick_12 : decode cX1_tick 12 = .ok (.iconst (-1), 1) := dk_2 (dk_at dksX1_tick_0 12 rfl rfl)
theorem dX1_tick_13 : decode cX1_tick 13 = .ok (.ireturn, 1) := dk_172 (dk_at dksX1_tick_0 13 rfl rfl)
theorem dX1_tick_14 : decode cX1_tick 14 = .ok (.aload_n 0, 1) := dk_42 (dk_at dksX1_tick_0 14 rfl rfl)
theorem dX1_tick_15 : decode cX1_tick 15 = .ok (.getfield 51, 3) := dk_180 0 51 (dk_at dksX1_tick_0 15 rfl rfl)
theorem dX1_tick_18 : decode cX1_tick 18 = .ok (.getfield 108, 3) := dk_180 0 108 (dk_at dksX1_tick_0 18 rfl rfl)
theorem dX1_tick_21 : decode cX1_tick 21 = .ok (.iload_n 1, 1) := dk_27 (dk_at dksX1_tick_0 21 rfl rfl)
theorem dX1_tick_22 : decode cX1_tick 22 = .ok (.iadd, 1) := dk_96 (dk_at dksX1_tick_0 22 rfl rfl)
theorem dX1_tick_23 : decode cX1_tick 23 = .ok (.sipush 9999, 3) := dk_17 39 15 (dk_at dksX1_tick_1 0 rfl rfl)
theorem dX1_tick_26 : decode cX1_tick 26 = .ok (.if_icmp .le 6, 3) := dk_164 0 6 (dk_at dksX1_tick_1 3 rfl rfl)
theorem dX1_tick_29 : decode cX1_tick 29 = .ok (.bipush (-2), 2) := dk_16 254 (dk_at dksX1_tick_1 6 rfl rfl)
theorem dX1_tick_31 : decode cX1_tick 31 = .ok (.ireturn, 1) := dk_172 (dk_at dksX1_tick_1 8 rfl rfl)
theorem dX1_tick_32 : decode cX1_tick 32 = .ok (.aload_n 0, 1) := dk_42 (dk_at dksX1_tick_1 9 rfl rfl)
theorem dX1_tick_33 : decode cX1_tick 33 = .ok (.invokevirtual 287, 3) := dk_182 1 31 (dk_at dksX1_tick_1 10 rfl rfl)
theorem dX1_tick_36 : decode cX1_tick 36 = .ok (.iconst 0, 1) := dk_3 (dk_at dksX1_tick_1 13 rfl rfl)
theorem dX1_tick_37 : decode cX1_tick 37 = .ok (.istore_n 2, 1) := dk_61 (dk_at dksX1_tick_1 14 rfl rfl)
theorem dX1_tick_38 : decode cX1_tick 38 = .ok (.iload_n 2, 1) := dk_28 (dk_at dksX1_tick_1 15 rfl rfl)
theorem dX1_tick_39 : decode cX1_tick 39 = .ok (.iload_n 1, 1) := dk_27 (dk_at dksX1_tick_1 16 rfl rfl)
theorem dX1_tick_40 : decode cX1_tick 40 = .ok (.if_icmp .ge 17, 3) := dk_162 0 17 (dk_at dksX1_tick_1 17 rfl rfl)
theorem dX1_tick_43 : decode cX1_tick 43 = .ok (.aload_n 0, 1) := dk_42 (dk_at dksX1_tick_1 20 rfl rfl)
theorem dX1_tick_44 : decode cX1_tick 44 = .ok (.aload_n 0, 1) := dk_42 (dk_at dksX1_tick_1 21 rfl rfl)
theorem dX1_tick_45 : decode cX1_tick 45 = .ok (.getfield 51, 3) := dk_180 0 51 (dk_at dksX1_tick_2 0 rfl rfl)
theorem dX1_tick_48 : decode cX1_tick 48 = .ok (.invokevirtual 290, 3) := dk_182 1 34 (dk_at dksX1_tick_2 3 rfl rfl)
theorem dX1_tick_51 : decode cX1_tick 51 = .ok (.iinc 2 1, 3) := dk_132 2 1 (dk_at dksX1_tick_2 6 rfl rfl)
theorem dX1_tick_54 : decode cX1_tick 54 = .ok (.goto (-16), 3) := dk_167 255 240 (dk_at dksX1_tick_2 9 rfl rfl)
theorem dX1_tick_57 : decode cX1_tick 57 = .ok (.aload_n 0, 1) := dk_42 (dk_at dksX1_tick_2 12 rfl rfl)
theorem dX1_tick_58 : decode cX1_tick 58 = .ok (.getfield 51, 3) := dk_180 0 51 (dk_at dksX1_tick_2 13 rfl rfl)
theorem dX1_tick_61 : decode cX1_tick 61 = .ok (.getfield 108, 3) := dk_180 0 108 (dk_at dksX1_tick_2 16 rfl rfl)
theorem dX1_tick_64 : decode cX1_tick 64 = .ok (.ireturn, 1) := dk_172 (dk_at dksX1_tick_2 19 rfl rfl)
abbrev cX1_canUndo : ByteArray := prog_1_method_16_code
def yX1_canUndo : MethodName := ⟨RX1, "canUndo", "()V"⟩
def dkwX1_canUndo_4 : List UInt8 := [87, 42, 89, 180, 1, 13, 4, 96, 181, 1, 13, 177]
abbrev dktX1_canUndo_4 : List UInt8 := dkwX1_canUndo_4 ++ []
def dkwX1_canUndo_3 : List UInt8 := [187, 0, 48, 89, 183, 0, 50, 83, 42, 180, 0, 61, 42, 180, 1, 13, 50, 42, 180, 0, 51, 182, 1, 25]
abbrev dktX1_canUndo_3 : List UInt8 := dkwX1_canUndo_3 ++ dktX1_canUndo_4
def dkwX1_canUndo_2 : List UInt8 := [181, 1, 13, 42, 180, 0, 61, 42, 180, 1, 13, 50, 199, 0, 19, 42, 180, 0, 61, 42, 180, 1, 13]
abbrev dktX1_canUndo_2 : List UInt8 := dkwX1_canUndo_2 ++ dktX1_canUndo_3
def dkwX1_canUndo_1 : List UInt8 := [180, 0, 61, 3, 16, 19, 184, 1, 19, 42, 180, 0, 61, 16, 19, 43, 83, 42, 89, 180, 1, 13, 4, 100]
abbrev dktX1_canUndo_1 : List UInt8 := dkwX1_canUndo_1 ++ dktX1_canUndo_2
def dkwX1_canUndo_0 : List UInt8 := [42, 180, 1, 13, 16, 20, 160, 0, 43, 42, 180, 0, 61, 3, 50, 76, 42, 180, 0, 61, 4, 42]
abbrev dktX1_canUndo_0 : List UInt8 := dkwX1_canUndo_0 ++ dktX1_canUndo_1
theorem dksX1_canUndo_0 : cX1_canUndo.data.toList.drop 0 = dktX1_canUndo_0 := by decide +kernel
theorem dksX1_canUndo_1 : cX1_canUndo.data.toList.drop 22 = dktX1_canUndo_1 := dk_seg dksX1_canUndo_0 22 rfl rfl
theorem dksX1_canUndo_2 : cX1_canUndo.data.toList.drop 46 = dktX1_canUndo_2 := dk_seg dksX1_canUndo_1 24 rfl rfl
theorem dksX1_canUndo_3 : cX1_canUndo.data.toList.drop 69 = dktX1_canUndo_3 := dk_seg dksX1_canUndo_2 23 rfl rfl
theorem dksX1_canUndo_4 : cX1_canUndo.data.toList.drop 93 = dktX1_canUndo_4 := dk_seg dksX1_canUndo_3 24 rfl rfl
theorem dX1_canUndo_0 : decode cX1_canUndo 0 = .ok (.aload_n 0, 1) := dk_42 (dk_at dksX1_canUndo_0 0 rfl rfl)
theorem dX1_canUndo_1 : decode cX1_canUndo 1 = .ok (.getfield 269, 3) := dk_180 1 13 (dk_at dksX1_canUndo_0 1 rfl rfl)
theorem dX1_canUndo_4 : decode cX1_canUndo 4 = .ok (.bipush 20, 2) := dk_16 20 (dk_at dksX1_canUndo_0 4 rfl rfl)
theorem dX1_canUndo_6 : decode cX1_canUndo 6 = .ok (.if_icmp .ne 43, 3) := dk_160 0 43 (dk_at dksX1_canUndo_0 6 rfl rfl)
theorem dX1_canUndo_9 : decode cX1_canUndo 9 = .ok (.aload_n 0, 1) := dk_42 (dk_at dksX1_canUndo_0 9 rfl rfl)
theorem dX1_canUndo_10 : decode cX1_canUndo 10 = .ok (.getfield 61, 3) := dk_180 0 61 (dk_at dksX1_canUndo_0 10 rfl rfl)
theorem dX1_canUndo_13 : decode cX1_canUndo 13 = .ok (.iconst 0, 1) := dk_3 (dk_at dksX1_canUndo_0 13 rfl rfl)
theorem dX1_canUndo_14 : decode cX1_canUndo 14 = .ok (.aaload, 1) := dk_50 (dk_at dksX1_canUndo_0 14 rfl rfl)
theorem dX1_canUndo_15 : decode cX1_canUndo 15 = .ok (.astore_n 1, 1) := dk_76 (dk_at dksX1_canUndo_0 15 rfl rfl)
theorem dX1_canUndo_16 : decode cX1_canUndo 16 = .ok (.aload_n 0, 1) := dk_42 (dk_at dksX1_canUndo_0 16 rfl rfl)
theorem dX1_canUndo_17 : decode cX1_canUndo 17 = .ok (.getfield 61, 3) := dk_180 0 61 (dk_at dksX1_canUndo_0 17 rfl rfl)
theorem dX1_canUndo_20 : decode cX1_canUndo 20 = .ok (.iconst 1, 1) := dk_4 (dk_at dksX1_canUndo_0 20 rfl rfl)
theorem dX1_canUndo_21 : decode cX1_canUndo 21 = .ok (.aload_n 0, 1) := dk_42 (dk_at dksX1_canUndo_0 21 rfl rfl)
theorem dX1_canUndo_22 : decode cX1_canUndo 22 = .ok (.getfield 61, 3) := dk_180 0 61 (dk_at dksX1_canUndo_1 0 rfl rfl)
theorem dX1_canUndo_25 : decode cX1_canUndo 25 = .ok (.iconst 0, 1) := dk_3 (dk_at dksX1_canUndo_1 3 rfl rfl)
theorem dX1_canUndo_26 : decode cX1_canUndo 26 = .ok (.bipush 19, 2) := dk_16 19 (dk_at dksX1_canUndo_1 4 rfl rfl)
theorem dX1_canUndo_28 : decode cX1_canUndo 28 = .ok (.invokestatic 275, 3) := dk_184 1 19 (dk_at dksX1_canUndo_1 6 rfl rfl)
theorem dX1_canUndo_31 : decode cX1_canUndo 31 = .ok (.aload_n 0, 1) := dk_42 (dk_at dksX1_canUndo_1 9 rfl rfl)
theorem dX1_canUndo_32 : decode cX1_canUndo 32 = .ok (.getfield 61, 3) := dk_180 0 61 (dk_at dksX1_canUndo_1 10 rfl rfl)
theorem dX1_canUndo_35 : decode cX1_canUndo 35 = .ok (.bipush 19, 2) := dk_16 19 (dk_at dksX1_canUndo_1 13 rfl rfl)
theorem dX1_canUndo_37 : decode cX1_canUndo 37 = .ok (.aload_n 1, 1) := dk_43 (dk_at dksX1_canUndo_1 15 rfl rfl)
theorem dX1_canUndo_38 : decode cX1_canUndo 38 = .ok (.aastore, 1) := dk_83 (dk_at dksX1_canUndo_1 16 rfl rfl)
theorem dX1_canUndo_39 : decode cX1_canUndo 39 = .ok (.aload_n 0, 1) := dk_42 (dk_at dksX1_canUndo_1 17 rfl rfl)
theorem dX1_canUndo_40 : decode cX1_canUndo 40 = .ok (.dup, 1) := dk_89 (dk_at dksX1_canUndo_1 18 rfl rfl)
theorem dX1_canUndo_41 : decode cX1_canUndo 41 = .ok (.getfield 269, 3) := dk_180 1 13 (dk_at dksX1_canUndo_1 19 rfl rfl)
theorem dX1_canUndo_44 : decode cX1_canUndo 44 = .ok (.iconst 1, 1) := dk_4 (dk_at dksX1_canUndo_1 22 rfl rfl)
theorem dX1_canUndo_45 : decode cX1_canUndo 45 = .ok (.isub, 1) := dk_100 (dk_at dksX1_canUndo_1 23 rfl rfl)
theorem dX1_canUndo_46 : decode cX1_canUndo 46 = .ok (.putfield 269, 3) := dk_181 1 13 (dk_at dksX1_canUndo_2 0 rfl rfl)
theorem dX1_canUndo_49 : decode cX1_canUndo 49 = .ok (.aload_n 0, 1) := dk_42 (dk_at dksX1_canUndo_2 3 rfl rfl)
theorem dX1_canUndo_50 : decode cX1_canUndo 50 = .ok (.getfield 61, 3) := dk_180 0 61 (dk_at dksX1_canUndo_2 4 rfl rfl)
theorem dX1_canUndo_53 : decode cX1_canUndo 53 = .ok (.aload_n 0, 1) := dk_42 (dk_at dksX1_canUndo_2 7 rfl rfl)
theorem dX1_canUndo_54 : decode cX1_canUndo 54 = .ok (.getfield 269, 3) := dk_180 1 13 (dk_at dksX1_canUndo_2 8 rfl rfl)
theorem dX1_canUndo_57 : decode cX1_canUndo 57 = .ok (.aaload, 1) := dk_50 (dk_at dksX1_canUndo_2 11 rfl rfl)
theorem dX1_canUndo_58 : decode cX1_canUndo 58 = .ok (.ifnonnull 19, 3) := dk_199 0 19 (dk_at dksX1_canUndo_2 12 rfl rfl)
theorem dX1_canUndo_61 : decode cX1_canUndo 61 = .ok (.aload_n 0, 1) := dk_42 (dk_at dksX1_canUndo_2 15 rfl rfl)
theorem dX1_canUndo_62 : decode cX1_canUndo 62 = .ok (.getfield 61, 3) := dk_180 0 61 (dk_at dksX1_canUndo_2 16 rfl rfl)
theorem dX1_canUndo_65 : decode cX1_canUndo 65 = .ok (.aload_n 0, 1) := dk_42 (dk_at dksX1_canUndo_2 19 rfl rfl)
theorem dX1_canUndo_66 : decode cX1_canUndo 66 = .ok (.getfield 269, 3) := dk_180 1 13 (dk_at dksX1_canUndo_2 20 rfl rfl)
theorem dX1_canUndo_69 : decode cX1_canUndo 69 = .ok (.new 48, 3) := dk_187 0 48 (dk_at dksX1_canUndo_3 0 rfl rfl)
theorem dX1_canUndo_72 : decode cX1_canUndo 72 = .ok (.dup, 1) := dk_89 (dk_at dksX1_canUndo_3 3 rfl rfl)
theorem dX1_canUndo_73 : decode cX1_canUndo 73 = .ok (.invokespecial 50, 3) := dk_183 0 50 (dk_at dksX1_canUndo_3 4 rfl rfl)
theorem dX1_canUndo_76 : decode cX1_canUndo 76 = .ok (.aastore, 1) := dk_83 (dk_at dksX1_canUndo_3 7 rfl rfl)
theorem dX1_canUndo_77 : decode cX1_canUndo 77 = .ok (.aload_n 0, 1) := dk_42 (dk_at dksX1_canUndo_3 8 rfl rfl)
theorem dX1_canUndo_78 : decode cX1_canUndo 78 = .ok (.getfield 61, 3) := dk_180 0 61 (dk_at dksX1_canUndo_3 9 rfl rfl)
theorem dX1_canUndo_81 : decode cX1_canUndo 81 = .ok (.aload_n 0, 1) := dk_42 (dk_at dksX1_canUndo_3 12 rfl rfl)
theorem dX1_canUndo_82 : decode cX1_canUndo 82 = .ok (.getfield 269, 3) := dk_180 1 13 (dk_at dksX1_canUndo_3 13 rfl rfl)
theorem dX1_canUndo_85 : decode cX1_canUndo 85 = .ok (.aaload, 1) := dk_50 (dk_at dksX1_canUndo_3 16 rfl rfl)
theorem dX1_canUndo_86 : decode cX1_canUndo 86 = .ok (.aload_n 0, 1) := dk_42 (dk_at dksX1_canUndo_3 17 rfl rfl)
theorem dX1_canUndo_87 : decode cX1_canUndo 87 = .ok (.getfield 51, 3) := dk_180 0 51 (dk_at dksX1_canUndo_3 18 rfl rfl)
theorem dX1_canUndo_90 : decode cX1_canUndo 90 = .ok (.invokevirtual 281, 3) := dk_182 1 25 (dk_at dksX1_canUndo_3 21 rfl rfl)
theorem dX1_canUndo_93 : decode cX1_canUndo 93 = .ok (.pop, 1) := dk_87 (dk_at dksX1_canUndo_4 0 rfl rfl)
theorem dX1_canUndo_94 : decode cX1_canUndo 94 = .ok (.aload_n 0, 1) := dk_42 (dk_at dksX1_canUndo_4 1 rfl rfl)
theorem dX1_canUndo_95 : decode cX1_canUndo 95 = .ok (.dup, 1) := dk_89 (dk_at dksX1_canUndo_4 2 rfl rfl)
theorem dX1_canUndo_96 : decode cX1_canUndo 96 = .ok (.getfield 269, 3) := dk_180 1 13 (dk_at dksX1_canUndo_4 3 rfl rfl)
theorem dX1_canUndo_99 : decode cX1_canUndo 99 = .ok (.iconst 1, 1) := dk_4 (dk_at dksX1_canUndo_4 6 rfl rfl)
theorem dX1_canUndo_100 : decode cX1_canUndo 100 = .ok (.iadd, 1) := dk_96 (dk_at dksX1_canUndo_4 7 rfl rfl)
theorem dX1_canUndo_101 : decode cX1_canUndo 101 = .ok (.putfield 269, 3) := dk_181 1 13 (dk_at dksX1_canUndo_4 8 rfl rfl)
theorem dX1_canUndo_104 : decode cX1_canUndo 104 = .ok (.return_, 1) := dk_177 (dk_at dksX1_canUndo_4 11 rfl rfl)
abbrev cX1_ticks : ByteArray := prog_1_method_10_code
def yX1_ticks : MethodName := ⟨RX1, "ticks", "(LLosslessFabric$State;)V"⟩
def dkwX1_ticks_13 : List UInt8 := [132, 2, 1, 167, 255, 213, 177]
abbrev dktX1_ticks_13 : List UInt8 := dkwX1_ticks_13 ++ []
def dkwX1_ticks_12 : List UInt8 := [50, 180, 0, 122, 153, 0, 20, 43, 180, 0, 114, 28, 50, 42, 180, 0, 20, 42, 180, 0, 44, 182, 0, 175]
abbrev dktX1_ticks_12 : List UInt8 := dkwX1_ticks_12 ++ dktX1_ticks_13
def dkwX1_ticks_11 : List UInt8 := [132, 2, 1, 167, 255, 230, 3, 61, 28, 42, 180, 0, 20, 180, 0, 111, 162, 0, 38, 43, 180, 0, 114, 28]
abbrev dktX1_ticks_11 : List UInt8 := dkwX1_ticks_11 ++ dktX1_ticks_12
def dkwX1_ticks_10 : List UInt8 := [42, 180, 0, 159, 162, 0, 24, 42, 180, 0, 36, 28, 50, 180, 0, 165, 43, 185, 0, 169, 2, 0]
abbrev dktX1_ticks_10 : List UInt8 := dkwX1_ticks_10 ++ dktX1_ticks_11
def dkwX1_ticks_9 : List UInt8 := [180, 0, 20, 180, 0, 138, 162, 0, 15, 42, 43, 28, 182, 0, 162, 132, 2, 1, 167, 255, 236, 3, 61, 28]
abbrev dktX1_ticks_9 : List UInt8 := dkwX1_ticks_9 ++ dktX1_ticks_10
def dkwX1_ticks_8 : List UInt8 := [180, 0, 150, 28, 50, 182, 0, 154, 132, 2, 1, 167, 255, 233, 42, 3, 181, 0, 159, 3, 61, 28, 42]
abbrev dktX1_ticks_8 : List UInt8 := dkwX1_ticks_8 ++ dktX1_ticks_9
def dkwX1_ticks_7 : List UInt8 := [28, 182, 0, 147, 132, 2, 1, 167, 255, 236, 3, 61, 28, 42, 180, 0, 20, 180, 0, 138, 162, 0, 18, 43]
abbrev dktX1_ticks_7 : List UInt8 := dkwX1_ticks_7 ++ dktX1_ticks_8
def dkwX1_ticks_6 : List UInt8 := [182, 0, 143, 132, 2, 1, 167, 255, 236, 3, 61, 28, 42, 180, 0, 20, 180, 0, 138, 162, 0, 15, 42, 43]
abbrev dktX1_ticks_6 : List UInt8 := dkwX1_ticks_6 ++ dktX1_ticks_7
def dkwX1_ticks_5 : List UInt8 := [132, 2, 1, 167, 255, 206, 3, 61, 28, 42, 180, 0, 20, 180, 0, 138, 162, 0, 15, 42, 43, 28]
abbrev dktX1_ticks_5 : List UInt8 := dkwX1_ticks_5 ++ dktX1_ticks_6
def dkwX1_ticks_4 : List UInt8 := [180, 0, 24, 16, 8, 28, 104, 29, 96, 43, 28, 29, 182, 0, 141, 79, 132, 3, 1, 167, 255, 225]
abbrev dktX1_ticks_4 : List UInt8 := dkwX1_ticks_4 ++ dktX1_ticks_5
def dkwX1_ticks_3 : List UInt8 := [180, 0, 20, 180, 0, 138, 162, 0, 45, 3, 62, 29, 42, 180, 0, 20, 180, 0, 111, 162, 0, 26, 42]
abbrev dktX1_ticks_3 : List UInt8 := dkwX1_ticks_3 ++ dktX1_ticks_4
def dkwX1_ticks_2 : List UInt8 := [180, 0, 126, 45, 180, 0, 129, 96, 184, 0, 132, 181, 0, 126, 132, 2, 1, 167, 255, 204, 3, 61, 28, 42]
abbrev dktX1_ticks_2 : List UInt8 := dkwX1_ticks_2 ++ dktX1_ticks_3
def dkwX1_ticks_1 : List UInt8 := [180, 0, 114, 28, 50, 78, 45, 3, 181, 0, 118, 45, 180, 0, 122, 153, 0, 22, 45, 17, 4, 0, 45]
abbrev dktX1_ticks_1 : List UInt8 := dkwX1_ticks_1 ++ dktX1_ticks_2
def dkwX1_ticks_0 : List UInt8 := [43, 89, 180, 0, 108, 4, 96, 181, 0, 108, 3, 61, 28, 42, 180, 0, 20, 180, 0, 111, 162, 0, 47, 43]
abbrev dktX1_ticks_0 : List UInt8 := dkwX1_ticks_0 ++ dktX1_ticks_1
theorem dksX1_ticks_0 : cX1_ticks.data.toList.drop 0 = dktX1_ticks_0 := by decide +kernel
theorem dksX1_ticks_1 : cX1_ticks.data.toList.drop 24 = dktX1_ticks_1 := dk_seg dksX1_ticks_0 24 rfl rfl
theorem dksX1_ticks_2 : cX1_ticks.data.toList.drop 47 = dktX1_ticks_2 := dk_seg dksX1_ticks_1 23 rfl rfl
theorem dksX1_ticks_3 : cX1_ticks.data.toList.drop 71 = dktX1_ticks_3 := dk_seg dksX1_ticks_2 24 rfl rfl
theorem dksX1_ticks_4 : cX1_ticks.data.toList.drop 94 = dktX1_ticks_4 := dk_seg dksX1_ticks_3 23 rfl rfl
theorem dksX1_ticks_5 : cX1_ticks.data.toList.drop 116 = dktX1_ticks_5 := dk_seg dksX1_ticks_4 22 rfl rfl
theorem dksX1_ticks_6 : cX1_ticks.data.toList.drop 138 = dktX1_ticks_6 := dk_seg dksX1_ticks_5 22 rfl rfl
theorem dksX1_ticks_7 : cX1_ticks.data.toList.drop 162 = dktX1_ticks_7 := dk_seg dksX1_ticks_6 24 rfl rfl
theorem dksX1_ticks_8 : cX1_ticks.data.toList.drop 186 = dktX1_ticks_8 := dk_seg dksX1_ticks_7 24 rfl rfl
theorem dksX1_ticks_9 : cX1_ticks.data.toList.drop 209 = dktX1_ticks_9 := dk_seg dksX1_ticks_8 23 rfl rfl
theorem dksX1_ticks_10 : cX1_ticks.data.toList.drop 233 = dktX1_ticks_10 := dk_seg dksX1_ticks_9 24 rfl rfl
theorem dksX1_ticks_11 : cX1_ticks.data.toList.drop 255 = dktX1_ticks_11 := dk_seg dksX1_ticks_10 22 rfl rfl
theorem dksX1_ticks_12 : cX1_ticks.data.toList.drop 279 = dktX1_ticks_12 := dk_seg dksX1_ticks_11 24 rfl rfl
theorem dksX1_ticks_13 : cX1_ticks.data.toList.drop 303 = dktX1_ticks_13 := dk_seg dksX1_ticks_12 24 rfl rfl
theorem dX1_ticks_0 : decode cX1_ticks 0 = .ok (.aload_n 1, 1) := dk_43 (dk_at dksX1_ticks_0 0 rfl rfl)
theorem dX1_ticks_1 : decode cX1_ticks 1 = .ok (.dup, 1) := dk_89 (dk_at dksX1_ticks_0 1 rfl rfl)
theorem dX1_ticks_2 : decode cX1_ticks 2 = .ok (.getfield 108, 3) := dk_180 0 108 (dk_at dksX1_ticks_0 2 rfl rfl)
theorem dX1_ticks_5 : decode cX1_ticks 5 = .ok (.iconst 1, 1) := dk_4 (dk_at dksX1_ticks_0 5 rfl rfl)
theorem dX1_ticks_6 : decode cX1_ticks 6 = .ok (.iadd, 1) := dk_96 (dk_at dksX1_ticks_0 6 rfl rfl)
theorem dX1_ticks_7 : decode cX1_ticks 7 = .ok (.putfield 108, 3) := dk_181 0 108 (dk_at dksX1_ticks_0 7 rfl rfl)
theorem dX1_ticks_10 : decode cX1_ticks 10 = .ok (.iconst 0, 1) := dk_3 (dk_at dksX1_ticks_0 10 rfl rfl)
theorem dX1_ticks_11 : decode cX1_ticks 11 = .ok (.istore_n 2, 1) := dk_61 (dk_at dksX1_ticks_0 11 rfl rfl)
theorem dX1_ticks_12 : decode cX1_ticks 12 = .ok (.iload_n 2, 1) := dk_28 (dk_at dksX1_ticks_0 12 rfl rfl)
theorem dX1_ticks_13 : decode cX1_ticks 13 = .ok (.aload_n 0, 1) := dk_42 (dk_at dksX1_ticks_0 13 rfl rfl)
theorem dX1_ticks_14 : decode cX1_ticks 14 = .ok (.getfield 20, 3) := dk_180 0 20 (dk_at dksX1_ticks_0 14 rfl rfl)
theorem dX1_ticks_17 : decode cX1_ticks 17 = .ok (.getfield 111, 3) := dk_180 0 111 (dk_at dksX1_ticks_0 17 rfl rfl)
theorem dX1_ticks_20 : decode cX1_ticks 20 = .ok (.if_icmp .ge 47, 3) := dk_162 0 47 (dk_at dksX1_ticks_0 20 rfl rfl)
theorem dX1_ticks_23 : decode cX1_ticks 23 = .ok (.aload_n 1, 1) := dk_43 (dk_at dksX1_ticks_0 23 rfl rfl)
theorem dX1_ticks_24 : decode cX1_ticks 24 = .ok (.getfield 114, 3) := dk_180 0 114 (dk_at dksX1_ticks_1 0 rfl rfl)
theorem dX1_ticks_27 : decode cX1_ticks 27 = .ok (.iload_n 2, 1) := dk_28 (dk_at dksX1_ticks_1 3 rfl rfl)
theorem dX1_ticks_28 : decode cX1_ticks 28 = .ok (.aaload, 1) := dk_50 (dk_at dksX1_ticks_1 4 rfl rfl)
theorem dX1_ticks_29 : decode cX1_ticks 29 = .ok (.astore_n 3, 1) := dk_78 (dk_at dksX1_ticks_1 5 rfl rfl)
theorem dX1_ticks_30 : decode cX1_ticks 30 = .ok (.aload_n 3, 1) := dk_45 (dk_at dksX1_ticks_1 6 rfl rfl)
theorem dX1_ticks_31 : decode cX1_ticks 31 = .ok (.iconst 0, 1) := dk_3 (dk_at dksX1_ticks_1 7 rfl rfl)
theorem dX1_ticks_32 : decode cX1_ticks 32 = .ok (.putfield 118, 3) := dk_181 0 118 (dk_at dksX1_ticks_1 8 rfl rfl)
theorem dX1_ticks_35 : decode cX1_ticks 35 = .ok (.aload_n 3, 1) := dk_45 (dk_at dksX1_ticks_1 11 rfl rfl)
theorem dX1_ticks_36 : decode cX1_ticks 36 = .ok (.getfield 122, 3) := dk_180 0 122 (dk_at dksX1_ticks_1 12 rfl rfl)
theorem dX1_ticks_39 : decode cX1_ticks 39 = .ok (.ifCond .eq 22, 3) := dk_153 0 22 (dk_at dksX1_ticks_1 15 rfl rfl)
theorem dX1_ticks_42 : decode cX1_ticks 42 = .ok (.aload_n 3, 1) := dk_45 (dk_at dksX1_ticks_1 18 rfl rfl)
theorem dX1_ticks_43 : decode cX1_ticks 43 = .ok (.sipush 1024, 3) := dk_17 4 0 (dk_at dksX1_ticks_1 19 rfl rfl)
theorem dX1_ticks_46 : decode cX1_ticks 46 = .ok (.aload_n 3, 1) := dk_45 (dk_at dksX1_ticks_1 22 rfl rfl)
theorem dX1_ticks_47 : decode cX1_ticks 47 = .ok (.getfield 126, 3) := dk_180 0 126 (dk_at dksX1_ticks_2 0 rfl rfl)
theorem dX1_ticks_50 : decode cX1_ticks 50 = .ok (.aload_n 3, 1) := dk_45 (dk_at dksX1_ticks_2 3 rfl rfl)
theorem dX1_ticks_51 : decode cX1_ticks 51 = .ok (.getfield 129, 3) := dk_180 0 129 (dk_at dksX1_ticks_2 4 rfl rfl)
theorem dX1_ticks_54 : decode cX1_ticks 54 = .ok (.iadd, 1) := dk_96 (dk_at dksX1_ticks_2 7 rfl rfl)
theorem dX1_ticks_55 : decode cX1_ticks 55 = .ok (.invokestatic 132, 3) := dk_184 0 132 (dk_at dksX1_ticks_2 8 rfl rfl)
theorem dX1_ticks_58 : decode cX1_ticks 58 = .ok (.putfield 126, 3) := dk_181 0 126 (dk_at dksX1_ticks_2 11 rfl rfl)
theorem dX1_ticks_61 : decode cX1_ticks 61 = .ok (.iinc 2 1, 3) := dk_132 2 1 (dk_at dksX1_ticks_2 14 rfl rfl)
theorem dX1_ticks_64 : decode cX1_ticks 64 = .ok (.goto (-52), 3) := dk_167 255 204 (dk_at dksX1_ticks_2 17 rfl rfl)
theorem dX1_ticks_67 : decode cX1_ticks 67 = .ok (.iconst 0, 1) := dk_3 (dk_at dksX1_ticks_2 20 rfl rfl)
theorem dX1_ticks_68 : decode cX1_ticks 68 = .ok (.istore_n 2, 1) := dk_61 (dk_at dksX1_ticks_2 21 rfl rfl)
theorem dX1_ticks_69 : decode cX1_ticks 69 = .ok (.iload_n 2, 1) := dk_28 (dk_at dksX1_ticks_2 22 rfl rfl)
theorem dX1_ticks_70 : decode cX1_ticks 70 = .ok (.aload_n 0, 1) := dk_42 (dk_at dksX1_ticks_2 23 rfl rfl)
theorem dX1_ticks_71 : decode cX1_ticks 71 = .ok (.getfield 20, 3) := dk_180 0 20 (dk_at dksX1_ticks_3 0 rfl rfl)
theorem dX1_ticks_74 : decode cX1_ticks 74 = .ok (.getfield 138, 3) := dk_180 0 138 (dk_at dksX1_ticks_3 3 rfl rfl)
theorem dX1_ticks_77 : decode cX1_ticks 77 = .ok (.if_icmp .ge 45, 3) := dk_162 0 45 (dk_at dksX1_ticks_3 6 rfl rfl)
theorem dX1_ticks_80 : decode cX1_ticks 80 = .ok (.iconst 0, 1) := dk_3 (dk_at dksX1_ticks_3 9 rfl rfl)
theorem dX1_ticks_81 : decode cX1_ticks 81 = .ok (.istore_n 3, 1) := dk_62 (dk_at dksX1_ticks_3 10 rfl rfl)
theorem dX1_ticks_82 : decode cX1_ticks 82 = .ok (.iload_n 3, 1) := dk_29 (dk_at dksX1_ticks_3 11 rfl rfl)
theorem dX1_ticks_83 : decode cX1_ticks 83 = .ok (.aload_n 0, 1) := dk_42 (dk_at dksX1_ticks_3 12 rfl rfl)
theorem dX1_ticks_84 : decode cX1_ticks 84 = .ok (.getfield 20, 3) := dk_180 0 20 (dk_at dksX1_ticks_3 13 rfl rfl)
theorem dX1_ticks_87 : decode cX1_ticks 87 = .ok (.getfield 111, 3) := dk_180 0 111 (dk_at dksX1_ticks_3 16 rfl rfl)
theorem dX1_ticks_90 : decode cX1_ticks 90 = .ok (.if_icmp .ge 26, 3) := dk_162 0 26 (dk_at dksX1_ticks_3 19 rfl rfl)
theorem dX1_ticks_93 : decode cX1_ticks 93 = .ok (.aload_n 0, 1) := dk_42 (dk_at dksX1_ticks_3 22 rfl rfl)
theorem dX1_ticks_94 : decode cX1_ticks 94 = .ok (.getfield 24, 3) := dk_180 0 24 (dk_at dksX1_ticks_4 0 rfl rfl)
theorem dX1_ticks_97 : decode cX1_ticks 97 = .ok (.bipush 8, 2) := dk_16 8 (dk_at dksX1_ticks_4 3 rfl rfl)
theorem dX1_ticks_99 : decode cX1_ticks 99 = .ok (.iload_n 2, 1) := dk_28 (dk_at dksX1_ticks_4 5 rfl rfl)
theorem dX1_ticks_100 : decode cX1_ticks 100 = .ok (.imul, 1) := dk_104 (dk_at dksX1_ticks_4 6 rfl rfl)
theorem dX1_ticks_101 : decode cX1_ticks 101 = .ok (.iload_n 3, 1) := dk_29 (dk_at dksX1_ticks_4 7 rfl rfl)
theorem dX1_ticks_102 : decode cX1_ticks 102 = .ok (.iadd, 1) := dk_96 (dk_at dksX1_ticks_4 8 rfl rfl)
theorem dX1_ticks_103 : decode cX1_ticks 103 = .ok (.aload_n 1, 1) := dk_43 (dk_at dksX1_ticks_4 9 rfl rfl)
theorem dX1_ticks_104 : decode cX1_ticks 104 = .ok (.iload_n 2, 1) := dk_28 (dk_at dksX1_ticks_4 10 rfl rfl)
theorem dX1_ticks_105 : decode cX1_ticks 105 = .ok (.iload_n 3, 1) := dk_29 (dk_at dksX1_ticks_4 11 rfl rfl)
theorem dX1_ticks_106 : decode cX1_ticks 106 = .ok (.invokevirtual 141, 3) := dk_182 0 141 (dk_at dksX1_ticks_4 12 rfl rfl)
theorem dX1_ticks_109 : decode cX1_ticks 109 = .ok (.iastore, 1) := dk_79 (dk_at dksX1_ticks_4 15 rfl rfl)
theorem dX1_ticks_110 : decode cX1_ticks 110 = .ok (.iinc 3 1, 3) := dk_132 3 1 (dk_at dksX1_ticks_4 16 rfl rfl)
theorem dX1_ticks_113 : decode cX1_ticks 113 = .ok (.goto (-31), 3) := dk_167 255 225 (dk_at dksX1_ticks_4 19 rfl rfl)
theorem dX1_ticks_116 : decode cX1_ticks 116 = .ok (.iinc 2 1, 3) := dk_132 2 1 (dk_at dksX1_ticks_5 0 rfl rfl)
theorem dX1_ticks_119 : decode cX1_ticks 119 = .ok (.goto (-50), 3) := dk_167 255 206 (dk_at dksX1_ticks_5 3 rfl rfl)
theorem dX1_ticks_122 : decode cX1_ticks 122 = .ok (.iconst 0, 1) := dk_3 (dk_at dksX1_ticks_5 6 rfl rfl)
theorem dX1_ticks_123 : decode cX1_ticks 123 = .ok (.istore_n 2, 1) := dk_61 (dk_at dksX1_ticks_5 7 rfl rfl)
theorem dX1_ticks_124 : decode cX1_ticks 124 = .ok (.iload_n 2, 1) := dk_28 (dk_at dksX1_ticks_5 8 rfl rfl)
theorem dX1_ticks_125 : decode cX1_ticks 125 = .ok (.aload_n 0, 1) := dk_42 (dk_at dksX1_ticks_5 9 rfl rfl)
theorem dX1_ticks_126 : decode cX1_ticks 126 = .ok (.getfield 20, 3) := dk_180 0 20 (dk_at dksX1_ticks_5 10 rfl rfl)
theorem dX1_ticks_129 : decode cX1_ticks 129 = .ok (.getfield 138, 3) := dk_180 0 138 (dk_at dksX1_ticks_5 13 rfl rfl)
theorem dX1_ticks_132 : decode cX1_ticks 132 = .ok (.if_icmp .ge 15, 3) := dk_162 0 15 (dk_at dksX1_ticks_5 16 rfl rfl)
theorem dX1_ticks_135 : decode cX1_ticks 135 = .ok (.aload_n 0, 1) := dk_42 (dk_at dksX1_ticks_5 19 rfl rfl)
theorem dX1_ticks_136 : decode cX1_ticks 136 = .ok (.aload_n 1, 1) := dk_43 (dk_at dksX1_ticks_5 20 rfl rfl)
theorem dX1_ticks_137 : decode cX1_ticks 137 = .ok (.iload_n 2, 1) := dk_28 (dk_at dksX1_ticks_5 21 rfl rfl)
theorem dX1_ticks_138 : decode cX1_ticks 138 = .ok (.invokevirtual 143, 3) := dk_182 0 143 (dk_at dksX1_ticks_6 0 rfl rfl)
theorem dX1_ticks_141 : decode cX1_ticks 141 = .ok (.iinc 2 1, 3) := dk_132 2 1 (dk_at dksX1_ticks_6 3 rfl rfl)
theorem dX1_ticks_144 : decode cX1_ticks 144 = .ok (.goto (-20), 3) := dk_167 255 236 (dk_at dksX1_ticks_6 6 rfl rfl)
theorem dX1_ticks_147 : decode cX1_ticks 147 = .ok (.iconst 0, 1) := dk_3 (dk_at dksX1_ticks_6 9 rfl rfl)
theorem dX1_ticks_148 : decode cX1_ticks 148 = .ok (.istore_n 2, 1) := dk_61 (dk_at dksX1_ticks_6 10 rfl rfl)
theorem dX1_ticks_149 : decode cX1_ticks 149 = .ok (.iload_n 2, 1) := dk_28 (dk_at dksX1_ticks_6 11 rfl rfl)
theorem dX1_ticks_150 : decode cX1_ticks 150 = .ok (.aload_n 0, 1) := dk_42 (dk_at dksX1_ticks_6 12 rfl rfl)
theorem dX1_ticks_151 : decode cX1_ticks 151 = .ok (.getfield 20, 3) := dk_180 0 20 (dk_at dksX1_ticks_6 13 rfl rfl)
theorem dX1_ticks_154 : decode cX1_ticks 154 = .ok (.getfield 138, 3) := dk_180 0 138 (dk_at dksX1_ticks_6 16 rfl rfl)
theorem dX1_ticks_157 : decode cX1_ticks 157 = .ok (.if_icmp .ge 15, 3) := dk_162 0 15 (dk_at dksX1_ticks_6 19 rfl rfl)
theorem dX1_ticks_160 : decode cX1_ticks 160 = .ok (.aload_n 0, 1) := dk_42 (dk_at dksX1_ticks_6 22 rfl rfl)
theorem dX1_ticks_161 : decode cX1_ticks 161 = .ok (.aload_n 1, 1) := dk_43 (dk_at dksX1_ticks_6 23 rfl rfl)
theorem dX1_ticks_162 : decode cX1_ticks 162 = .ok (.iload_n 2, 1) := dk_28 (dk_at dksX1_ticks_7 0 rfl rfl)
theorem dX1_ticks_163 : decode cX1_ticks 163 = .ok (.invokevirtual 147, 3) := dk_182 0 147 (dk_at dksX1_ticks_7 1 rfl rfl)
theorem dX1_ticks_166 : decode cX1_ticks 166 = .ok (.iinc 2 1, 3) := dk_132 2 1 (dk_at dksX1_ticks_7 4 rfl rfl)
theorem dX1_ticks_169 : decode cX1_ticks 169 = .ok (.goto (-20), 3) := dk_167 255 236 (dk_at dksX1_ticks_7 7 rfl rfl)
theorem dX1_ticks_172 : decode cX1_ticks 172 = .ok (.iconst 0, 1) := dk_3 (dk_at dksX1_ticks_7 10 rfl rfl)
theorem dX1_ticks_173 : decode cX1_ticks 173 = .ok (.istore_n 2, 1) := dk_61 (dk_at dksX1_ticks_7 11 rfl rfl)
theorem dX1_ticks_174 : decode cX1_ticks 174 = .ok (.iload_n 2, 1) := dk_28 (dk_at dksX1_ticks_7 12 rfl rfl)
theorem dX1_ticks_175 : decode cX1_ticks 175 = .ok (.aload_n 0, 1) := dk_42 (dk_at dksX1_ticks_7 13 rfl rfl)
theorem dX1_ticks_176 : decode cX1_ticks 176 = .ok (.getfield 20, 3) := dk_180 0 20 (dk_at dksX1_ticks_7 14 rfl rfl)
theorem dX1_ticks_179 : decode cX1_ticks 179 = .ok (.getfield 138, 3) := dk_180 0 138 (dk_at dksX1_ticks_7 17 rfl rfl)
theorem dX1_ticks_182 : decode cX1_ticks 182 = .ok (.if_icmp .ge 18, 3) := dk_162 0 18 (dk_at dksX1_ticks_7 20 rfl rfl)
theorem dX1_ticks_185 : decode cX1_ticks 185 = .ok (.aload_n 1, 1) := dk_43 (dk_at dksX1_ticks_7 23 rfl rfl)
theorem dX1_ticks_186 : decode cX1_ticks 186 = .ok (.getfield 150, 3) := dk_180 0 150 (dk_at dksX1_ticks_8 0 rfl rfl)
theorem dX1_ticks_189 : decode cX1_ticks 189 = .ok (.iload_n 2, 1) := dk_28 (dk_at dksX1_ticks_8 3 rfl rfl)
theorem dX1_ticks_190 : decode cX1_ticks 190 = .ok (.aaload, 1) := dk_50 (dk_at dksX1_ticks_8 4 rfl rfl)
theorem dX1_ticks_191 : decode cX1_ticks 191 = .ok (.invokevirtual 154, 3) := dk_182 0 154 (dk_at dksX1_ticks_8 5 rfl rfl)
theorem dX1_ticks_194 : decode cX1_ticks 194 = .ok (.iinc 2 1, 3) := dk_132 2 1 (dk_at dksX1_ticks_8 8 rfl rfl)
theorem dX1_ticks_197 : decode cX1_ticks 197 = .ok (.goto (-23), 3) := dk_167 255 233 (dk_at dksX1_ticks_8 11 rfl rfl)
theorem dX1_ticks_200 : decode cX1_ticks 200 = .ok (.aload_n 0, 1) := dk_42 (dk_at dksX1_ticks_8 14 rfl rfl)
theorem dX1_ticks_201 : decode cX1_ticks 201 = .ok (.iconst 0, 1) := dk_3 (dk_at dksX1_ticks_8 15 rfl rfl)
theorem dX1_ticks_202 : decode cX1_ticks 202 = .ok (.putfield 159, 3) := dk_181 0 159 (dk_at dksX1_ticks_8 16 rfl rfl)
theorem dX1_ticks_205 : decode cX1_ticks 205 = .ok (.iconst 0, 1) := dk_3 (dk_at dksX1_ticks_8 19 rfl rfl)
theorem dX1_ticks_206 : decode cX1_ticks 206 = .ok (.istore_n 2, 1) := dk_61 (dk_at dksX1_ticks_8 20 rfl rfl)
theorem dX1_ticks_207 : decode cX1_ticks 207 = .ok (.iload_n 2, 1) := dk_28 (dk_at dksX1_ticks_8 21 rfl rfl)
theorem dX1_ticks_208 : decode cX1_ticks 208 = .ok (.aload_n 0, 1) := dk_42 (dk_at dksX1_ticks_8 22 rfl rfl)
theorem dX1_ticks_209 : decode cX1_ticks 209 = .ok (.getfield 20, 3) := dk_180 0 20 (dk_at dksX1_ticks_9 0 rfl rfl)
theorem dX1_ticks_212 : decode cX1_ticks 212 = .ok (.getfield 138, 3) := dk_180 0 138 (dk_at dksX1_ticks_9 3 rfl rfl)
theorem dX1_ticks_215 : decode cX1_ticks 215 = .ok (.if_icmp .ge 15, 3) := dk_162 0 15 (dk_at dksX1_ticks_9 6 rfl rfl)
theorem dX1_ticks_218 : decode cX1_ticks 218 = .ok (.aload_n 0, 1) := dk_42 (dk_at dksX1_ticks_9 9 rfl rfl)
theorem dX1_ticks_219 : decode cX1_ticks 219 = .ok (.aload_n 1, 1) := dk_43 (dk_at dksX1_ticks_9 10 rfl rfl)
theorem dX1_ticks_220 : decode cX1_ticks 220 = .ok (.iload_n 2, 1) := dk_28 (dk_at dksX1_ticks_9 11 rfl rfl)
theorem dX1_ticks_221 : decode cX1_ticks 221 = .ok (.invokevirtual 162, 3) := dk_182 0 162 (dk_at dksX1_ticks_9 12 rfl rfl)
theorem dX1_ticks_224 : decode cX1_ticks 224 = .ok (.iinc 2 1, 3) := dk_132 2 1 (dk_at dksX1_ticks_9 15 rfl rfl)
theorem dX1_ticks_227 : decode cX1_ticks 227 = .ok (.goto (-20), 3) := dk_167 255 236 (dk_at dksX1_ticks_9 18 rfl rfl)
theorem dX1_ticks_230 : decode cX1_ticks 230 = .ok (.iconst 0, 1) := dk_3 (dk_at dksX1_ticks_9 21 rfl rfl)
theorem dX1_ticks_231 : decode cX1_ticks 231 = .ok (.istore_n 2, 1) := dk_61 (dk_at dksX1_ticks_9 22 rfl rfl)
theorem dX1_ticks_232 : decode cX1_ticks 232 = .ok (.iload_n 2, 1) := dk_28 (dk_at dksX1_ticks_9 23 rfl rfl)
theorem dX1_ticks_233 : decode cX1_ticks 233 = .ok (.aload_n 0, 1) := dk_42 (dk_at dksX1_ticks_10 0 rfl rfl)
theorem dX1_ticks_234 : decode cX1_ticks 234 = .ok (.getfield 159, 3) := dk_180 0 159 (dk_at dksX1_ticks_10 1 rfl rfl)
theorem dX1_ticks_237 : decode cX1_ticks 237 = .ok (.if_icmp .ge 24, 3) := dk_162 0 24 (dk_at dksX1_ticks_10 4 rfl rfl)
theorem dX1_ticks_240 : decode cX1_ticks 240 = .ok (.aload_n 0, 1) := dk_42 (dk_at dksX1_ticks_10 7 rfl rfl)
theorem dX1_ticks_241 : decode cX1_ticks 241 = .ok (.getfield 36, 3) := dk_180 0 36 (dk_at dksX1_ticks_10 8 rfl rfl)
theorem dX1_ticks_244 : decode cX1_ticks 244 = .ok (.iload_n 2, 1) := dk_28 (dk_at dksX1_ticks_10 11 rfl rfl)
theorem dX1_ticks_245 : decode cX1_ticks 245 = .ok (.aaload, 1) := dk_50 (dk_at dksX1_ticks_10 12 rfl rfl)
theorem dX1_ticks_246 : decode cX1_ticks 246 = .ok (.getfield 165, 3) := dk_180 0 165 (dk_at dksX1_ticks_10 13 rfl rfl)
theorem dX1_ticks_249 : decode cX1_ticks 249 = .ok (.aload_n 1, 1) := dk_43 (dk_at dksX1_ticks_10 16 rfl rfl)
theorem dX1_ticks_250 : decode cX1_ticks 250 = .ok (.invokeinterface 169 2, 5) := by decide +kernel
theorem dX1_ticks_255 : decode cX1_ticks 255 = .ok (.iinc 2 1, 3) := dk_132 2 1 (dk_at dksX1_ticks_11 0 rfl rfl)
theorem dX1_ticks_258 : decode cX1_ticks 258 = .ok (.goto (-26), 3) := dk_167 255 230 (dk_at dksX1_ticks_11 3 rfl rfl)
theorem dX1_ticks_261 : decode cX1_ticks 261 = .ok (.iconst 0, 1) := dk_3 (dk_at dksX1_ticks_11 6 rfl rfl)
theorem dX1_ticks_262 : decode cX1_ticks 262 = .ok (.istore_n 2, 1) := dk_61 (dk_at dksX1_ticks_11 7 rfl rfl)
theorem dX1_ticks_263 : decode cX1_ticks 263 = .ok (.iload_n 2, 1) := dk_28 (dk_at dksX1_ticks_11 8 rfl rfl)
theorem dX1_ticks_264 : decode cX1_ticks 264 = .ok (.aload_n 0, 1) := dk_42 (dk_at dksX1_ticks_11 9 rfl rfl)
theorem dX1_ticks_265 : decode cX1_ticks 265 = .ok (.getfield 20, 3) := dk_180 0 20 (dk_at dksX1_ticks_11 10 rfl rfl)
theorem dX1_ticks_268 : decode cX1_ticks 268 = .ok (.getfield 111, 3) := dk_180 0 111 (dk_at dksX1_ticks_11 13 rfl rfl)
theorem dX1_ticks_271 : decode cX1_ticks 271 = .ok (.if_icmp .ge 38, 3) := dk_162 0 38 (dk_at dksX1_ticks_11 16 rfl rfl)
theorem dX1_ticks_274 : decode cX1_ticks 274 = .ok (.aload_n 1, 1) := dk_43 (dk_at dksX1_ticks_11 19 rfl rfl)
theorem dX1_ticks_275 : decode cX1_ticks 275 = .ok (.getfield 114, 3) := dk_180 0 114 (dk_at dksX1_ticks_11 20 rfl rfl)
theorem dX1_ticks_278 : decode cX1_ticks 278 = .ok (.iload_n 2, 1) := dk_28 (dk_at dksX1_ticks_11 23 rfl rfl)
theorem dX1_ticks_279 : decode cX1_ticks 279 = .ok (.aaload, 1) := dk_50 (dk_at dksX1_ticks_12 0 rfl rfl)
theorem dX1_ticks_280 : decode cX1_ticks 280 = .ok (.getfield 122, 3) := dk_180 0 122 (dk_at dksX1_ticks_12 1 rfl rfl)
theorem dX1_ticks_283 : decode cX1_ticks 283 = .ok (.ifCond .eq 20, 3) := dk_153 0 20 (dk_at dksX1_ticks_12 4 rfl rfl)
theorem dX1_ticks_286 : decode cX1_ticks 286 = .ok (.aload_n 1, 1) := dk_43 (dk_at dksX1_ticks_12 7 rfl rfl)
theorem dX1_ticks_287 : decode cX1_ticks 287 = .ok (.getfield 114, 3) := dk_180 0 114 (dk_at dksX1_ticks_12 8 rfl rfl)
theorem dX1_ticks_290 : decode cX1_ticks 290 = .ok (.iload_n 2, 1) := dk_28 (dk_at dksX1_ticks_12 11 rfl rfl)
theorem dX1_ticks_291 : decode cX1_ticks 291 = .ok (.aaload, 1) := dk_50 (dk_at dksX1_ticks_12 12 rfl rfl)
theorem dX1_ticks_292 : decode cX1_ticks 292 = .ok (.aload_n 0, 1) := dk_42 (dk_at dksX1_ticks_12 13 rfl rfl)
theorem dX1_ticks_293 : decode cX1_ticks 293 = .ok (.getfield 20, 3) := dk_180 0 20 (dk_at dksX1_ticks_12 14 rfl rfl)
theorem dX1_ticks_296 : decode cX1_ticks 296 = .ok (.aload_n 0, 1) := dk_42 (dk_at dksX1_ticks_12 17 rfl rfl)
theorem dX1_ticks_297 : decode cX1_ticks 297 = .ok (.getfield 44, 3) := dk_180 0 44 (dk_at dksX1_ticks_12 18 rfl rfl)
theorem dX1_ticks_300 : decode cX1_ticks 300 = .ok (.invokevirtual 175, 3) := dk_182 0 175 (dk_at dksX1_ticks_12 21 rfl rfl)
theorem dX1_ticks_303 : decode cX1_ticks 303 = .ok (.iinc 2 1, 3) := dk_132 2 1 (dk_at dksX1_ticks_13 0 rfl rfl)
theorem dX1_ticks_306 : decode cX1_ticks 306 = .ok (.goto (-43), 3) := dk_167 255 213 (dk_at dksX1_ticks_13 3 rfl rfl)
theorem dX1_ticks_309 : decode cX1_ticks 309 = .ok (.return_, 1) := dk_177 (dk_at dksX1_ticks_13 6 rfl rfl)
abbrev cX1_carries : ByteArray := prog_1_method_11_code
def yX1_carries : MethodName := ⟨RX1, "carries", "(LLosslessFabric$State;I)V"⟩
def dkwX1_carries_8 : List UInt8 := [96, 46, 182, 0, 195, 132, 5, 1, 167, 255, 221, 177]
abbrev dktX1_carries_8 : List UInt8 := dkwX1_carries_8 ++ []
def dkwX1_carries_7 : List UInt8 := [180, 0, 20, 180, 0, 111, 162, 0, 29, 42, 43, 28, 21, 5, 42, 180, 0, 28, 16, 8, 28, 104, 21, 5]
abbrev dktX1_carries_7 : List UInt8 := dkwX1_carries_7 ++ dktX1_carries_8
def dkwX1_carries_6 : List UInt8 := [4, 96, 79, 132, 3, 255, 4, 54, 4, 132, 5, 1, 167, 255, 191, 167, 255, 173, 3, 54, 5, 21, 5, 42]
abbrev dktX1_carries_6 : List UInt8 := dkwX1_carries_6 ++ dktX1_carries_7
def dkwX1_carries_5 : List UInt8 := [21, 6, 46, 42, 180, 0, 28, 21, 6, 46, 160, 0, 6, 167, 0, 20, 42, 180, 0, 28, 21, 6, 92, 46]
abbrev dktX1_carries_5 : List UInt8 := dkwX1_carries_5 ++ dktX1_carries_6
def dkwX1_carries_4 : List UInt8 := [180, 0, 111, 162, 0, 59, 29, 158, 0, 55, 16, 8, 28, 104, 21, 5, 96, 54, 6, 42, 180, 0, 24]
abbrev dktX1_carries_4 : List UInt8 := dkwX1_carries_4 ++ dktX1_carries_5
def dkwX1_carries_3 : List UInt8 := [54, 4, 21, 4, 153, 0, 84, 29, 158, 0, 80, 3, 54, 4, 3, 54, 5, 21, 5, 42, 180, 0, 20]
abbrev dktX1_carries_3 : List UInt8 := dkwX1_carries_3 ++ dktX1_carries_4
def dkwX1_carries_2 : List UInt8 := [162, 0, 22, 42, 180, 0, 28, 16, 8, 28, 104, 21, 4, 96, 3, 79, 132, 4, 1, 167, 255, 228, 4]
abbrev dktX1_carries_2 : List UInt8 := dkwX1_carries_2 ++ dktX1_carries_3
def dkwX1_carries_1 : List UInt8 := [62, 43, 180, 0, 150, 28, 50, 3, 181, 0, 192, 3, 54, 4, 21, 4, 42, 180, 0, 20, 180, 0, 111]
abbrev dktX1_carries_1 : List UInt8 := dkwX1_carries_1 ++ dktX1_carries_2
def dkwX1_carries_0 : List UInt8 := [43, 28, 182, 0, 179, 153, 0, 7, 3, 167, 0, 15, 42, 180, 0, 20, 180, 0, 183, 28, 50, 180, 0, 187]
abbrev dktX1_carries_0 : List UInt8 := dkwX1_carries_0 ++ dktX1_carries_1
theorem dksX1_carries_0 : cX1_carries.data.toList.drop 0 = dktX1_carries_0 := by decide +kernel
theorem dksX1_carries_1 : cX1_carries.data.toList.drop 24 = dktX1_carries_1 := dk_seg dksX1_carries_0 24 rfl rfl
theorem dksX1_carries_2 : cX1_carries.data.toList.drop 47 = dktX1_carries_2 := dk_seg dksX1_carries_1 23 rfl rfl
theorem dksX1_carries_3 : cX1_carries.data.toList.drop 70 = dktX1_carries_3 := dk_seg dksX1_carries_2 23 rfl rfl
theorem dksX1_carries_4 : cX1_carries.data.toList.drop 93 = dktX1_carries_4 := dk_seg dksX1_carries_3 23 rfl rfl
theorem dksX1_carries_5 : cX1_carries.data.toList.drop 116 = dktX1_carries_5 := dk_seg dksX1_carries_4 23 rfl rfl
theorem dksX1_carries_6 : cX1_carries.data.toList.drop 140 = dktX1_carries_6 := dk_seg dksX1_carries_5 24 rfl rfl
theorem dksX1_carries_7 : cX1_carries.data.toList.drop 164 = dktX1_carries_7 := dk_seg dksX1_carries_6 24 rfl rfl
theorem dksX1_carries_8 : cX1_carries.data.toList.drop 188 = dktX1_carries_8 := dk_seg dksX1_carries_7 24 rfl rfl
theorem dX1_carries_0 : decode cX1_carries 0 = .ok (.aload_n 1, 1) := dk_43 (dk_at dksX1_carries_0 0 rfl rfl)
theorem dX1_carries_1 : decode cX1_carries 1 = .ok (.iload_n 2, 1) := dk_28 (dk_at dksX1_carries_0 1 rfl rfl)
theorem dX1_carries_2 : decode cX1_carries 2 = .ok (.invokevirtual 179, 3) := dk_182 0 179 (dk_at dksX1_carries_0 2 rfl rfl)
theorem dX1_carries_5 : decode cX1_carries 5 = .ok (.ifCond .eq 7, 3) := dk_153 0 7 (dk_at dksX1_carries_0 5 rfl rfl)
theorem dX1_carries_8 : decode cX1_carries 8 = .ok (.iconst 0, 1) := dk_3 (dk_at dksX1_carries_0 8 rfl rfl)
theorem dX1_carries_9 : decode cX1_carries 9 = .ok (.goto 15, 3) := dk_167 0 15 (dk_at dksX1_carries_0 9 rfl rfl)
theorem dX1_carries_12 : decode cX1_carries 12 = .ok (.aload_n 0, 1) := dk_42 (dk_at dksX1_carries_0 12 rfl rfl)
theorem dX1_carries_13 : decode cX1_carries 13 = .ok (.getfield 20, 3) := dk_180 0 20 (dk_at dksX1_carries_0 13 rfl rfl)
theorem dX1_carries_16 : decode cX1_carries 16 = .ok (.getfield 183, 3) := dk_180 0 183 (dk_at dksX1_carries_0 16 rfl rfl)
theorem dX1_carries_19 : decode cX1_carries 19 = .ok (.iload_n 2, 1) := dk_28 (dk_at dksX1_carries_0 19 rfl rfl)
theorem dX1_carries_20 : decode cX1_carries 20 = .ok (.aaload, 1) := dk_50 (dk_at dksX1_carries_0 20 rfl rfl)
theorem dX1_carries_21 : decode cX1_carries 21 = .ok (.getfield 187, 3) := dk_180 0 187 (dk_at dksX1_carries_0 21 rfl rfl)
theorem dX1_carries_24 : decode cX1_carries 24 = .ok (.istore_n 3, 1) := dk_62 (dk_at dksX1_carries_1 0 rfl rfl)
theorem dX1_carries_25 : decode cX1_carries 25 = .ok (.aload_n 1, 1) := dk_43 (dk_at dksX1_carries_1 1 rfl rfl)
theorem dX1_carries_26 : decode cX1_carries 26 = .ok (.getfield 150, 3) := dk_180 0 150 (dk_at dksX1_carries_1 2 rfl rfl)
theorem dX1_carries_29 : decode cX1_carries 29 = .ok (.iload_n 2, 1) := dk_28 (dk_at dksX1_carries_1 5 rfl rfl)
theorem dX1_carries_30 : decode cX1_carries 30 = .ok (.aaload, 1) := dk_50 (dk_at dksX1_carries_1 6 rfl rfl)
theorem dX1_carries_31 : decode cX1_carries 31 = .ok (.iconst 0, 1) := dk_3 (dk_at dksX1_carries_1 7 rfl rfl)
theorem dX1_carries_32 : decode cX1_carries 32 = .ok (.putfield 192, 3) := dk_181 0 192 (dk_at dksX1_carries_1 8 rfl rfl)
theorem dX1_carries_35 : decode cX1_carries 35 = .ok (.iconst 0, 1) := dk_3 (dk_at dksX1_carries_1 11 rfl rfl)
theorem dX1_carries_36 : decode cX1_carries 36 = .ok (.istore 4, 2) := dk_54 4 (dk_at dksX1_carries_1 12 rfl rfl)
theorem dX1_carries_38 : decode cX1_carries 38 = .ok (.iload 4, 2) := dk_21 4 (dk_at dksX1_carries_1 14 rfl rfl)
theorem dX1_carries_40 : decode cX1_carries 40 = .ok (.aload_n 0, 1) := dk_42 (dk_at dksX1_carries_1 16 rfl rfl)
theorem dX1_carries_41 : decode cX1_carries 41 = .ok (.getfield 20, 3) := dk_180 0 20 (dk_at dksX1_carries_1 17 rfl rfl)
theorem dX1_carries_44 : decode cX1_carries 44 = .ok (.getfield 111, 3) := dk_180 0 111 (dk_at dksX1_carries_1 20 rfl rfl)
theorem dX1_carries_47 : decode cX1_carries 47 = .ok (.if_icmp .ge 22, 3) := dk_162 0 22 (dk_at dksX1_carries_2 0 rfl rfl)
theorem dX1_carries_50 : decode cX1_carries 50 = .ok (.aload_n 0, 1) := dk_42 (dk_at dksX1_carries_2 3 rfl rfl)
theorem dX1_carries_51 : decode cX1_carries 51 = .ok (.getfield 28, 3) := dk_180 0 28 (dk_at dksX1_carries_2 4 rfl rfl)
theorem dX1_carries_54 : decode cX1_carries 54 = .ok (.bipush 8, 2) := dk_16 8 (dk_at dksX1_carries_2 7 rfl rfl)
theorem dX1_carries_56 : decode cX1_carries 56 = .ok (.iload_n 2, 1) := dk_28 (dk_at dksX1_carries_2 9 rfl rfl)
theorem dX1_carries_57 : decode cX1_carries 57 = .ok (.imul, 1) := dk_104 (dk_at dksX1_carries_2 10 rfl rfl)
theorem dX1_carries_58 : decode cX1_carries 58 = .ok (.iload 4, 2) := dk_21 4 (dk_at dksX1_carries_2 11 rfl rfl)
theorem dX1_carries_60 : decode cX1_carries 60 = .ok (.iadd, 1) := dk_96 (dk_at dksX1_carries_2 13 rfl rfl)
theorem dX1_carries_61 : decode cX1_carries 61 = .ok (.iconst 0, 1) := dk_3 (dk_at dksX1_carries_2 14 rfl rfl)
theorem dX1_carries_62 : decode cX1_carries 62 = .ok (.iastore, 1) := dk_79 (dk_at dksX1_carries_2 15 rfl rfl)
theorem dX1_carries_63 : decode cX1_carries 63 = .ok (.iinc 4 1, 3) := dk_132 4 1 (dk_at dksX1_carries_2 16 rfl rfl)
theorem dX1_carries_66 : decode cX1_carries 66 = .ok (.goto (-28), 3) := dk_167 255 228 (dk_at dksX1_carries_2 19 rfl rfl)
theorem dX1_carries_69 : decode cX1_carries 69 = .ok (.iconst 1, 1) := dk_4 (dk_at dksX1_carries_2 22 rfl rfl)
theorem dX1_carries_70 : decode cX1_carries 70 = .ok (.istore 4, 2) := dk_54 4 (dk_at dksX1_carries_3 0 rfl rfl)
theorem dX1_carries_72 : decode cX1_carries 72 = .ok (.iload 4, 2) := dk_21 4 (dk_at dksX1_carries_3 2 rfl rfl)
theorem dX1_carries_74 : decode cX1_carries 74 = .ok (.ifCond .eq 84, 3) := dk_153 0 84 (dk_at dksX1_carries_3 4 rfl rfl)
theorem dX1_carries_77 : decode cX1_carries 77 = .ok (.iload_n 3, 1) := dk_29 (dk_at dksX1_carries_3 7 rfl rfl)
theorem dX1_carries_78 : decode cX1_carries 78 = .ok (.ifCond .le 80, 3) := dk_158 0 80 (dk_at dksX1_carries_3 8 rfl rfl)
theorem dX1_carries_81 : decode cX1_carries 81 = .ok (.iconst 0, 1) := dk_3 (dk_at dksX1_carries_3 11 rfl rfl)
theorem dX1_carries_82 : decode cX1_carries 82 = .ok (.istore 4, 2) := dk_54 4 (dk_at dksX1_carries_3 12 rfl rfl)
theorem dX1_carries_84 : decode cX1_carries 84 = .ok (.iconst 0, 1) := dk_3 (dk_at dksX1_carries_3 14 rfl rfl)
theorem dX1_carries_85 : decode cX1_carries 85 = .ok (.istore 5, 2) := dk_54 5 (dk_at dksX1_carries_3 15 rfl rfl)
theorem dX1_carries_87 : decode cX1_carries 87 = .ok (.iload 5, 2) := dk_21 5 (dk_at dksX1_carries_3 17 rfl rfl)
theorem dX1_carries_89 : decode cX1_carries 89 = .ok (.aload_n 0, 1) := dk_42 (dk_at dksX1_carries_3 19 rfl rfl)
theorem dX1_carries_90 : decode cX1_carries 90 = .ok (.getfield 20, 3) := dk_180 0 20 (dk_at dksX1_carries_3 20 rfl rfl)
theorem dX1_carries_93 : decode cX1_carries 93 = .ok (.getfield 111, 3) := dk_180 0 111 (dk_at dksX1_carries_4 0 rfl rfl)
theorem dX1_carries_96 : decode cX1_carries 96 = .ok (.if_icmp .ge 59, 3) := dk_162 0 59 (dk_at dksX1_carries_4 3 rfl rfl)
theorem dX1_carries_99 : decode cX1_carries 99 = .ok (.iload_n 3, 1) := dk_29 (dk_at dksX1_carries_4 6 rfl rfl)
theorem dX1_carries_100 : decode cX1_carries 100 = .ok (.ifCond .le 55, 3) := dk_158 0 55 (dk_at dksX1_carries_4 7 rfl rfl)
theorem dX1_carries_103 : decode cX1_carries 103 = .ok (.bipush 8, 2) := dk_16 8 (dk_at dksX1_carries_4 10 rfl rfl)
theorem dX1_carries_105 : decode cX1_carries 105 = .ok (.iload_n 2, 1) := dk_28 (dk_at dksX1_carries_4 12 rfl rfl)
theorem dX1_carries_106 : decode cX1_carries 106 = .ok (.imul, 1) := dk_104 (dk_at dksX1_carries_4 13 rfl rfl)
theorem dX1_carries_107 : decode cX1_carries 107 = .ok (.iload 5, 2) := dk_21 5 (dk_at dksX1_carries_4 14 rfl rfl)
theorem dX1_carries_109 : decode cX1_carries 109 = .ok (.iadd, 1) := dk_96 (dk_at dksX1_carries_4 16 rfl rfl)
theorem dX1_carries_110 : decode cX1_carries 110 = .ok (.istore 6, 2) := dk_54 6 (dk_at dksX1_carries_4 17 rfl rfl)
theorem dX1_carries_112 : decode cX1_carries 112 = .ok (.aload_n 0, 1) := dk_42 (dk_at dksX1_carries_4 19 rfl rfl)
theorem dX1_carries_113 : decode cX1_carries 113 = .ok (.getfield 24, 3) := dk_180 0 24 (dk_at dksX1_carries_4 20 rfl rfl)
theorem dX1_carries_116 : decode cX1_carries 116 = .ok (.iload 6, 2) := dk_21 6 (dk_at dksX1_carries_5 0 rfl rfl)
theorem dX1_carries_118 : decode cX1_carries 118 = .ok (.iaload, 1) := dk_46 (dk_at dksX1_carries_5 2 rfl rfl)
theorem dX1_carries_119 : decode cX1_carries 119 = .ok (.aload_n 0, 1) := dk_42 (dk_at dksX1_carries_5 3 rfl rfl)
theorem dX1_carries_120 : decode cX1_carries 120 = .ok (.getfield 28, 3) := dk_180 0 28 (dk_at dksX1_carries_5 4 rfl rfl)
theorem dX1_carries_123 : decode cX1_carries 123 = .ok (.iload 6, 2) := dk_21 6 (dk_at dksX1_carries_5 7 rfl rfl)
theorem dX1_carries_125 : decode cX1_carries 125 = .ok (.iaload, 1) := dk_46 (dk_at dksX1_carries_5 9 rfl rfl)
theorem dX1_carries_126 : decode cX1_carries 126 = .ok (.if_icmp .ne 6, 3) := dk_160 0 6 (dk_at dksX1_carries_5 10 rfl rfl)
theorem dX1_carries_129 : decode cX1_carries 129 = .ok (.goto 20, 3) := dk_167 0 20 (dk_at dksX1_carries_5 13 rfl rfl)
theorem dX1_carries_132 : decode cX1_carries 132 = .ok (.aload_n 0, 1) := dk_42 (dk_at dksX1_carries_5 16 rfl rfl)
theorem dX1_carries_133 : decode cX1_carries 133 = .ok (.getfield 28, 3) := dk_180 0 28 (dk_at dksX1_carries_5 17 rfl rfl)
theorem dX1_carries_136 : decode cX1_carries 136 = .ok (.iload 6, 2) := dk_21 6 (dk_at dksX1_carries_5 20 rfl rfl)
theorem dX1_carries_138 : decode cX1_carries 138 = .ok (.dup2, 1) := dk_92 (dk_at dksX1_carries_5 22 rfl rfl)
theorem dX1_carries_139 : decode cX1_carries 139 = .ok (.iaload, 1) := dk_46 (dk_at dksX1_carries_5 23 rfl rfl)
theorem dX1_carries_140 : decode cX1_carries 140 = .ok (.iconst 1, 1) := dk_4 (dk_at dksX1_carries_6 0 rfl rfl)
theorem dX1_carries_141 : decode cX1_carries 141 = .ok (.iadd, 1) := dk_96 (dk_at dksX1_carries_6 1 rfl rfl)
theorem dX1_carries_142 : decode cX1_carries 142 = .ok (.iastore, 1) := dk_79 (dk_at dksX1_carries_6 2 rfl rfl)
theorem dX1_carries_143 : decode cX1_carries 143 = .ok (.iinc 3 (-1), 3) := dk_132 3 255 (dk_at dksX1_carries_6 3 rfl rfl)
theorem dX1_carries_146 : decode cX1_carries 146 = .ok (.iconst 1, 1) := dk_4 (dk_at dksX1_carries_6 6 rfl rfl)
theorem dX1_carries_147 : decode cX1_carries 147 = .ok (.istore 4, 2) := dk_54 4 (dk_at dksX1_carries_6 7 rfl rfl)
theorem dX1_carries_149 : decode cX1_carries 149 = .ok (.iinc 5 1, 3) := dk_132 5 1 (dk_at dksX1_carries_6 9 rfl rfl)
theorem dX1_carries_152 : decode cX1_carries 152 = .ok (.goto (-65), 3) := dk_167 255 191 (dk_at dksX1_carries_6 12 rfl rfl)
theorem dX1_carries_155 : decode cX1_carries 155 = .ok (.goto (-83), 3) := dk_167 255 173 (dk_at dksX1_carries_6 15 rfl rfl)
theorem dX1_carries_158 : decode cX1_carries 158 = .ok (.iconst 0, 1) := dk_3 (dk_at dksX1_carries_6 18 rfl rfl)
theorem dX1_carries_159 : decode cX1_carries 159 = .ok (.istore 5, 2) := dk_54 5 (dk_at dksX1_carries_6 19 rfl rfl)
theorem dX1_carries_161 : decode cX1_carries 161 = .ok (.iload 5, 2) := dk_21 5 (dk_at dksX1_carries_6 21 rfl rfl)
theorem dX1_carries_163 : decode cX1_carries 163 = .ok (.aload_n 0, 1) := dk_42 (dk_at dksX1_carries_6 23 rfl rfl)
theorem dX1_carries_164 : decode cX1_carries 164 = .ok (.getfield 20, 3) := dk_180 0 20 (dk_at dksX1_carries_7 0 rfl rfl)
theorem dX1_carries_167 : decode cX1_carries 167 = .ok (.getfield 111, 3) := dk_180 0 111 (dk_at dksX1_carries_7 3 rfl rfl)
theorem dX1_carries_170 : decode cX1_carries 170 = .ok (.if_icmp .ge 29, 3) := dk_162 0 29 (dk_at dksX1_carries_7 6 rfl rfl)
theorem dX1_carries_173 : decode cX1_carries 173 = .ok (.aload_n 0, 1) := dk_42 (dk_at dksX1_carries_7 9 rfl rfl)
theorem dX1_carries_174 : decode cX1_carries 174 = .ok (.aload_n 1, 1) := dk_43 (dk_at dksX1_carries_7 10 rfl rfl)
theorem dX1_carries_175 : decode cX1_carries 175 = .ok (.iload_n 2, 1) := dk_28 (dk_at dksX1_carries_7 11 rfl rfl)
theorem dX1_carries_176 : decode cX1_carries 176 = .ok (.iload 5, 2) := dk_21 5 (dk_at dksX1_carries_7 12 rfl rfl)
theorem dX1_carries_178 : decode cX1_carries 178 = .ok (.aload_n 0, 1) := dk_42 (dk_at dksX1_carries_7 14 rfl rfl)
theorem dX1_carries_179 : decode cX1_carries 179 = .ok (.getfield 28, 3) := dk_180 0 28 (dk_at dksX1_carries_7 15 rfl rfl)
theorem dX1_carries_182 : decode cX1_carries 182 = .ok (.bipush 8, 2) := dk_16 8 (dk_at dksX1_carries_7 18 rfl rfl)
theorem dX1_carries_184 : decode cX1_carries 184 = .ok (.iload_n 2, 1) := dk_28 (dk_at dksX1_carries_7 20 rfl rfl)
theorem dX1_carries_185 : decode cX1_carries 185 = .ok (.imul, 1) := dk_104 (dk_at dksX1_carries_7 21 rfl rfl)
theorem dX1_carries_186 : decode cX1_carries 186 = .ok (.iload 5, 2) := dk_21 5 (dk_at dksX1_carries_7 22 rfl rfl)
theorem dX1_carries_188 : decode cX1_carries 188 = .ok (.iadd, 1) := dk_96 (dk_at dksX1_carries_8 0 rfl rfl)
theorem dX1_carries_189 : decode cX1_carries 189 = .ok (.iaload, 1) := dk_46 (dk_at dksX1_carries_8 1 rfl rfl)
theorem dX1_carries_190 : decode cX1_carries 190 = .ok (.invokevirtual 195, 3) := dk_182 0 195 (dk_at dksX1_carries_8 2 rfl rfl)
theorem dX1_carries_193 : decode cX1_carries 193 = .ok (.iinc 5 1, 3) := dk_132 5 1 (dk_at dksX1_carries_8 5 rfl rfl)
theorem dX1_carries_196 : decode cX1_carries 196 = .ok (.goto (-35), 3) := dk_167 255 221 (dk_at dksX1_carries_8 8 rfl rfl)
theorem dX1_carries_199 : decode cX1_carries 199 = .ok (.return_, 1) := dk_177 (dk_at dksX1_carries_8 11 rfl rfl)
abbrev cX1_leaves : ByteArray := prog_1_method_12_code
def yX1_leaves : MethodName := ⟨RX1, "leaves", "(LLosslessFabric$State;III)V"⟩
def dkwX1_leaves_5 : List UInt8 := [181, 0, 118, 177]
abbrev dktX1_leaves_5 : List UInt8 := dkwX1_leaves_5 ++ []
def dkwX1_leaves_4 : List UInt8 := [181, 0, 126, 25, 6, 89, 180, 0, 214, 21, 4, 96, 181, 0, 214, 25, 6, 89, 180, 0, 118, 21, 4, 96]
abbrev dktX1_leaves_4 : List UInt8 := dkwX1_leaves_4 ++ dktX1_leaves_5
def dkwX1_leaves_3 : List UInt8 := [180, 0, 211, 29, 92, 46, 21, 4, 100, 79, 177, 25, 6, 89, 180, 0, 126, 16, 16, 21, 4, 104, 100]
abbrev dktX1_leaves_3 : List UInt8 := dkwX1_leaves_3 ++ dktX1_leaves_4
def dkwX1_leaves_2 : List UInt8 := [181, 0, 192, 21, 7, 158, 0, 29, 43, 180, 0, 150, 25, 5, 180, 0, 208, 21, 7, 4, 100, 46, 50]
abbrev dktX1_leaves_2 : List UInt8 := dkwX1_leaves_2 ++ dktX1_leaves_3
def dkwX1_leaves_1 : List UInt8 := [58, 6, 25, 5, 28, 182, 0, 203, 54, 7, 43, 180, 0, 150, 28, 50, 89, 180, 0, 192, 21, 4, 96]
abbrev dktX1_leaves_1 : List UInt8 := dkwX1_leaves_1 ++ dktX1_leaves_2
def dkwX1_leaves_0 : List UInt8 := [21, 4, 154, 0, 4, 177, 42, 180, 0, 20, 180, 0, 199, 29, 50, 58, 5, 43, 180, 0, 114, 29, 50]
abbrev dktX1_leaves_0 : List UInt8 := dkwX1_leaves_0 ++ dktX1_leaves_1
theorem dksX1_leaves_0 : cX1_leaves.data.toList.drop 0 = dktX1_leaves_0 := by decide +kernel
theorem dksX1_leaves_1 : cX1_leaves.data.toList.drop 23 = dktX1_leaves_1 := dk_seg dksX1_leaves_0 23 rfl rfl
theorem dksX1_leaves_2 : cX1_leaves.data.toList.drop 46 = dktX1_leaves_2 := dk_seg dksX1_leaves_1 23 rfl rfl
theorem dksX1_leaves_3 : cX1_leaves.data.toList.drop 69 = dktX1_leaves_3 := dk_seg dksX1_leaves_2 23 rfl rfl
theorem dksX1_leaves_4 : cX1_leaves.data.toList.drop 92 = dktX1_leaves_4 := dk_seg dksX1_leaves_3 23 rfl rfl
theorem dksX1_leaves_5 : cX1_leaves.data.toList.drop 116 = dktX1_leaves_5 := dk_seg dksX1_leaves_4 24 rfl rfl
theorem dX1_leaves_0 : decode cX1_leaves 0 = .ok (.iload 4, 2) := dk_21 4 (dk_at dksX1_leaves_0 0 rfl rfl)
theorem dX1_leaves_2 : decode cX1_leaves 2 = .ok (.ifCond .ne 4, 3) := dk_154 0 4 (dk_at dksX1_leaves_0 2 rfl rfl)
theorem dX1_leaves_5 : decode cX1_leaves 5 = .ok (.return_, 1) := dk_177 (dk_at dksX1_leaves_0 5 rfl rfl)
theorem dX1_leaves_6 : decode cX1_leaves 6 = .ok (.aload_n 0, 1) := dk_42 (dk_at dksX1_leaves_0 6 rfl rfl)
theorem dX1_leaves_7 : decode cX1_leaves 7 = .ok (.getfield 20, 3) := dk_180 0 20 (dk_at dksX1_leaves_0 7 rfl rfl)
theorem dX1_leaves_10 : decode cX1_leaves 10 = .ok (.getfield 199, 3) := dk_180 0 199 (dk_at dksX1_leaves_0 10 rfl rfl)
theorem dX1_leaves_13 : decode cX1_leaves 13 = .ok (.iload_n 3, 1) := dk_29 (dk_at dksX1_leaves_0 13 rfl rfl)
theorem dX1_leaves_14 : decode cX1_leaves 14 = .ok (.aaload, 1) := dk_50 (dk_at dksX1_leaves_0 14 rfl rfl)
theorem dX1_leaves_15 : decode cX1_leaves 15 = .ok (.astore 5, 2) := dk_58 5 (dk_at dksX1_leaves_0 15 rfl rfl)
theorem dX1_leaves_17 : decode cX1_leaves 17 = .ok (.aload_n 1, 1) := dk_43 (dk_at dksX1_leaves_0 17 rfl rfl)
theorem dX1_leaves_18 : decode cX1_leaves 18 = .ok (.getfield 114, 3) := dk_180 0 114 (dk_at dksX1_leaves_0 18 rfl rfl)
theorem dX1_leaves_21 : decode cX1_leaves 21 = .ok (.iload_n 3, 1) := dk_29 (dk_at dksX1_leaves_0 21 rfl rfl)
theorem dX1_leaves_22 : decode cX1_leaves 22 = .ok (.aaload, 1) := dk_50 (dk_at dksX1_leaves_0 22 rfl rfl)
theorem dX1_leaves_23 : decode cX1_leaves 23 = .ok (.astore 6, 2) := dk_58 6 (dk_at dksX1_leaves_1 0 rfl rfl)
theorem dX1_leaves_25 : decode cX1_leaves 25 = .ok (.aload 5, 2) := dk_25 5 (dk_at dksX1_leaves_1 2 rfl rfl)
theorem dX1_leaves_27 : decode cX1_leaves 27 = .ok (.iload_n 2, 1) := dk_28 (dk_at dksX1_leaves_1 4 rfl rfl)
theorem dX1_leaves_28 : decode cX1_leaves 28 = .ok (.invokevirtual 203, 3) := dk_182 0 203 (dk_at dksX1_leaves_1 5 rfl rfl)
theorem dX1_leaves_31 : decode cX1_leaves 31 = .ok (.istore 7, 2) := dk_54 7 (dk_at dksX1_leaves_1 8 rfl rfl)
theorem dX1_leaves_33 : decode cX1_leaves 33 = .ok (.aload_n 1, 1) := dk_43 (dk_at dksX1_leaves_1 10 rfl rfl)
theorem dX1_leaves_34 : decode cX1_leaves 34 = .ok (.getfield 150, 3) := dk_180 0 150 (dk_at dksX1_leaves_1 11 rfl rfl)
theorem dX1_leaves_37 : decode cX1_leaves 37 = .ok (.iload_n 2, 1) := dk_28 (dk_at dksX1_leaves_1 14 rfl rfl)
theorem dX1_leaves_38 : decode cX1_leaves 38 = .ok (.aaload, 1) := dk_50 (dk_at dksX1_leaves_1 15 rfl rfl)
theorem dX1_leaves_39 : decode cX1_leaves 39 = .ok (.dup, 1) := dk_89 (dk_at dksX1_leaves_1 16 rfl rfl)
theorem dX1_leaves_40 : decode cX1_leaves 40 = .ok (.getfield 192, 3) := dk_180 0 192 (dk_at dksX1_leaves_1 17 rfl rfl)
theorem dX1_leaves_43 : decode cX1_leaves 43 = .ok (.iload 4, 2) := dk_21 4 (dk_at dksX1_leaves_1 20 rfl rfl)
theorem dX1_leaves_45 : decode cX1_leaves 45 = .ok (.iadd, 1) := dk_96 (dk_at dksX1_leaves_1 22 rfl rfl)
theorem dX1_leaves_46 : decode cX1_leaves 46 = .ok (.putfield 192, 3) := dk_181 0 192 (dk_at dksX1_leaves_2 0 rfl rfl)
theorem dX1_leaves_49 : decode cX1_leaves 49 = .ok (.iload 7, 2) := dk_21 7 (dk_at dksX1_leaves_2 3 rfl rfl)
theorem dX1_leaves_51 : decode cX1_leaves 51 = .ok (.ifCond .le 29, 3) := dk_158 0 29 (dk_at dksX1_leaves_2 5 rfl rfl)
theorem dX1_leaves_54 : decode cX1_leaves 54 = .ok (.aload_n 1, 1) := dk_43 (dk_at dksX1_leaves_2 8 rfl rfl)
theorem dX1_leaves_55 : decode cX1_leaves 55 = .ok (.getfield 150, 3) := dk_180 0 150 (dk_at dksX1_leaves_2 9 rfl rfl)
theorem dX1_leaves_58 : decode cX1_leaves 58 = .ok (.aload 5, 2) := dk_25 5 (dk_at dksX1_leaves_2 12 rfl rfl)
theorem dX1_leaves_60 : decode cX1_leaves 60 = .ok (.getfield 208, 3) := dk_180 0 208 (dk_at dksX1_leaves_2 14 rfl rfl)
theorem dX1_leaves_63 : decode cX1_leaves 63 = .ok (.iload 7, 2) := dk_21 7 (dk_at dksX1_leaves_2 17 rfl rfl)
theorem dX1_leaves_65 : decode cX1_leaves 65 = .ok (.iconst 1, 1) := dk_4 (dk_at dksX1_leaves_2 19 rfl rfl)
theorem dX1_leaves_66 : decode cX1_leaves 66 = .ok (.isub, 1) := dk_100 (dk_at dksX1_leaves_2 20 rfl rfl)
theorem dX1_leaves_67 : decode cX1_leaves 67 = .ok (.iaload, 1) := dk_46 (dk_at dksX1_leaves_2 21 rfl rfl)
theorem dX1_leaves_68 : decode cX1_leaves 68 = .ok (.aaload, 1) := dk_50 (dk_at dksX1_leaves_2 22 rfl rfl)
theorem dX1_leaves_69 : decode cX1_leaves 69 = .ok (.getfield 211, 3) := dk_180 0 211 (dk_at dksX1_leaves_3 0 rfl rfl)
theorem dX1_leaves_72 : decode cX1_leaves 72 = .ok (.iload_n 3, 1) := dk_29 (dk_at dksX1_leaves_3 3 rfl rfl)
theorem dX1_leaves_73 : decode cX1_leaves 73 = .ok (.dup2, 1) := dk_92 (dk_at dksX1_leaves_3 4 rfl rfl)
theorem dX1_leaves_74 : decode cX1_leaves 74 = .ok (.iaload, 1) := dk_46 (dk_at dksX1_leaves_3 5 rfl rfl)
theorem dX1_leaves_75 : decode cX1_leaves 75 = .ok (.iload 4, 2) := dk_21 4 (dk_at dksX1_leaves_3 6 rfl rfl)
theorem dX1_leaves_77 : decode cX1_leaves 77 = .ok (.isub, 1) := dk_100 (dk_at dksX1_leaves_3 8 rfl rfl)
theorem dX1_leaves_78 : decode cX1_leaves 78 = .ok (.iastore, 1) := dk_79 (dk_at dksX1_leaves_3 9 rfl rfl)
theorem dX1_leaves_79 : decode cX1_leaves 79 = .ok (.return_, 1) := dk_177 (dk_at dksX1_leaves_3 10 rfl rfl)
theorem dX1_leaves_80 : decode cX1_leaves 80 = .ok (.aload 6, 2) := dk_25 6 (dk_at dksX1_leaves_3 11 rfl rfl)
theorem dX1_leaves_82 : decode cX1_leaves 82 = .ok (.dup, 1) := dk_89 (dk_at dksX1_leaves_3 13 rfl rfl)
theorem dX1_leaves_83 : decode cX1_leaves 83 = .ok (.getfield 126, 3) := dk_180 0 126 (dk_at dksX1_leaves_3 14 rfl rfl)
theorem dX1_leaves_86 : decode cX1_leaves 86 = .ok (.bipush 16, 2) := dk_16 16 (dk_at dksX1_leaves_3 17 rfl rfl)
theorem dX1_leaves_88 : decode cX1_leaves 88 = .ok (.iload 4, 2) := dk_21 4 (dk_at dksX1_leaves_3 19 rfl rfl)
theorem dX1_leaves_90 : decode cX1_leaves 90 = .ok (.imul, 1) := dk_104 (dk_at dksX1_leaves_3 21 rfl rfl)
theorem dX1_leaves_91 : decode cX1_leaves 91 = .ok (.isub, 1) := dk_100 (dk_at dksX1_leaves_3 22 rfl rfl)
theorem dX1_leaves_92 : decode cX1_leaves 92 = .ok (.putfield 126, 3) := dk_181 0 126 (dk_at dksX1_leaves_4 0 rfl rfl)
theorem dX1_leaves_95 : decode cX1_leaves 95 = .ok (.aload 6, 2) := dk_25 6 (dk_at dksX1_leaves_4 3 rfl rfl)
theorem dX1_leaves_97 : decode cX1_leaves 97 = .ok (.dup, 1) := dk_89 (dk_at dksX1_leaves_4 5 rfl rfl)
theorem dX1_leaves_98 : decode cX1_leaves 98 = .ok (.getfield 214, 3) := dk_180 0 214 (dk_at dksX1_leaves_4 6 rfl rfl)
theorem dX1_leaves_101 : decode cX1_leaves 101 = .ok (.iload 4, 2) := dk_21 4 (dk_at dksX1_leaves_4 9 rfl rfl)
theorem dX1_leaves_103 : decode cX1_leaves 103 = .ok (.iadd, 1) := dk_96 (dk_at dksX1_leaves_4 11 rfl rfl)
theorem dX1_leaves_104 : decode cX1_leaves 104 = .ok (.putfield 214, 3) := dk_181 0 214 (dk_at dksX1_leaves_4 12 rfl rfl)
theorem dX1_leaves_107 : decode cX1_leaves 107 = .ok (.aload 6, 2) := dk_25 6 (dk_at dksX1_leaves_4 15 rfl rfl)
theorem dX1_leaves_109 : decode cX1_leaves 109 = .ok (.dup, 1) := dk_89 (dk_at dksX1_leaves_4 17 rfl rfl)
theorem dX1_leaves_110 : decode cX1_leaves 110 = .ok (.getfield 118, 3) := dk_180 0 118 (dk_at dksX1_leaves_4 18 rfl rfl)
theorem dX1_leaves_113 : decode cX1_leaves 113 = .ok (.iload 4, 2) := dk_21 4 (dk_at dksX1_leaves_4 21 rfl rfl)
theorem dX1_leaves_115 : decode cX1_leaves 115 = .ok (.iadd, 1) := dk_96 (dk_at dksX1_leaves_4 23 rfl rfl)
theorem dX1_leaves_116 : decode cX1_leaves 116 = .ok (.putfield 118, 3) := dk_181 0 118 (dk_at dksX1_leaves_5 0 rfl rfl)
theorem dX1_leaves_119 : decode cX1_leaves 119 = .ok (.return_, 1) := dk_177 (dk_at dksX1_leaves_5 3 rfl rfl)
abbrev cX1_arrives : ByteArray := prog_1_method_13_code
def yX1_arrives : MethodName := ⟨RX1, "arrives", "(LLosslessFabric$State;I)V"⟩
def dkwX1_arrives_9 : List UInt8 := [181, 0, 237, 177]
abbrev dktX1_arrives_9 : List UInt8 := dkwX1_arrives_9 ++ []
def dkwX1_arrives_8 : List UInt8 := [46, 100, 96, 181, 0, 236, 132, 4, 1, 167, 255, 68, 45, 45, 180, 0, 237, 45, 182, 0, 226, 184, 0, 230]
abbrev dktX1_arrives_8 : List UInt8 := dkwX1_arrives_8 ++ dktX1_arrives_9
def dkwX1_arrives_7 : List UInt8 := [43, 180, 0, 114, 21, 4, 50, 89, 180, 0, 236, 42, 180, 0, 28, 21, 5, 46, 42, 180, 0, 31, 21, 5]
abbrev dktX1_arrives_7 : List UInt8 := dkwX1_arrives_7 ++ dktX1_arrives_8
def dkwX1_arrives_6 : List UInt8 := [45, 89, 180, 0, 233, 42, 180, 0, 28, 21, 5, 46, 42, 180, 0, 31, 21, 5, 46, 100, 96, 181, 0, 233]
abbrev dktX1_arrives_6 : List UInt8 := dkwX1_arrives_6 ++ dktX1_arrives_7
def dkwX1_arrives_5 : List UInt8 := [184, 0, 230, 184, 0, 132, 79, 45, 180, 0, 211, 21, 4, 92, 46, 42, 180, 0, 31, 21, 5, 46, 96, 79]
abbrev dktX1_arrives_5 : List UInt8 := dkwX1_arrives_5 ++ dktX1_arrives_6
def dkwX1_arrives_4 : List UInt8 := [42, 180, 0, 31, 21, 5, 42, 180, 0, 28, 21, 5, 46, 3, 45, 180, 0, 223, 45, 182, 0, 226, 100]
abbrev dktX1_arrives_4 : List UInt8 := dkwX1_arrives_4 ++ dktX1_arrives_5
def dkwX1_arrives_3 : List UInt8 := [180, 0, 114, 21, 4, 50, 89, 180, 0, 220, 42, 180, 0, 28, 21, 5, 46, 96, 181, 0, 220, 167, 0, 104]
abbrev dktX1_arrives_3 : List UInt8 := dkwX1_arrives_3 ++ dktX1_arrives_4
def dkwX1_arrives_2 : List UInt8 := [154, 0, 6, 167, 0, 146, 42, 180, 0, 20, 180, 0, 199, 21, 4, 50, 28, 182, 0, 217, 153, 0, 28, 43]
abbrev dktX1_arrives_2 : List UInt8 := dkwX1_arrives_2 ++ dktX1_arrives_3
def dkwX1_arrives_1 : List UInt8 := [28, 104, 21, 4, 96, 54, 5, 42, 180, 0, 31, 21, 5, 3, 79, 42, 180, 0, 28, 21, 5, 46]
abbrev dktX1_arrives_1 : List UInt8 := dkwX1_arrives_1 ++ dktX1_arrives_2
def dkwX1_arrives_0 : List UInt8 := [43, 180, 0, 150, 28, 50, 78, 3, 54, 4, 21, 4, 42, 180, 0, 20, 180, 0, 111, 162, 0, 182, 16, 8]
abbrev dktX1_arrives_0 : List UInt8 := dkwX1_arrives_0 ++ dktX1_arrives_1
theorem dksX1_arrives_0 : cX1_arrives.data.toList.drop 0 = dktX1_arrives_0 := by decide +kernel
theorem dksX1_arrives_1 : cX1_arrives.data.toList.drop 24 = dktX1_arrives_1 := dk_seg dksX1_arrives_0 24 rfl rfl
theorem dksX1_arrives_2 : cX1_arrives.data.toList.drop 46 = dktX1_arrives_2 := dk_seg dksX1_arrives_1 22 rfl rfl
theorem dksX1_arrives_3 : cX1_arrives.data.toList.drop 70 = dktX1_arrives_3 := dk_seg dksX1_arrives_2 24 rfl rfl
theorem dksX1_arrives_4 : cX1_arrives.data.toList.drop 94 = dktX1_arrives_4 := dk_seg dksX1_arrives_3 24 rfl rfl
theorem dksX1_arrives_5 : cX1_arrives.data.toList.drop 117 = dktX1_arrives_5 := dk_seg dksX1_arrives_4 23 rfl rfl
theorem dksX1_arrives_6 : cX1_arrives.data.toList.drop 141 = dktX1_arrives_6 := dk_seg dksX1_arrives_5 24 rfl rfl
theorem dksX1_arrives_7 : cX1_arrives.data.toList.drop 165 = dktX1_arrives_7 := dk_seg dksX1_arrives_6 24 rfl rfl
theorem dksX1_arrives_8 : cX1_arrives.data.toList.drop 189 = dktX1_arrives_8 := dk_seg dksX1_arrives_7 24 rfl rfl
theorem dksX1_arrives_9 : cX1_arrives.data.toList.drop 213 = dktX1_arrives_9 := dk_seg dksX1_arrives_8 24 rfl rfl
theorem dX1_arrives_0 : decode cX1_arrives 0 = .ok (.aload_n 1, 1) := dk_43 (dk_at dksX1_arrives_0 0 rfl rfl)
theorem dX1_arrives_1 : decode cX1_arrives 1 = .ok (.getfield 150, 3) := dk_180 0 150 (dk_at dksX1_arrives_0 1 rfl rfl)
theorem dX1_arrives_4 : decode cX1_arrives 4 = .ok (.iload_n 2, 1) := dk_28 (dk_at dksX1_arrives_0 4 rfl rfl)
theorem dX1_arrives_5 : decode cX1_arrives 5 = .ok (.aaload, 1) := dk_50 (dk_at dksX1_arrives_0 5 rfl rfl)
theorem dX1_arrives_6 : decode cX1_arrives 6 = .ok (.astore_n 3, 1) := dk_78 (dk_at dksX1_arrives_0 6 rfl rfl)
theorem dX1_arrives_7 : decode cX1_arrives 7 = .ok (.iconst 0, 1) := dk_3 (dk_at dksX1_arrives_0 7 rfl rfl)
theorem dX1_arrives_8 : decode cX1_arrives 8 = .ok (.istore 4, 2) := dk_54 4 (dk_at dksX1_arrives_0 8 rfl rfl)
theorem dX1_arrives_10 : decode cX1_arrives 10 = .ok (.iload 4, 2) := dk_21 4 (dk_at dksX1_arrives_0 10 rfl rfl)
theorem dX1_arrives_12 : decode cX1_arrives 12 = .ok (.aload_n 0, 1) := dk_42 (dk_at dksX1_arrives_0 12 rfl rfl)
theorem dX1_arrives_13 : decode cX1_arrives 13 = .ok (.getfield 20, 3) := dk_180 0 20 (dk_at dksX1_arrives_0 13 rfl rfl)
theorem dX1_arrives_16 : decode cX1_arrives 16 = .ok (.getfield 111, 3) := dk_180 0 111 (dk_at dksX1_arrives_0 16 rfl rfl)
theorem dX1_arrives_19 : decode cX1_arrives 19 = .ok (.if_icmp .ge 182, 3) := dk_162 0 182 (dk_at dksX1_arrives_0 19 rfl rfl)
theorem dX1_arrives_22 : decode cX1_arrives 22 = .ok (.bipush 8, 2) := dk_16 8 (dk_at dksX1_arrives_0 22 rfl rfl)
theorem dX1_arrives_24 : decode cX1_arrives 24 = .ok (.iload_n 2, 1) := dk_28 (dk_at dksX1_arrives_1 0 rfl rfl)
theorem dX1_arrives_25 : decode cX1_arrives 25 = .ok (.imul, 1) := dk_104 (dk_at dksX1_arrives_1 1 rfl rfl)
theorem dX1_arrives_26 : decode cX1_arrives 26 = .ok (.iload 4, 2) := dk_21 4 (dk_at dksX1_arrives_1 2 rfl rfl)
theorem dX1_arrives_28 : decode cX1_arrives 28 = .ok (.iadd, 1) := dk_96 (dk_at dksX1_arrives_1 4 rfl rfl)
theorem dX1_arrives_29 : decode cX1_arrives 29 = .ok (.istore 5, 2) := dk_54 5 (dk_at dksX1_arrives_1 5 rfl rfl)
theorem dX1_arrives_31 : decode cX1_arrives 31 = .ok (.aload_n 0, 1) := dk_42 (dk_at dksX1_arrives_1 7 rfl rfl)
theorem dX1_arrives_32 : decode cX1_arrives 32 = .ok (.getfield 31, 3) := dk_180 0 31 (dk_at dksX1_arrives_1 8 rfl rfl)
theorem dX1_arrives_35 : decode cX1_arrives 35 = .ok (.iload 5, 2) := dk_21 5 (dk_at dksX1_arrives_1 11 rfl rfl)
theorem dX1_arrives_37 : decode cX1_arrives 37 = .ok (.iconst 0, 1) := dk_3 (dk_at dksX1_arrives_1 13 rfl rfl)
theorem dX1_arrives_38 : decode cX1_arrives 38 = .ok (.iastore, 1) := dk_79 (dk_at dksX1_arrives_1 14 rfl rfl)
theorem dX1_arrives_39 : decode cX1_arrives 39 = .ok (.aload_n 0, 1) := dk_42 (dk_at dksX1_arrives_1 15 rfl rfl)
theorem dX1_arrives_40 : decode cX1_arrives 40 = .ok (.getfield 28, 3) := dk_180 0 28 (dk_at dksX1_arrives_1 16 rfl rfl)
theorem dX1_arrives_43 : decode cX1_arrives 43 = .ok (.iload 5, 2) := dk_21 5 (dk_at dksX1_arrives_1 19 rfl rfl)
theorem dX1_arrives_45 : decode cX1_arrives 45 = .ok (.iaload, 1) := dk_46 (dk_at dksX1_arrives_1 21 rfl rfl)
theorem dX1_arrives_46 : decode cX1_arrives 46 = .ok (.ifCond .ne 6, 3) := dk_154 0 6 (dk_at dksX1_arrives_2 0 rfl rfl)
theorem dX1_arrives_49 : decode cX1_arrives 49 = .ok (.goto 146, 3) := dk_167 0 146 (dk_at dksX1_arrives_2 3 rfl rfl)
theorem dX1_arrives_52 : decode cX1_arrives 52 = .ok (.aload_n 0, 1) := dk_42 (dk_at dksX1_arrives_2 6 rfl rfl)
theorem dX1_arrives_53 : decode cX1_arrives 53 = .ok (.getfield 20, 3) := dk_180 0 20 (dk_at dksX1_arrives_2 7 rfl rfl)
theorem dX1_arrives_56 : decode cX1_arrives 56 = .ok (.getfield 199, 3) := dk_180 0 199 (dk_at dksX1_arrives_2 10 rfl rfl)
theorem dX1_arrives_59 : decode cX1_arrives 59 = .ok (.iload 4, 2) := dk_21 4 (dk_at dksX1_arrives_2 13 rfl rfl)
theorem dX1_arrives_61 : decode cX1_arrives 61 = .ok (.aaload, 1) := dk_50 (dk_at dksX1_arrives_2 15 rfl rfl)
theorem dX1_arrives_62 : decode cX1_arrives 62 = .ok (.iload_n 2, 1) := dk_28 (dk_at dksX1_arrives_2 16 rfl rfl)
theorem dX1_arrives_63 : decode cX1_arrives 63 = .ok (.invokevirtual 217, 3) := dk_182 0 217 (dk_at dksX1_arrives_2 17 rfl rfl)
theorem dX1_arrives_66 : decode cX1_arrives 66 = .ok (.ifCond .eq 28, 3) := dk_153 0 28 (dk_at dksX1_arrives_2 20 rfl rfl)
theorem dX1_arrives_69 : decode cX1_arrives 69 = .ok (.aload_n 1, 1) := dk_43 (dk_at dksX1_arrives_2 23 rfl rfl)
theorem dX1_arrives_70 : decode cX1_arrives 70 = .ok (.getfield 114, 3) := dk_180 0 114 (dk_at dksX1_arrives_3 0 rfl rfl)
theorem dX1_arrives_73 : decode cX1_arrives 73 = .ok (.iload 4, 2) := dk_21 4 (dk_at dksX1_arrives_3 3 rfl rfl)
theorem dX1_arrives_75 : decode cX1_arrives 75 = .ok (.aaload, 1) := dk_50 (dk_at dksX1_arrives_3 5 rfl rfl)
theorem dX1_arrives_76 : decode cX1_arrives 76 = .ok (.dup, 1) := dk_89 (dk_at dksX1_arrives_3 6 rfl rfl)
theorem dX1_arrives_77 : decode cX1_arrives 77 = .ok (.getfield 220, 3) := dk_180 0 220 (dk_at dksX1_arrives_3 7 rfl rfl)
theorem dX1_arrives_80 : decode cX1_arrives 80 = .ok (.aload_n 0, 1) := dk_42 (dk_at dksX1_arrives_3 10 rfl rfl)
theorem dX1_arrives_81 : decode cX1_arrives 81 = .ok (.getfield 28, 3) := dk_180 0 28 (dk_at dksX1_arrives_3 11 rfl rfl)
theorem dX1_arrives_84 : decode cX1_arrives 84 = .ok (.iload 5, 2) := dk_21 5 (dk_at dksX1_arrives_3 14 rfl rfl)
theorem dX1_arrives_86 : decode cX1_arrives 86 = .ok (.iaload, 1) := dk_46 (dk_at dksX1_arrives_3 16 rfl rfl)
theorem dX1_arrives_87 : decode cX1_arrives 87 = .ok (.iadd, 1) := dk_96 (dk_at dksX1_arrives_3 17 rfl rfl)
theorem dX1_arrives_88 : decode cX1_arrives 88 = .ok (.putfield 220, 3) := dk_181 0 220 (dk_at dksX1_arrives_3 18 rfl rfl)
theorem dX1_arrives_91 : decode cX1_arrives 91 = .ok (.goto 104, 3) := dk_167 0 104 (dk_at dksX1_arrives_3 21 rfl rfl)
theorem dX1_arrives_94 : decode cX1_arrives 94 = .ok (.aload_n 0, 1) := dk_42 (dk_at dksX1_arrives_4 0 rfl rfl)
theorem dX1_arrives_95 : decode cX1_arrives 95 = .ok (.getfield 31, 3) := dk_180 0 31 (dk_at dksX1_arrives_4 1 rfl rfl)
theorem dX1_arrives_98 : decode cX1_arrives 98 = .ok (.iload 5, 2) := dk_21 5 (dk_at dksX1_arrives_4 4 rfl rfl)
theorem dX1_arrives_100 : decode cX1_arrives 100 = .ok (.aload_n 0, 1) := dk_42 (dk_at dksX1_arrives_4 6 rfl rfl)
theorem dX1_arrives_101 : decode cX1_arrives 101 = .ok (.getfield 28, 3) := dk_180 0 28 (dk_at dksX1_arrives_4 7 rfl rfl)
theorem dX1_arrives_104 : decode cX1_arrives 104 = .ok (.iload 5, 2) := dk_21 5 (dk_at dksX1_arrives_4 10 rfl rfl)
theorem dX1_arrives_106 : decode cX1_arrives 106 = .ok (.iaload, 1) := dk_46 (dk_at dksX1_arrives_4 12 rfl rfl)
theorem dX1_arrives_107 : decode cX1_arrives 107 = .ok (.iconst 0, 1) := dk_3 (dk_at dksX1_arrives_4 13 rfl rfl)
theorem dX1_arrives_108 : decode cX1_arrives 108 = .ok (.aload_n 3, 1) := dk_45 (dk_at dksX1_arrives_4 14 rfl rfl)
theorem dX1_arrives_109 : decode cX1_arrives 109 = .ok (.getfield 223, 3) := dk_180 0 223 (dk_at dksX1_arrives_4 15 rfl rfl)
theorem dX1_arrives_112 : decode cX1_arrives 112 = .ok (.aload_n 3, 1) := dk_45 (dk_at dksX1_arrives_4 18 rfl rfl)
theorem dX1_arrives_113 : decode cX1_arrives 113 = .ok (.invokevirtual 226, 3) := dk_182 0 226 (dk_at dksX1_arrives_4 19 rfl rfl)
theorem dX1_arrives_116 : decode cX1_arrives 116 = .ok (.isub, 1) := dk_100 (dk_at dksX1_arrives_4 22 rfl rfl)
theorem dX1_arrives_117 : decode cX1_arrives 117 = .ok (.invokestatic 230, 3) := dk_184 0 230 (dk_at dksX1_arrives_5 0 rfl rfl)
theorem dX1_arrives_120 : decode cX1_arrives 120 = .ok (.invokestatic 132, 3) := dk_184 0 132 (dk_at dksX1_arrives_5 3 rfl rfl)
theorem dX1_arrives_123 : decode cX1_arrives 123 = .ok (.iastore, 1) := dk_79 (dk_at dksX1_arrives_5 6 rfl rfl)
theorem dX1_arrives_124 : decode cX1_arrives 124 = .ok (.aload_n 3, 1) := dk_45 (dk_at dksX1_arrives_5 7 rfl rfl)
theorem dX1_arrives_125 : decode cX1_arrives 125 = .ok (.getfield 211, 3) := dk_180 0 211 (dk_at dksX1_arrives_5 8 rfl rfl)
theorem dX1_arrives_128 : decode cX1_arrives 128 = .ok (.iload 4, 2) := dk_21 4 (dk_at dksX1_arrives_5 11 rfl rfl)
theorem dX1_arrives_130 : decode cX1_arrives 130 = .ok (.dup2, 1) := dk_92 (dk_at dksX1_arrives_5 13 rfl rfl)
theorem dX1_arrives_131 : decode cX1_arrives 131 = .ok (.iaload, 1) := dk_46 (dk_at dksX1_arrives_5 14 rfl rfl)
theorem dX1_arrives_132 : decode cX1_arrives 132 = .ok (.aload_n 0, 1) := dk_42 (dk_at dksX1_arrives_5 15 rfl rfl)
theorem dX1_arrives_133 : decode cX1_arrives 133 = .ok (.getfield 31, 3) := dk_180 0 31 (dk_at dksX1_arrives_5 16 rfl rfl)
theorem dX1_arrives_136 : decode cX1_arrives 136 = .ok (.iload 5, 2) := dk_21 5 (dk_at dksX1_arrives_5 19 rfl rfl)
theorem dX1_arrives_138 : decode cX1_arrives 138 = .ok (.iaload, 1) := dk_46 (dk_at dksX1_arrives_5 21 rfl rfl)
theorem dX1_arrives_139 : decode cX1_arrives 139 = .ok (.iadd, 1) := dk_96 (dk_at dksX1_arrives_5 22 rfl rfl)
theorem dX1_arrives_140 : decode cX1_arrives 140 = .ok (.iastore, 1) := dk_79 (dk_at dksX1_arrives_5 23 rfl rfl)
theorem dX1_arrives_141 : decode cX1_arrives 141 = .ok (.aload_n 3, 1) := dk_45 (dk_at dksX1_arrives_6 0 rfl rfl)
theorem dX1_arrives_142 : decode cX1_arrives 142 = .ok (.dup, 1) := dk_89 (dk_at dksX1_arrives_6 1 rfl rfl)
theorem dX1_arrives_143 : decode cX1_arrives 143 = .ok (.getfield 233, 3) := dk_180 0 233 (dk_at dksX1_arrives_6 2 rfl rfl)
theorem dX1_arrives_146 : decode cX1_arrives 146 = .ok (.aload_n 0, 1) := dk_42 (dk_at dksX1_arrives_6 5 rfl rfl)
theorem dX1_arrives_147 : decode cX1_arrives 147 = .ok (.getfield 28, 3) := dk_180 0 28 (dk_at dksX1_arrives_6 6 rfl rfl)
theorem dX1_arrives_150 : decode cX1_arrives 150 = .ok (.iload 5, 2) := dk_21 5 (dk_at dksX1_arrives_6 9 rfl rfl)
theorem dX1_arrives_152 : decode cX1_arrives 152 = .ok (.iaload, 1) := dk_46 (dk_at dksX1_arrives_6 11 rfl rfl)
theorem dX1_arrives_153 : decode cX1_arrives 153 = .ok (.aload_n 0, 1) := dk_42 (dk_at dksX1_arrives_6 12 rfl rfl)
theorem dX1_arrives_154 : decode cX1_arrives 154 = .ok (.getfield 31, 3) := dk_180 0 31 (dk_at dksX1_arrives_6 13 rfl rfl)
theorem dX1_arrives_157 : decode cX1_arrives 157 = .ok (.iload 5, 2) := dk_21 5 (dk_at dksX1_arrives_6 16 rfl rfl)
theorem dX1_arrives_159 : decode cX1_arrives 159 = .ok (.iaload, 1) := dk_46 (dk_at dksX1_arrives_6 18 rfl rfl)
theorem dX1_arrives_160 : decode cX1_arrives 160 = .ok (.isub, 1) := dk_100 (dk_at dksX1_arrives_6 19 rfl rfl)
theorem dX1_arrives_161 : decode cX1_arrives 161 = .ok (.iadd, 1) := dk_96 (dk_at dksX1_arrives_6 20 rfl rfl)
theorem dX1_arrives_162 : decode cX1_arrives 162 = .ok (.putfield 233, 3) := dk_181 0 233 (dk_at dksX1_arrives_6 21 rfl rfl)
theorem dX1_arrives_165 : decode cX1_arrives 165 = .ok (.aload_n 1, 1) := dk_43 (dk_at dksX1_arrives_7 0 rfl rfl)
theorem dX1_arrives_166 : decode cX1_arrives 166 = .ok (.getfield 114, 3) := dk_180 0 114 (dk_at dksX1_arrives_7 1 rfl rfl)
theorem dX1_arrives_169 : decode cX1_arrives 169 = .ok (.iload 4, 2) := dk_21 4 (dk_at dksX1_arrives_7 4 rfl rfl)
theorem dX1_arrives_171 : decode cX1_arrives 171 = .ok (.aaload, 1) := dk_50 (dk_at dksX1_arrives_7 6 rfl rfl)
theorem dX1_arrives_172 : decode cX1_arrives 172 = .ok (.dup, 1) := dk_89 (dk_at dksX1_arrives_7 7 rfl rfl)
theorem dX1_arrives_173 : decode cX1_arrives 173 = .ok (.getfield 236, 3) := dk_180 0 236 (dk_at dksX1_arrives_7 8 rfl rfl)
theorem dX1_arrives_176 : decode cX1_arrives 176 = .ok (.aload_n 0, 1) := dk_42 (dk_at dksX1_arrives_7 11 rfl rfl)
theorem dX1_arrives_177 : decode cX1_arrives 177 = .ok (.getfield 28, 3) := dk_180 0 28 (dk_at dksX1_arrives_7 12 rfl rfl)
theorem dX1_arrives_180 : decode cX1_arrives 180 = .ok (.iload 5, 2) := dk_21 5 (dk_at dksX1_arrives_7 15 rfl rfl)
theorem dX1_arrives_182 : decode cX1_arrives 182 = .ok (.iaload, 1) := dk_46 (dk_at dksX1_arrives_7 17 rfl rfl)
theorem dX1_arrives_183 : decode cX1_arrives 183 = .ok (.aload_n 0, 1) := dk_42 (dk_at dksX1_arrives_7 18 rfl rfl)
theorem dX1_arrives_184 : decode cX1_arrives 184 = .ok (.getfield 31, 3) := dk_180 0 31 (dk_at dksX1_arrives_7 19 rfl rfl)
theorem dX1_arrives_187 : decode cX1_arrives 187 = .ok (.iload 5, 2) := dk_21 5 (dk_at dksX1_arrives_7 22 rfl rfl)
theorem dX1_arrives_189 : decode cX1_arrives 189 = .ok (.iaload, 1) := dk_46 (dk_at dksX1_arrives_8 0 rfl rfl)
theorem dX1_arrives_190 : decode cX1_arrives 190 = .ok (.isub, 1) := dk_100 (dk_at dksX1_arrives_8 1 rfl rfl)
theorem dX1_arrives_191 : decode cX1_arrives 191 = .ok (.iadd, 1) := dk_96 (dk_at dksX1_arrives_8 2 rfl rfl)
theorem dX1_arrives_192 : decode cX1_arrives 192 = .ok (.putfield 236, 3) := dk_181 0 236 (dk_at dksX1_arrives_8 3 rfl rfl)
theorem dX1_arrives_195 : decode cX1_arrives 195 = .ok (.iinc 4 1, 3) := dk_132 4 1 (dk_at dksX1_arrives_8 6 rfl rfl)
theorem dX1_arrives_198 : decode cX1_arrives 198 = .ok (.goto (-188), 3) := dk_167 255 68 (dk_at dksX1_arrives_8 9 rfl rfl)
theorem dX1_arrives_201 : decode cX1_arrives 201 = .ok (.aload_n 3, 1) := dk_45 (dk_at dksX1_arrives_8 12 rfl rfl)
theorem dX1_arrives_202 : decode cX1_arrives 202 = .ok (.aload_n 3, 1) := dk_45 (dk_at dksX1_arrives_8 13 rfl rfl)
theorem dX1_arrives_203 : decode cX1_arrives 203 = .ok (.getfield 237, 3) := dk_180 0 237 (dk_at dksX1_arrives_8 14 rfl rfl)
theorem dX1_arrives_206 : decode cX1_arrives 206 = .ok (.aload_n 3, 1) := dk_45 (dk_at dksX1_arrives_8 17 rfl rfl)
theorem dX1_arrives_207 : decode cX1_arrives 207 = .ok (.invokevirtual 226, 3) := dk_182 0 226 (dk_at dksX1_arrives_8 18 rfl rfl)
theorem dX1_arrives_210 : decode cX1_arrives 210 = .ok (.invokestatic 230, 3) := dk_184 0 230 (dk_at dksX1_arrives_8 21 rfl rfl)
theorem dX1_arrives_213 : decode cX1_arrives 213 = .ok (.putfield 237, 3) := dk_181 0 237 (dk_at dksX1_arrives_9 0 rfl rfl)
theorem dX1_arrives_216 : decode cX1_arrives 216 = .ok (.return_, 1) := dk_177 (dk_at dksX1_arrives_9 3 rfl rfl)
abbrev cX1_samples : ByteArray := prog_1_method_14_code
def yX1_samples : MethodName := ⟨RX1, "samples", "(LLosslessFabric$State;I)V"⟩
def dkwX1_samples_7 : List UInt8 := [186, 1, 3, 0, 0, 183, 1, 6, 83, 42, 89, 180, 0, 159, 4, 96, 181, 0, 159, 177]
abbrev dktX1_samples_7 : List UInt8 := dkwX1_samples_7 ++ []
def dkwX1_samples_6 : List UInt8 := [181, 1, 1, 21, 4, 54, 6, 42, 180, 0, 36, 42, 180, 0, 159, 187, 0, 34, 89, 21, 6, 21, 5]
abbrev dktX1_samples_6 : List UInt8 := dkwX1_samples_6 ++ dktX1_samples_7
def dkwX1_samples_5 : List UInt8 := [54, 5, 45, 45, 182, 0, 226, 181, 0, 254, 21, 5, 154, 0, 4, 177, 45, 89, 180, 1, 1, 4, 96]
abbrev dktX1_samples_5 : List UInt8 := dkwX1_samples_5 ++ dktX1_samples_6
def dkwX1_samples_4 : List UInt8 := [112, 181, 0, 240, 45, 89, 180, 0, 246, 4, 96, 181, 0, 246, 43, 43, 28, 182, 0, 248, 182, 0, 251]
abbrev dktX1_samples_4 : List UInt8 := dkwX1_samples_4 ++ dktX1_samples_5
def dkwX1_samples_3 : List UInt8 := [132, 5, 1, 167, 255, 197, 21, 4, 156, 0, 4, 177, 45, 89, 180, 0, 240, 42, 180, 0, 20, 180, 0, 243]
abbrev dktX1_samples_3 : List UInt8 := dkwX1_samples_3 ++ dktX1_samples_4
def dkwX1_samples_2 : List UInt8 := [21, 4, 156, 0, 21, 45, 180, 0, 240, 42, 180, 0, 20, 180, 0, 243, 161, 0, 7, 21, 5, 54, 4]
abbrev dktX1_samples_2 : List UInt8 := dkwX1_samples_2 ++ dktX1_samples_3
def dkwX1_samples_1 : List UInt8 := [162, 0, 53, 45, 89, 180, 0, 240, 42, 180, 0, 31, 16, 8, 28, 104, 21, 5, 96, 46, 96, 181, 0, 240]
abbrev dktX1_samples_1 : List UInt8 := dkwX1_samples_1 ++ dktX1_samples_2
def dkwX1_samples_0 : List UInt8 := [43, 180, 0, 150, 28, 50, 78, 2, 54, 4, 3, 54, 5, 21, 5, 42, 180, 0, 20, 180, 0, 111]
abbrev dktX1_samples_0 : List UInt8 := dkwX1_samples_0 ++ dktX1_samples_1
theorem dksX1_samples_0 : cX1_samples.data.toList.drop 0 = dktX1_samples_0 := by decide +kernel
theorem dksX1_samples_1 : cX1_samples.data.toList.drop 22 = dktX1_samples_1 := dk_seg dksX1_samples_0 22 rfl rfl
theorem dksX1_samples_2 : cX1_samples.data.toList.drop 46 = dktX1_samples_2 := dk_seg dksX1_samples_1 24 rfl rfl
theorem dksX1_samples_3 : cX1_samples.data.toList.drop 69 = dktX1_samples_3 := dk_seg dksX1_samples_2 23 rfl rfl
theorem dksX1_samples_4 : cX1_samples.data.toList.drop 93 = dktX1_samples_4 := dk_seg dksX1_samples_3 24 rfl rfl
theorem dksX1_samples_5 : cX1_samples.data.toList.drop 116 = dktX1_samples_5 := dk_seg dksX1_samples_4 23 rfl rfl
theorem dksX1_samples_6 : cX1_samples.data.toList.drop 139 = dktX1_samples_6 := dk_seg dksX1_samples_5 23 rfl rfl
theorem dksX1_samples_7 : cX1_samples.data.toList.drop 162 = dktX1_samples_7 := dk_seg dksX1_samples_6 23 rfl rfl
theorem dX1_samples_0 : decode cX1_samples 0 = .ok (.aload_n 1, 1) := dk_43 (dk_at dksX1_samples_0 0 rfl rfl)
theorem dX1_samples_1 : decode cX1_samples 1 = .ok (.getfield 150, 3) := dk_180 0 150 (dk_at dksX1_samples_0 1 rfl rfl)
theorem dX1_samples_4 : decode cX1_samples 4 = .ok (.iload_n 2, 1) := dk_28 (dk_at dksX1_samples_0 4 rfl rfl)
theorem dX1_samples_5 : decode cX1_samples 5 = .ok (.aaload, 1) := dk_50 (dk_at dksX1_samples_0 5 rfl rfl)
theorem dX1_samples_6 : decode cX1_samples 6 = .ok (.astore_n 3, 1) := dk_78 (dk_at dksX1_samples_0 6 rfl rfl)
theorem dX1_samples_7 : decode cX1_samples 7 = .ok (.iconst (-1), 1) := dk_2 (dk_at dksX1_samples_0 7 rfl rfl)
theorem dX1_samples_8 : decode cX1_samples 8 = .ok (.istore 4, 2) := dk_54 4 (dk_at dksX1_samples_0 8 rfl rfl)
theorem dX1_samples_10 : decode cX1_samples 10 = .ok (.iconst 0, 1) := dk_3 (dk_at dksX1_samples_0 10 rfl rfl)
theorem dX1_samples_11 : decode cX1_samples 11 = .ok (.istore 5, 2) := dk_54 5 (dk_at dksX1_samples_0 11 rfl rfl)
theorem dX1_samples_13 : decode cX1_samples 13 = .ok (.iload 5, 2) := dk_21 5 (dk_at dksX1_samples_0 13 rfl rfl)
theorem dX1_samples_15 : decode cX1_samples 15 = .ok (.aload_n 0, 1) := dk_42 (dk_at dksX1_samples_0 15 rfl rfl)
theorem dX1_samples_16 : decode cX1_samples 16 = .ok (.getfield 20, 3) := dk_180 0 20 (dk_at dksX1_samples_0 16 rfl rfl)
theorem dX1_samples_19 : decode cX1_samples 19 = .ok (.getfield 111, 3) := dk_180 0 111 (dk_at dksX1_samples_0 19 rfl rfl)
theorem dX1_samples_22 : decode cX1_samples 22 = .ok (.if_icmp .ge 53, 3) := dk_162 0 53 (dk_at dksX1_samples_1 0 rfl rfl)
theorem dX1_samples_25 : decode cX1_samples 25 = .ok (.aload_n 3, 1) := dk_45 (dk_at dksX1_samples_1 3 rfl rfl)
theorem dX1_samples_26 : decode cX1_samples 26 = .ok (.dup, 1) := dk_89 (dk_at dksX1_samples_1 4 rfl rfl)
theorem dX1_samples_27 : decode cX1_samples 27 = .ok (.getfield 240, 3) := dk_180 0 240 (dk_at dksX1_samples_1 5 rfl rfl)
theorem dX1_samples_30 : decode cX1_samples 30 = .ok (.aload_n 0, 1) := dk_42 (dk_at dksX1_samples_1 8 rfl rfl)
theorem dX1_samples_31 : decode cX1_samples 31 = .ok (.getfield 31, 3) := dk_180 0 31 (dk_at dksX1_samples_1 9 rfl rfl)
theorem dX1_samples_34 : decode cX1_samples 34 = .ok (.bipush 8, 2) := dk_16 8 (dk_at dksX1_samples_1 12 rfl rfl)
theorem dX1_samples_36 : decode cX1_samples 36 = .ok (.iload_n 2, 1) := dk_28 (dk_at dksX1_samples_1 14 rfl rfl)
theorem dX1_samples_37 : decode cX1_samples 37 = .ok (.imul, 1) := dk_104 (dk_at dksX1_samples_1 15 rfl rfl)
theorem dX1_samples_38 : decode cX1_samples 38 = .ok (.iload 5, 2) := dk_21 5 (dk_at dksX1_samples_1 16 rfl rfl)
theorem dX1_samples_40 : decode cX1_samples 40 = .ok (.iadd, 1) := dk_96 (dk_at dksX1_samples_1 18 rfl rfl)
theorem dX1_samples_41 : decode cX1_samples 41 = .ok (.iaload, 1) := dk_46 (dk_at dksX1_samples_1 19 rfl rfl)
theorem dX1_samples_42 : decode cX1_samples 42 = .ok (.iadd, 1) := dk_96 (dk_at dksX1_samples_1 20 rfl rfl)
theorem dX1_samples_43 : decode cX1_samples 43 = .ok (.putfield 240, 3) := dk_181 0 240 (dk_at dksX1_samples_1 21 rfl rfl)
theorem dX1_samples_46 : decode cX1_samples 46 = .ok (.iload 4, 2) := dk_21 4 (dk_at dksX1_samples_2 0 rfl rfl)
theorem dX1_samples_48 : decode cX1_samples 48 = .ok (.ifCond .ge 21, 3) := dk_156 0 21 (dk_at dksX1_samples_2 2 rfl rfl)
theorem dX1_samples_51 : decode cX1_samples 51 = .ok (.aload_n 3, 1) := dk_45 (dk_at dksX1_samples_2 5 rfl rfl)
theorem dX1_samples_52 : decode cX1_samples 52 = .ok (.getfield 240, 3) := dk_180 0 240 (dk_at dksX1_samples_2 6 rfl rfl)
theorem dX1_samples_55 : decode cX1_samples 55 = .ok (.aload_n 0, 1) := dk_42 (dk_at dksX1_samples_2 9 rfl rfl)
theorem dX1_samples_56 : decode cX1_samples 56 = .ok (.getfield 20, 3) := dk_180 0 20 (dk_at dksX1_samples_2 10 rfl rfl)
theorem dX1_samples_59 : decode cX1_samples 59 = .ok (.getfield 243, 3) := dk_180 0 243 (dk_at dksX1_samples_2 13 rfl rfl)
theorem dX1_samples_62 : decode cX1_samples 62 = .ok (.if_icmp .lt 7, 3) := dk_161 0 7 (dk_at dksX1_samples_2 16 rfl rfl)
theorem dX1_samples_65 : decode cX1_samples 65 = .ok (.iload 5, 2) := dk_21 5 (dk_at dksX1_samples_2 19 rfl rfl)
theorem dX1_samples_67 : decode cX1_samples 67 = .ok (.istore 4, 2) := dk_54 4 (dk_at dksX1_samples_2 21 rfl rfl)
theorem dX1_samples_69 : decode cX1_samples 69 = .ok (.iinc 5 1, 3) := dk_132 5 1 (dk_at dksX1_samples_3 0 rfl rfl)
theorem dX1_samples_72 : decode cX1_samples 72 = .ok (.goto (-59), 3) := dk_167 255 197 (dk_at dksX1_samples_3 3 rfl rfl)
theorem dX1_samples_75 : decode cX1_samples 75 = .ok (.iload 4, 2) := dk_21 4 (dk_at dksX1_samples_3 6 rfl rfl)
theorem dX1_samples_77 : decode cX1_samples 77 = .ok (.ifCond .ge 4, 3) := dk_156 0 4 (dk_at dksX1_samples_3 8 rfl rfl)
theorem dX1_samples_80 : decode cX1_samples 80 = .ok (.return_, 1) := dk_177 (dk_at dksX1_samples_3 11 rfl rfl)
theorem dX1_samples_81 : decode cX1_samples 81 = .ok (.aload_n 3, 1) := dk_45 (dk_at dksX1_samples_3 12 rfl rfl)
theorem dX1_samples_82 : decode cX1_samples 82 = .ok (.dup, 1) := dk_89 (dk_at dksX1_samples_3 13 rfl rfl)
theorem dX1_samples_83 : decode cX1_samples 83 = .ok (.getfield 240, 3) := dk_180 0 240 (dk_at dksX1_samples_3 14 rfl rfl)
theorem dX1_samples_86 : decode cX1_samples 86 = .ok (.aload_n 0, 1) := dk_42 (dk_at dksX1_samples_3 17 rfl rfl)
theorem dX1_samples_87 : decode cX1_samples 87 = .ok (.getfield 20, 3) := dk_180 0 20 (dk_at dksX1_samples_3 18 rfl rfl)
theorem dX1_samples_90 : decode cX1_samples 90 = .ok (.getfield 243, 3) := dk_180 0 243 (dk_at dksX1_samples_3 21 rfl rfl)
theorem dX1_samples_93 : decode cX1_samples 93 = .ok (.irem, 1) := dk_112 (dk_at dksX1_samples_4 0 rfl rfl)
theorem dX1_samples_94 : decode cX1_samples 94 = .ok (.putfield 240, 3) := dk_181 0 240 (dk_at dksX1_samples_4 1 rfl rfl)
theorem dX1_samples_97 : decode cX1_samples 97 = .ok (.aload_n 3, 1) := dk_45 (dk_at dksX1_samples_4 4 rfl rfl)
theorem dX1_samples_98 : decode cX1_samples 98 = .ok (.dup, 1) := dk_89 (dk_at dksX1_samples_4 5 rfl rfl)
theorem dX1_samples_99 : decode cX1_samples 99 = .ok (.getfield 246, 3) := dk_180 0 246 (dk_at dksX1_samples_4 6 rfl rfl)
theorem dX1_samples_102 : decode cX1_samples 102 = .ok (.iconst 1, 1) := dk_4 (dk_at dksX1_samples_4 9 rfl rfl)
theorem dX1_samples_103 : decode cX1_samples 103 = .ok (.iadd, 1) := dk_96 (dk_at dksX1_samples_4 10 rfl rfl)
theorem dX1_samples_104 : decode cX1_samples 104 = .ok (.putfield 246, 3) := dk_181 0 246 (dk_at dksX1_samples_4 11 rfl rfl)
theorem dX1_samples_107 : decode cX1_samples 107 = .ok (.aload_n 1, 1) := dk_43 (dk_at dksX1_samples_4 14 rfl rfl)
theorem dX1_samples_108 : decode cX1_samples 108 = .ok (.aload_n 1, 1) := dk_43 (dk_at dksX1_samples_4 15 rfl rfl)
theorem dX1_samples_109 : decode cX1_samples 109 = .ok (.iload_n 2, 1) := dk_28 (dk_at dksX1_samples_4 16 rfl rfl)
theorem dX1_samples_110 : decode cX1_samples 110 = .ok (.invokevirtual 248, 3) := dk_182 0 248 (dk_at dksX1_samples_4 17 rfl rfl)
theorem dX1_samples_113 : decode cX1_samples 113 = .ok (.invokevirtual 251, 3) := dk_182 0 251 (dk_at dksX1_samples_4 20 rfl rfl)
theorem dX1_samples_116 : decode cX1_samples 116 = .ok (.istore 5, 2) := dk_54 5 (dk_at dksX1_samples_5 0 rfl rfl)
theorem dX1_samples_118 : decode cX1_samples 118 = .ok (.aload_n 3, 1) := dk_45 (dk_at dksX1_samples_5 2 rfl rfl)
theorem dX1_samples_119 : decode cX1_samples 119 = .ok (.aload_n 3, 1) := dk_45 (dk_at dksX1_samples_5 3 rfl rfl)
theorem dX1_samples_120 : decode cX1_samples 120 = .ok (.invokevirtual 226, 3) := dk_182 0 226 (dk_at dksX1_samples_5 4 rfl rfl)
theorem dX1_samples_123 : decode cX1_samples 123 = .ok (.putfield 254, 3) := dk_181 0 254 (dk_at dksX1_samples_5 7 rfl rfl)
theorem dX1_samples_126 : decode cX1_samples 126 = .ok (.iload 5, 2) := dk_21 5 (dk_at dksX1_samples_5 10 rfl rfl)
theorem dX1_samples_128 : decode cX1_samples 128 = .ok (.ifCond .ne 4, 3) := dk_154 0 4 (dk_at dksX1_samples_5 12 rfl rfl)
theorem dX1_samples_131 : decode cX1_samples 131 = .ok (.return_, 1) := dk_177 (dk_at dksX1_samples_5 15 rfl rfl)
theorem dX1_samples_132 : decode cX1_samples 132 = .ok (.aload_n 3, 1) := dk_45 (dk_at dksX1_samples_5 16 rfl rfl)
theorem dX1_samples_133 : decode cX1_samples 133 = .ok (.dup, 1) := dk_89 (dk_at dksX1_samples_5 17 rfl rfl)
theorem dX1_samples_134 : decode cX1_samples 134 = .ok (.getfield 257, 3) := dk_180 1 1 (dk_at dksX1_samples_5 18 rfl rfl)
theorem dX1_samples_137 : decode cX1_samples 137 = .ok (.iconst 1, 1) := dk_4 (dk_at dksX1_samples_5 21 rfl rfl)
theorem dX1_samples_138 : decode cX1_samples 138 = .ok (.iadd, 1) := dk_96 (dk_at dksX1_samples_5 22 rfl rfl)
theorem dX1_samples_139 : decode cX1_samples 139 = .ok (.putfield 257, 3) := dk_181 1 1 (dk_at dksX1_samples_6 0 rfl rfl)
theorem dX1_samples_142 : decode cX1_samples 142 = .ok (.iload 4, 2) := dk_21 4 (dk_at dksX1_samples_6 3 rfl rfl)
theorem dX1_samples_144 : decode cX1_samples 144 = .ok (.istore 6, 2) := dk_54 6 (dk_at dksX1_samples_6 5 rfl rfl)
theorem dX1_samples_146 : decode cX1_samples 146 = .ok (.aload_n 0, 1) := dk_42 (dk_at dksX1_samples_6 7 rfl rfl)
theorem dX1_samples_147 : decode cX1_samples 147 = .ok (.getfield 36, 3) := dk_180 0 36 (dk_at dksX1_samples_6 8 rfl rfl)
theorem dX1_samples_150 : decode cX1_samples 150 = .ok (.aload_n 0, 1) := dk_42 (dk_at dksX1_samples_6 11 rfl rfl)
theorem dX1_samples_151 : decode cX1_samples 151 = .ok (.getfield 159, 3) := dk_180 0 159 (dk_at dksX1_samples_6 12 rfl rfl)
theorem dX1_samples_154 : decode cX1_samples 154 = .ok (.new 34, 3) := dk_187 0 34 (dk_at dksX1_samples_6 15 rfl rfl)
theorem dX1_samples_157 : decode cX1_samples 157 = .ok (.dup, 1) := dk_89 (dk_at dksX1_samples_6 18 rfl rfl)
theorem dX1_samples_158 : decode cX1_samples 158 = .ok (.iload 6, 2) := dk_21 6 (dk_at dksX1_samples_6 19 rfl rfl)
theorem dX1_samples_160 : decode cX1_samples 160 = .ok (.iload 5, 2) := dk_21 5 (dk_at dksX1_samples_6 21 rfl rfl)
theorem dX1_samples_162 : decode cX1_samples 162 = .ok (.invokedynamic 259, 5) := by decide +kernel
theorem dX1_samples_167 : decode cX1_samples 167 = .ok (.invokespecial 262, 3) := dk_183 1 6 (dk_at dksX1_samples_7 5 rfl rfl)
theorem dX1_samples_170 : decode cX1_samples 170 = .ok (.aastore, 1) := dk_83 (dk_at dksX1_samples_7 8 rfl rfl)
theorem dX1_samples_171 : decode cX1_samples 171 = .ok (.aload_n 0, 1) := dk_42 (dk_at dksX1_samples_7 9 rfl rfl)
theorem dX1_samples_172 : decode cX1_samples 172 = .ok (.dup, 1) := dk_89 (dk_at dksX1_samples_7 10 rfl rfl)
theorem dX1_samples_173 : decode cX1_samples 173 = .ok (.getfield 159, 3) := dk_180 0 159 (dk_at dksX1_samples_7 11 rfl rfl)
theorem dX1_samples_176 : decode cX1_samples 176 = .ok (.iconst 1, 1) := dk_4 (dk_at dksX1_samples_7 14 rfl rfl)
theorem dX1_samples_177 : decode cX1_samples 177 = .ok (.iadd, 1) := dk_96 (dk_at dksX1_samples_7 15 rfl rfl)
theorem dX1_samples_178 : decode cX1_samples 178 = .ok (.putfield 159, 3) := dk_181 0 159 (dk_at dksX1_samples_7 16 rfl rfl)
theorem dX1_samples_181 : decode cX1_samples 181 = .ok (.return_, 1) := dk_177 (dk_at dksX1_samples_7 19 rfl rfl)
abbrev cX1_lambda_samples_1 : ByteArray := prog_1_method_61_code
def yX1_lambda_samples_1 : MethodName := ⟨RX1, "lambda$samples$1", "(IILLosslessFabric$State;)V"⟩
def dkwX1_lambda_samples_1_0 : List UInt8 := [44, 180, 0, 114, 26, 50, 27, 182, 1, 213, 177]
abbrev dktX1_lambda_samples_1_0 : List UInt8 := dkwX1_lambda_samples_1_0 ++ []
theorem dksX1_lambda_samples_1_0 : cX1_lambda_samples_1.data.toList.drop 0 = dktX1_lambda_samples_1_0 := by decide +kernel
theorem dX1_lambda_samples_1_0 : decode cX1_lambda_samples_1 0 = .ok (.aload_n 2, 1) := dk_44 (dk_at dksX1_lambda_samples_1_0 0 rfl rfl)
theorem dX1_lambda_samples_1_1 : decode cX1_lambda_samples_1 1 = .ok (.getfield 114, 3) := dk_180 0 114 (dk_at dksX1_lambda_samples_1_0 1 rfl rfl)
theorem dX1_lambda_samples_1_4 : decode cX1_lambda_samples_1 4 = .ok (.iload_n 0, 1) := dk_26 (dk_at dksX1_lambda_samples_1_0 4 rfl rfl)
theorem dX1_lambda_samples_1_5 : decode cX1_lambda_samples_1 5 = .ok (.aaload, 1) := dk_50 (dk_at dksX1_lambda_samples_1_0 5 rfl rfl)
theorem dX1_lambda_samples_1_6 : decode cX1_lambda_samples_1 6 = .ok (.iload_n 1, 1) := dk_27 (dk_at dksX1_lambda_samples_1_0 6 rfl rfl)
theorem dX1_lambda_samples_1_7 : decode cX1_lambda_samples_1 7 = .ok (.invokevirtual 469, 3) := dk_182 1 213 (dk_at dksX1_lambda_samples_1_0 7 rfl rfl)
theorem dX1_lambda_samples_1_10 : decode cX1_lambda_samples_1 10 = .ok (.return_, 1) := dk_177 (dk_at dksX1_lambda_samples_1_0 10 rfl rfl)
abbrev cX1_rate : ByteArray := prog_1_method_23_code
def yX1_rate : MethodName := ⟨RX1, "rate", "(II)I"⟩
def dkwX1_rate_2 : List UInt8 := [45, 28, 181, 1, 46, 21, 4, 172]
abbrev dktX1_rate_2 : List UInt8 := dkwX1_rate_2 ++ []
def dkwX1_rate_1 : List UInt8 := [182, 1, 31, 42, 180, 0, 51, 180, 0, 114, 27, 50, 78, 45, 180, 0, 129, 54, 4, 45, 28, 181, 0, 129]
abbrev dktX1_rate_1 : List UInt8 := dkwX1_rate_1 ++ dktX1_rate_2
def dkwX1_rate_0 : List UInt8 := [42, 27, 182, 1, 41, 153, 0, 15, 28, 133, 10, 20, 1, 44, 184, 0, 74, 154, 0, 5, 2, 172, 42]
abbrev dktX1_rate_0 : List UInt8 := dkwX1_rate_0 ++ dktX1_rate_1
theorem dksX1_rate_0 : cX1_rate.data.toList.drop 0 = dktX1_rate_0 := by decide +kernel
theorem dksX1_rate_1 : cX1_rate.data.toList.drop 23 = dktX1_rate_1 := dk_seg dksX1_rate_0 23 rfl rfl
theorem dksX1_rate_2 : cX1_rate.data.toList.drop 47 = dktX1_rate_2 := dk_seg dksX1_rate_1 24 rfl rfl
theorem dX1_rate_0 : decode cX1_rate 0 = .ok (.aload_n 0, 1) := dk_42 (dk_at dksX1_rate_0 0 rfl rfl)
theorem dX1_rate_1 : decode cX1_rate 1 = .ok (.iload_n 1, 1) := dk_27 (dk_at dksX1_rate_0 1 rfl rfl)
theorem dX1_rate_2 : decode cX1_rate 2 = .ok (.invokevirtual 297, 3) := dk_182 1 41 (dk_at dksX1_rate_0 2 rfl rfl)
theorem dX1_rate_5 : decode cX1_rate 5 = .ok (.ifCond .eq 15, 3) := dk_153 0 15 (dk_at dksX1_rate_0 5 rfl rfl)
theorem dX1_rate_8 : decode cX1_rate 8 = .ok (.iload_n 2, 1) := dk_28 (dk_at dksX1_rate_0 8 rfl rfl)
theorem dX1_rate_9 : decode cX1_rate 9 = .ok (.i2l, 1) := dk_133 (dk_at dksX1_rate_0 9 rfl rfl)
theorem dX1_rate_10 : decode cX1_rate 10 = .ok (.lconst 1, 1) := dk_10 (dk_at dksX1_rate_0 10 rfl rfl)
theorem dX1_rate_11 : decode cX1_rate 11 = .ok (.ldc2_w 300, 3) := dk_20 1 44 (dk_at dksX1_rate_0 11 rfl rfl)
theorem dX1_rate_14 : decode cX1_rate 14 = .ok (.invokestatic 74, 3) := dk_184 0 74 (dk_at dksX1_rate_0 14 rfl rfl)
theorem dX1_rate_17 : decode cX1_rate 17 = .ok (.ifCond .ne 5, 3) := dk_154 0 5 (dk_at dksX1_rate_0 17 rfl rfl)
theorem dX1_rate_20 : decode cX1_rate 20 = .ok (.iconst (-1), 1) := dk_2 (dk_at dksX1_rate_0 20 rfl rfl)
theorem dX1_rate_21 : decode cX1_rate 21 = .ok (.ireturn, 1) := dk_172 (dk_at dksX1_rate_0 21 rfl rfl)
theorem dX1_rate_22 : decode cX1_rate 22 = .ok (.aload_n 0, 1) := dk_42 (dk_at dksX1_rate_0 22 rfl rfl)
theorem dX1_rate_23 : decode cX1_rate 23 = .ok (.invokevirtual 287, 3) := dk_182 1 31 (dk_at dksX1_rate_1 0 rfl rfl)
theorem dX1_rate_26 : decode cX1_rate 26 = .ok (.aload_n 0, 1) := dk_42 (dk_at dksX1_rate_1 3 rfl rfl)
theorem dX1_rate_27 : decode cX1_rate 27 = .ok (.getfield 51, 3) := dk_180 0 51 (dk_at dksX1_rate_1 4 rfl rfl)
theorem dX1_rate_30 : decode cX1_rate 30 = .ok (.getfield 114, 3) := dk_180 0 114 (dk_at dksX1_rate_1 7 rfl rfl)
theorem dX1_rate_33 : decode cX1_rate 33 = .ok (.iload_n 1, 1) := dk_27 (dk_at dksX1_rate_1 10 rfl rfl)
theorem dX1_rate_34 : decode cX1_rate 34 = .ok (.aaload, 1) := dk_50 (dk_at dksX1_rate_1 11 rfl rfl)
theorem dX1_rate_35 : decode cX1_rate 35 = .ok (.astore_n 3, 1) := dk_78 (dk_at dksX1_rate_1 12 rfl rfl)
theorem dX1_rate_36 : decode cX1_rate 36 = .ok (.aload_n 3, 1) := dk_45 (dk_at dksX1_rate_1 13 rfl rfl)
theorem dX1_rate_37 : decode cX1_rate 37 = .ok (.getfield 129, 3) := dk_180 0 129 (dk_at dksX1_rate_1 14 rfl rfl)
theorem dX1_rate_40 : decode cX1_rate 40 = .ok (.istore 4, 2) := dk_54 4 (dk_at dksX1_rate_1 17 rfl rfl)
theorem dX1_rate_42 : decode cX1_rate 42 = .ok (.aload_n 3, 1) := dk_45 (dk_at dksX1_rate_1 19 rfl rfl)
theorem dX1_rate_43 : decode cX1_rate 43 = .ok (.iload_n 2, 1) := dk_28 (dk_at dksX1_rate_1 20 rfl rfl)
theorem dX1_rate_44 : decode cX1_rate 44 = .ok (.putfield 129, 3) := dk_181 0 129 (dk_at dksX1_rate_1 21 rfl rfl)
theorem dX1_rate_47 : decode cX1_rate 47 = .ok (.aload_n 3, 1) := dk_45 (dk_at dksX1_rate_2 0 rfl rfl)
theorem dX1_rate_48 : decode cX1_rate 48 = .ok (.iload_n 2, 1) := dk_28 (dk_at dksX1_rate_2 1 rfl rfl)
theorem dX1_rate_49 : decode cX1_rate 49 = .ok (.putfield 302, 3) := dk_181 1 46 (dk_at dksX1_rate_2 2 rfl rfl)
theorem dX1_rate_52 : decode cX1_rate 52 = .ok (.iload 4, 2) := dk_21 4 (dk_at dksX1_rate_2 5 rfl rfl)
theorem dX1_rate_54 : decode cX1_rate 54 = .ok (.ireturn, 1) := dk_172 (dk_at dksX1_rate_2 7 rfl rfl)
abbrev cX1_isFlow : ByteArray := prog_1_method_22_code
def yX1_isFlow : MethodName := ⟨RX1, "isFlow", "(I)Z"⟩
def dkwX1_isFlow_0 : List UInt8 := [3, 42, 180, 0, 20, 180, 0, 111, 4, 100, 4, 188, 10, 89, 3, 27, 79, 184, 1, 37, 172]
abbrev dktX1_isFlow_0 : List UInt8 := dkwX1_isFlow_0 ++ []
theorem dksX1_isFlow_0 : cX1_isFlow.data.toList.drop 0 = dktX1_isFlow_0 := by decide +kernel
theorem dX1_isFlow_0 : decode cX1_isFlow 0 = .ok (.iconst 0, 1) := dk_3 (dk_at dksX1_isFlow_0 0 rfl rfl)
theorem dX1_isFlow_1 : decode cX1_isFlow 1 = .ok (.aload_n 0, 1) := dk_42 (dk_at dksX1_isFlow_0 1 rfl rfl)
theorem dX1_isFlow_2 : decode cX1_isFlow 2 = .ok (.getfield 20, 3) := dk_180 0 20 (dk_at dksX1_isFlow_0 2 rfl rfl)
theorem dX1_isFlow_5 : decode cX1_isFlow 5 = .ok (.getfield 111, 3) := dk_180 0 111 (dk_at dksX1_isFlow_0 5 rfl rfl)
theorem dX1_isFlow_8 : decode cX1_isFlow 8 = .ok (.iconst 1, 1) := dk_4 (dk_at dksX1_isFlow_0 8 rfl rfl)
theorem dX1_isFlow_9 : decode cX1_isFlow 9 = .ok (.isub, 1) := dk_100 (dk_at dksX1_isFlow_0 9 rfl rfl)
theorem dX1_isFlow_10 : decode cX1_isFlow 10 = .ok (.iconst 1, 1) := dk_4 (dk_at dksX1_isFlow_0 10 rfl rfl)
theorem dX1_isFlow_11 : decode cX1_isFlow 11 = .ok (.newarray .int, 2) := dk_188_10 (dk_at dksX1_isFlow_0 11 rfl rfl)
theorem dX1_isFlow_13 : decode cX1_isFlow 13 = .ok (.dup, 1) := dk_89 (dk_at dksX1_isFlow_0 13 rfl rfl)
theorem dX1_isFlow_14 : decode cX1_isFlow 14 = .ok (.iconst 0, 1) := dk_3 (dk_at dksX1_isFlow_0 14 rfl rfl)
theorem dX1_isFlow_15 : decode cX1_isFlow 15 = .ok (.iload_n 1, 1) := dk_27 (dk_at dksX1_isFlow_0 15 rfl rfl)
theorem dX1_isFlow_16 : decode cX1_isFlow 16 = .ok (.iastore, 1) := dk_79 (dk_at dksX1_isFlow_0 16 rfl rfl)
theorem dX1_isFlow_17 : decode cX1_isFlow 17 = .ok (.invokestatic 293, 3) := dk_184 1 37 (dk_at dksX1_isFlow_0 17 rfl rfl)
theorem dX1_isFlow_20 : decode cX1_isFlow 20 = .ok (.ireturn, 1) := dk_172 (dk_at dksX1_isFlow_0 20 rfl rfl)
abbrev cX1_areIn : ByteArray := prog_1_method_3_code
def yX1_areIn : MethodName := ⟨RX1, "areIn", "(II[I)Z"⟩
def dkwX1_areIn_2 : List UInt8 := [62, 132, 6, 1, 167, 255, 217, 29, 172]
abbrev dktX1_areIn_2 : List UInt8 := dkwX1_areIn_2 ++ []
def dkwX1_areIn_1 : List UInt8 := [46, 54, 7, 29, 153, 0, 19, 21, 7, 26, 161, 0, 13, 21, 7, 27, 163, 0, 7, 4, 167, 0, 4, 3]
abbrev dktX1_areIn_1 : List UInt8 := dkwX1_areIn_1 ++ dktX1_areIn_2
def dkwX1_areIn_0 : List UInt8 := [4, 62, 44, 58, 4, 25, 4, 190, 54, 5, 3, 54, 6, 21, 6, 21, 5, 162, 0, 38, 25, 4, 21, 6]
abbrev dktX1_areIn_0 : List UInt8 := dkwX1_areIn_0 ++ dktX1_areIn_1
theorem dksX1_areIn_0 : cX1_areIn.data.toList.drop 0 = dktX1_areIn_0 := by decide +kernel
theorem dksX1_areIn_1 : cX1_areIn.data.toList.drop 24 = dktX1_areIn_1 := dk_seg dksX1_areIn_0 24 rfl rfl
theorem dksX1_areIn_2 : cX1_areIn.data.toList.drop 48 = dktX1_areIn_2 := dk_seg dksX1_areIn_1 24 rfl rfl
theorem dX1_areIn_0 : decode cX1_areIn 0 = .ok (.iconst 1, 1) := dk_4 (dk_at dksX1_areIn_0 0 rfl rfl)
theorem dX1_areIn_1 : decode cX1_areIn 1 = .ok (.istore_n 3, 1) := dk_62 (dk_at dksX1_areIn_0 1 rfl rfl)
theorem dX1_areIn_2 : decode cX1_areIn 2 = .ok (.aload_n 2, 1) := dk_44 (dk_at dksX1_areIn_0 2 rfl rfl)
theorem dX1_areIn_3 : decode cX1_areIn 3 = .ok (.astore 4, 2) := dk_58 4 (dk_at dksX1_areIn_0 3 rfl rfl)
theorem dX1_areIn_5 : decode cX1_areIn 5 = .ok (.aload 4, 2) := dk_25 4 (dk_at dksX1_areIn_0 5 rfl rfl)
theorem dX1_areIn_7 : decode cX1_areIn 7 = .ok (.arraylength, 1) := dk_190 (dk_at dksX1_areIn_0 7 rfl rfl)
theorem dX1_areIn_8 : decode cX1_areIn 8 = .ok (.istore 5, 2) := dk_54 5 (dk_at dksX1_areIn_0 8 rfl rfl)
theorem dX1_areIn_10 : decode cX1_areIn 10 = .ok (.iconst 0, 1) := dk_3 (dk_at dksX1_areIn_0 10 rfl rfl)
theorem dX1_areIn_11 : decode cX1_areIn 11 = .ok (.istore 6, 2) := dk_54 6 (dk_at dksX1_areIn_0 11 rfl rfl)
theorem dX1_areIn_13 : decode cX1_areIn 13 = .ok (.iload 6, 2) := dk_21 6 (dk_at dksX1_areIn_0 13 rfl rfl)
theorem dX1_areIn_15 : decode cX1_areIn 15 = .ok (.iload 5, 2) := dk_21 5 (dk_at dksX1_areIn_0 15 rfl rfl)
theorem dX1_areIn_17 : decode cX1_areIn 17 = .ok (.if_icmp .ge 38, 3) := dk_162 0 38 (dk_at dksX1_areIn_0 17 rfl rfl)
theorem dX1_areIn_20 : decode cX1_areIn 20 = .ok (.aload 4, 2) := dk_25 4 (dk_at dksX1_areIn_0 20 rfl rfl)
theorem dX1_areIn_22 : decode cX1_areIn 22 = .ok (.iload 6, 2) := dk_21 6 (dk_at dksX1_areIn_0 22 rfl rfl)
theorem dX1_areIn_24 : decode cX1_areIn 24 = .ok (.iaload, 1) := dk_46 (dk_at dksX1_areIn_1 0 rfl rfl)
theorem dX1_areIn_25 : decode cX1_areIn 25 = .ok (.istore 7, 2) := dk_54 7 (dk_at dksX1_areIn_1 1 rfl rfl)
theorem dX1_areIn_27 : decode cX1_areIn 27 = .ok (.iload_n 3, 1) := dk_29 (dk_at dksX1_areIn_1 3 rfl rfl)
theorem dX1_areIn_28 : decode cX1_areIn 28 = .ok (.ifCond .eq 19, 3) := dk_153 0 19 (dk_at dksX1_areIn_1 4 rfl rfl)
theorem dX1_areIn_31 : decode cX1_areIn 31 = .ok (.iload 7, 2) := dk_21 7 (dk_at dksX1_areIn_1 7 rfl rfl)
theorem dX1_areIn_33 : decode cX1_areIn 33 = .ok (.iload_n 0, 1) := dk_26 (dk_at dksX1_areIn_1 9 rfl rfl)
theorem dX1_areIn_34 : decode cX1_areIn 34 = .ok (.if_icmp .lt 13, 3) := dk_161 0 13 (dk_at dksX1_areIn_1 10 rfl rfl)
theorem dX1_areIn_37 : decode cX1_areIn 37 = .ok (.iload 7, 2) := dk_21 7 (dk_at dksX1_areIn_1 13 rfl rfl)
theorem dX1_areIn_39 : decode cX1_areIn 39 = .ok (.iload_n 1, 1) := dk_27 (dk_at dksX1_areIn_1 15 rfl rfl)
theorem dX1_areIn_40 : decode cX1_areIn 40 = .ok (.if_icmp .gt 7, 3) := dk_163 0 7 (dk_at dksX1_areIn_1 16 rfl rfl)
theorem dX1_areIn_43 : decode cX1_areIn 43 = .ok (.iconst 1, 1) := dk_4 (dk_at dksX1_areIn_1 19 rfl rfl)
theorem dX1_areIn_44 : decode cX1_areIn 44 = .ok (.goto 4, 3) := dk_167 0 4 (dk_at dksX1_areIn_1 20 rfl rfl)
theorem dX1_areIn_47 : decode cX1_areIn 47 = .ok (.iconst 0, 1) := dk_3 (dk_at dksX1_areIn_1 23 rfl rfl)
theorem dX1_areIn_48 : decode cX1_areIn 48 = .ok (.istore_n 3, 1) := dk_62 (dk_at dksX1_areIn_2 0 rfl rfl)
theorem dX1_areIn_49 : decode cX1_areIn 49 = .ok (.iinc 6 1, 3) := dk_132 6 1 (dk_at dksX1_areIn_2 1 rfl rfl)
theorem dX1_areIn_52 : decode cX1_areIn 52 = .ok (.goto (-39), 3) := dk_167 255 217 (dk_at dksX1_areIn_2 4 rfl rfl)
theorem dX1_areIn_55 : decode cX1_areIn 55 = .ok (.iload_n 3, 1) := dk_29 (dk_at dksX1_areIn_2 7 rfl rfl)
theorem dX1_areIn_56 : decode cX1_areIn 56 = .ok (.ireturn, 1) := dk_172 (dk_at dksX1_areIn_2 8 rfl rfl)
abbrev cX1_turn : ByteArray := prog_1_method_24_code
def yX1_turn : MethodName := ⟨RX1, "turn", "(I)I"⟩
def dkwX1_turn_2 : List UInt8 := [180, 0, 51, 180, 0, 114, 27, 50, 180, 0, 122, 153, 0, 7, 4, 167, 0, 4, 3, 172]
abbrev dktX1_turn_2 : List UInt8 := dkwX1_turn_2 ++ []
def dkwX1_turn_1 : List UInt8 := [180, 0, 51, 180, 0, 114, 27, 50, 180, 0, 122, 154, 0, 7, 4, 167, 0, 4, 3, 181, 0, 122, 42]
abbrev dktX1_turn_1 : List UInt8 := dkwX1_turn_1 ++ dktX1_turn_2
def dkwX1_turn_0 : List UInt8 := [42, 27, 182, 1, 41, 154, 0, 5, 2, 172, 42, 182, 1, 31, 42, 180, 0, 51, 180, 0, 114, 27, 50, 42]
abbrev dktX1_turn_0 : List UInt8 := dkwX1_turn_0 ++ dktX1_turn_1
theorem dksX1_turn_0 : cX1_turn.data.toList.drop 0 = dktX1_turn_0 := by decide +kernel
theorem dksX1_turn_1 : cX1_turn.data.toList.drop 24 = dktX1_turn_1 := dk_seg dksX1_turn_0 24 rfl rfl
theorem dksX1_turn_2 : cX1_turn.data.toList.drop 47 = dktX1_turn_2 := dk_seg dksX1_turn_1 23 rfl rfl
theorem dX1_turn_0 : decode cX1_turn 0 = .ok (.aload_n 0, 1) := dk_42 (dk_at dksX1_turn_0 0 rfl rfl)
theorem dX1_turn_1 : decode cX1_turn 1 = .ok (.iload_n 1, 1) := dk_27 (dk_at dksX1_turn_0 1 rfl rfl)
theorem dX1_turn_2 : decode cX1_turn 2 = .ok (.invokevirtual 297, 3) := dk_182 1 41 (dk_at dksX1_turn_0 2 rfl rfl)
theorem dX1_turn_5 : decode cX1_turn 5 = .ok (.ifCond .ne 5, 3) := dk_154 0 5 (dk_at dksX1_turn_0 5 rfl rfl)
theorem dX1_turn_8 : decode cX1_turn 8 = .ok (.iconst (-1), 1) := dk_2 (dk_at dksX1_turn_0 8 rfl rfl)
theorem dX1_turn_9 : decode cX1_turn 9 = .ok (.ireturn, 1) := dk_172 (dk_at dksX1_turn_0 9 rfl rfl)
theorem dX1_turn_10 : decode cX1_turn 10 = .ok (.aload_n 0, 1) := dk_42 (dk_at dksX1_turn_0 10 rfl rfl)
theorem dX1_turn_11 : decode cX1_turn 11 = .ok (.invokevirtual 287, 3) := dk_182 1 31 (dk_at dksX1_turn_0 11 rfl rfl)
theorem dX1_turn_14 : decode cX1_turn 14 = .ok (.aload_n 0, 1) := dk_42 (dk_at dksX1_turn_0 14 rfl rfl)
theorem dX1_turn_15 : decode cX1_turn 15 = .ok (.getfield 51, 3) := dk_180 0 51 (dk_at dksX1_turn_0 15 rfl rfl)
theorem dX1_turn_18 : decode cX1_turn 18 = .ok (.getfield 114, 3) := dk_180 0 114 (dk_at dksX1_turn_0 18 rfl rfl)
theorem dX1_turn_21 : decode cX1_turn 21 = .ok (.iload_n 1, 1) := dk_27 (dk_at dksX1_turn_0 21 rfl rfl)
theorem dX1_turn_22 : decode cX1_turn 22 = .ok (.aaload, 1) := dk_50 (dk_at dksX1_turn_0 22 rfl rfl)
theorem dX1_turn_23 : decode cX1_turn 23 = .ok (.aload_n 0, 1) := dk_42 (dk_at dksX1_turn_0 23 rfl rfl)
theorem dX1_turn_24 : decode cX1_turn 24 = .ok (.getfield 51, 3) := dk_180 0 51 (dk_at dksX1_turn_1 0 rfl rfl)
theorem dX1_turn_27 : decode cX1_turn 27 = .ok (.getfield 114, 3) := dk_180 0 114 (dk_at dksX1_turn_1 3 rfl rfl)
theorem dX1_turn_30 : decode cX1_turn 30 = .ok (.iload_n 1, 1) := dk_27 (dk_at dksX1_turn_1 6 rfl rfl)
theorem dX1_turn_31 : decode cX1_turn 31 = .ok (.aaload, 1) := dk_50 (dk_at dksX1_turn_1 7 rfl rfl)
theorem dX1_turn_32 : decode cX1_turn 32 = .ok (.getfield 122, 3) := dk_180 0 122 (dk_at dksX1_turn_1 8 rfl rfl)
theorem dX1_turn_35 : decode cX1_turn 35 = .ok (.ifCond .ne 7, 3) := dk_154 0 7 (dk_at dksX1_turn_1 11 rfl rfl)
theorem dX1_turn_38 : decode cX1_turn 38 = .ok (.iconst 1, 1) := dk_4 (dk_at dksX1_turn_1 14 rfl rfl)
theorem dX1_turn_39 : decode cX1_turn 39 = .ok (.goto 4, 3) := dk_167 0 4 (dk_at dksX1_turn_1 15 rfl rfl)
theorem dX1_turn_42 : decode cX1_turn 42 = .ok (.iconst 0, 1) := dk_3 (dk_at dksX1_turn_1 18 rfl rfl)
theorem dX1_turn_43 : decode cX1_turn 43 = .ok (.putfield 122, 3) := dk_181 0 122 (dk_at dksX1_turn_1 19 rfl rfl)
theorem dX1_turn_46 : decode cX1_turn 46 = .ok (.aload_n 0, 1) := dk_42 (dk_at dksX1_turn_1 22 rfl rfl)
theorem dX1_turn_47 : decode cX1_turn 47 = .ok (.getfield 51, 3) := dk_180 0 51 (dk_at dksX1_turn_2 0 rfl rfl)
theorem dX1_turn_50 : decode cX1_turn 50 = .ok (.getfield 114, 3) := dk_180 0 114 (dk_at dksX1_turn_2 3 rfl rfl)
theorem dX1_turn_53 : decode cX1_turn 53 = .ok (.iload_n 1, 1) := dk_27 (dk_at dksX1_turn_2 6 rfl rfl)
theorem dX1_turn_54 : decode cX1_turn 54 = .ok (.aaload, 1) := dk_50 (dk_at dksX1_turn_2 7 rfl rfl)
theorem dX1_turn_55 : decode cX1_turn 55 = .ok (.getfield 122, 3) := dk_180 0 122 (dk_at dksX1_turn_2 8 rfl rfl)
theorem dX1_turn_58 : decode cX1_turn 58 = .ok (.ifCond .eq 7, 3) := dk_153 0 7 (dk_at dksX1_turn_2 11 rfl rfl)
theorem dX1_turn_61 : decode cX1_turn 61 = .ok (.iconst 1, 1) := dk_4 (dk_at dksX1_turn_2 14 rfl rfl)
theorem dX1_turn_62 : decode cX1_turn 62 = .ok (.goto 4, 3) := dk_167 0 4 (dk_at dksX1_turn_2 15 rfl rfl)
theorem dX1_turn_65 : decode cX1_turn 65 = .ok (.iconst 0, 1) := dk_3 (dk_at dksX1_turn_2 18 rfl rfl)
theorem dX1_turn_66 : decode cX1_turn 66 = .ok (.ireturn, 1) := dk_172 (dk_at dksX1_turn_2 19 rfl rfl)
abbrev cX1_bounds : ByteArray := prog_1_method_25_code
def yX1_bounds : MethodName := ⟨RX1, "bounds", "(III)Z"⟩
def dkwX1_bounds_2 : List UInt8 := [28, 181, 1, 54, 42, 180, 0, 51, 180, 0, 150, 27, 50, 29, 181, 1, 57, 4, 172]
abbrev dktX1_bounds_2 : List UInt8 := dkwX1_bounds_2 ++ []
def dkwX1_bounds_1 : List UInt8 := [4, 100, 133, 184, 0, 74, 154, 0, 5, 3, 172, 42, 182, 1, 31, 42, 180, 0, 51, 180, 0, 150, 27, 50]
abbrev dktX1_bounds_1 : List UInt8 := dkwX1_bounds_1 ++ dktX1_bounds_2
def dkwX1_bounds_0 : List UInt8 := [42, 27, 182, 1, 49, 153, 0, 28, 28, 133, 10, 20, 1, 52, 184, 0, 74, 153, 0, 16, 29, 133, 9, 28]
abbrev dktX1_bounds_0 : List UInt8 := dkwX1_bounds_0 ++ dktX1_bounds_1
theorem dksX1_bounds_0 : cX1_bounds.data.toList.drop 0 = dktX1_bounds_0 := by decide +kernel
theorem dksX1_bounds_1 : cX1_bounds.data.toList.drop 24 = dktX1_bounds_1 := dk_seg dksX1_bounds_0 24 rfl rfl
theorem dksX1_bounds_2 : cX1_bounds.data.toList.drop 48 = dktX1_bounds_2 := dk_seg dksX1_bounds_1 24 rfl rfl
theorem dX1_bounds_0 : decode cX1_bounds 0 = .ok (.aload_n 0, 1) := dk_42 (dk_at dksX1_bounds_0 0 rfl rfl)
theorem dX1_bounds_1 : decode cX1_bounds 1 = .ok (.iload_n 1, 1) := dk_27 (dk_at dksX1_bounds_0 1 rfl rfl)
theorem dX1_bounds_2 : decode cX1_bounds 2 = .ok (.invokevirtual 305, 3) := dk_182 1 49 (dk_at dksX1_bounds_0 2 rfl rfl)
theorem dX1_bounds_5 : decode cX1_bounds 5 = .ok (.ifCond .eq 28, 3) := dk_153 0 28 (dk_at dksX1_bounds_0 5 rfl rfl)
theorem dX1_bounds_8 : decode cX1_bounds 8 = .ok (.iload_n 2, 1) := dk_28 (dk_at dksX1_bounds_0 8 rfl rfl)
theorem dX1_bounds_9 : decode cX1_bounds 9 = .ok (.i2l, 1) := dk_133 (dk_at dksX1_bounds_0 9 rfl rfl)
theorem dX1_bounds_10 : decode cX1_bounds 10 = .ok (.lconst 1, 1) := dk_10 (dk_at dksX1_bounds_0 10 rfl rfl)
theorem dX1_bounds_11 : decode cX1_bounds 11 = .ok (.ldc2_w 308, 3) := dk_20 1 52 (dk_at dksX1_bounds_0 11 rfl rfl)
theorem dX1_bounds_14 : decode cX1_bounds 14 = .ok (.invokestatic 74, 3) := dk_184 0 74 (dk_at dksX1_bounds_0 14 rfl rfl)
theorem dX1_bounds_17 : decode cX1_bounds 17 = .ok (.ifCond .eq 16, 3) := dk_153 0 16 (dk_at dksX1_bounds_0 17 rfl rfl)
theorem dX1_bounds_20 : decode cX1_bounds 20 = .ok (.iload_n 3, 1) := dk_29 (dk_at dksX1_bounds_0 20 rfl rfl)
theorem dX1_bounds_21 : decode cX1_bounds 21 = .ok (.i2l, 1) := dk_133 (dk_at dksX1_bounds_0 21 rfl rfl)
theorem dX1_bounds_22 : decode cX1_bounds 22 = .ok (.lconst 0, 1) := dk_9 (dk_at dksX1_bounds_0 22 rfl rfl)
theorem dX1_bounds_23 : decode cX1_bounds 23 = .ok (.iload_n 2, 1) := dk_28 (dk_at dksX1_bounds_0 23 rfl rfl)
theorem dX1_bounds_24 : decode cX1_bounds 24 = .ok (.iconst 1, 1) := dk_4 (dk_at dksX1_bounds_1 0 rfl rfl)
theorem dX1_bounds_25 : decode cX1_bounds 25 = .ok (.isub, 1) := dk_100 (dk_at dksX1_bounds_1 1 rfl rfl)
theorem dX1_bounds_26 : decode cX1_bounds 26 = .ok (.i2l, 1) := dk_133 (dk_at dksX1_bounds_1 2 rfl rfl)
theorem dX1_bounds_27 : decode cX1_bounds 27 = .ok (.invokestatic 74, 3) := dk_184 0 74 (dk_at dksX1_bounds_1 3 rfl rfl)
theorem dX1_bounds_30 : decode cX1_bounds 30 = .ok (.ifCond .ne 5, 3) := dk_154 0 5 (dk_at dksX1_bounds_1 6 rfl rfl)
theorem dX1_bounds_33 : decode cX1_bounds 33 = .ok (.iconst 0, 1) := dk_3 (dk_at dksX1_bounds_1 9 rfl rfl)
theorem dX1_bounds_34 : decode cX1_bounds 34 = .ok (.ireturn, 1) := dk_172 (dk_at dksX1_bounds_1 10 rfl rfl)
theorem dX1_bounds_35 : decode cX1_bounds 35 = .ok (.aload_n 0, 1) := dk_42 (dk_at dksX1_bounds_1 11 rfl rfl)
theorem dX1_bounds_36 : decode cX1_bounds 36 = .ok (.invokevirtual 287, 3) := dk_182 1 31 (dk_at dksX1_bounds_1 12 rfl rfl)
theorem dX1_bounds_39 : decode cX1_bounds 39 = .ok (.aload_n 0, 1) := dk_42 (dk_at dksX1_bounds_1 15 rfl rfl)
theorem dX1_bounds_40 : decode cX1_bounds 40 = .ok (.getfield 51, 3) := dk_180 0 51 (dk_at dksX1_bounds_1 16 rfl rfl)
theorem dX1_bounds_43 : decode cX1_bounds 43 = .ok (.getfield 150, 3) := dk_180 0 150 (dk_at dksX1_bounds_1 19 rfl rfl)
theorem dX1_bounds_46 : decode cX1_bounds 46 = .ok (.iload_n 1, 1) := dk_27 (dk_at dksX1_bounds_1 22 rfl rfl)
theorem dX1_bounds_47 : decode cX1_bounds 47 = .ok (.aaload, 1) := dk_50 (dk_at dksX1_bounds_1 23 rfl rfl)
theorem dX1_bounds_48 : decode cX1_bounds 48 = .ok (.iload_n 2, 1) := dk_28 (dk_at dksX1_bounds_2 0 rfl rfl)
theorem dX1_bounds_49 : decode cX1_bounds 49 = .ok (.putfield 310, 3) := dk_181 1 54 (dk_at dksX1_bounds_2 1 rfl rfl)
theorem dX1_bounds_52 : decode cX1_bounds 52 = .ok (.aload_n 0, 1) := dk_42 (dk_at dksX1_bounds_2 4 rfl rfl)
theorem dX1_bounds_53 : decode cX1_bounds 53 = .ok (.getfield 51, 3) := dk_180 0 51 (dk_at dksX1_bounds_2 5 rfl rfl)
theorem dX1_bounds_56 : decode cX1_bounds 56 = .ok (.getfield 150, 3) := dk_180 0 150 (dk_at dksX1_bounds_2 8 rfl rfl)
theorem dX1_bounds_59 : decode cX1_bounds 59 = .ok (.iload_n 1, 1) := dk_27 (dk_at dksX1_bounds_2 11 rfl rfl)
theorem dX1_bounds_60 : decode cX1_bounds 60 = .ok (.aaload, 1) := dk_50 (dk_at dksX1_bounds_2 12 rfl rfl)
theorem dX1_bounds_61 : decode cX1_bounds 61 = .ok (.iload_n 3, 1) := dk_29 (dk_at dksX1_bounds_2 13 rfl rfl)
theorem dX1_bounds_62 : decode cX1_bounds 62 = .ok (.putfield 313, 3) := dk_181 1 57 (dk_at dksX1_bounds_2 14 rfl rfl)
theorem dX1_bounds_65 : decode cX1_bounds 65 = .ok (.iconst 1, 1) := dk_4 (dk_at dksX1_bounds_2 17 rfl rfl)
theorem dX1_bounds_66 : decode cX1_bounds 66 = .ok (.ireturn, 1) := dk_172 (dk_at dksX1_bounds_2 18 rfl rfl)
abbrev cX1_isLink : ByteArray := prog_1_method_21_code
def yX1_isLink : MethodName := ⟨RX1, "isLink", "(I)Z"⟩
def dkwX1_isLink_0 : List UInt8 := [3, 42, 180, 0, 20, 180, 0, 138, 4, 100, 4, 188, 10, 89, 3, 27, 79, 184, 1, 37, 172]
abbrev dktX1_isLink_0 : List UInt8 := dkwX1_isLink_0 ++ []
theorem dksX1_isLink_0 : cX1_isLink.data.toList.drop 0 = dktX1_isLink_0 := by decide +kernel
theorem dX1_isLink_0 : decode cX1_isLink 0 = .ok (.iconst 0, 1) := dk_3 (dk_at dksX1_isLink_0 0 rfl rfl)
theorem dX1_isLink_1 : decode cX1_isLink 1 = .ok (.aload_n 0, 1) := dk_42 (dk_at dksX1_isLink_0 1 rfl rfl)
theorem dX1_isLink_2 : decode cX1_isLink 2 = .ok (.getfield 20, 3) := dk_180 0 20 (dk_at dksX1_isLink_0 2 rfl rfl)
theorem dX1_isLink_5 : decode cX1_isLink 5 = .ok (.getfield 138, 3) := dk_180 0 138 (dk_at dksX1_isLink_0 5 rfl rfl)
theorem dX1_isLink_8 : decode cX1_isLink 8 = .ok (.iconst 1, 1) := dk_4 (dk_at dksX1_isLink_0 8 rfl rfl)
theorem dX1_isLink_9 : decode cX1_isLink 9 = .ok (.isub, 1) := dk_100 (dk_at dksX1_isLink_0 9 rfl rfl)
theorem dX1_isLink_10 : decode cX1_isLink 10 = .ok (.iconst 1, 1) := dk_4 (dk_at dksX1_isLink_0 10 rfl rfl)
theorem dX1_isLink_11 : decode cX1_isLink 11 = .ok (.newarray .int, 2) := dk_188_10 (dk_at dksX1_isLink_0 11 rfl rfl)
theorem dX1_isLink_13 : decode cX1_isLink 13 = .ok (.dup, 1) := dk_89 (dk_at dksX1_isLink_0 13 rfl rfl)
theorem dX1_isLink_14 : decode cX1_isLink 14 = .ok (.iconst 0, 1) := dk_3 (dk_at dksX1_isLink_0 14 rfl rfl)
theorem dX1_isLink_15 : decode cX1_isLink 15 = .ok (.iload_n 1, 1) := dk_27 (dk_at dksX1_isLink_0 15 rfl rfl)
theorem dX1_isLink_16 : decode cX1_isLink 16 = .ok (.iastore, 1) := dk_79 (dk_at dksX1_isLink_0 16 rfl rfl)
theorem dX1_isLink_17 : decode cX1_isLink 17 = .ok (.invokestatic 293, 3) := dk_184 1 37 (dk_at dksX1_isLink_0 17 rfl rfl)
theorem dX1_isLink_20 : decode cX1_isLink 20 = .ok (.ireturn, 1) := dk_172 (dk_at dksX1_isLink_0 20 rfl rfl)
abbrev cX1_size : ByteArray := prog_1_method_26_code
def yX1_size : MethodName := ⟨RX1, "size", "(II)I"⟩
def dkwX1_size_2 : List UInt8 := [50, 28, 181, 0, 223, 29, 172]
abbrev dktX1_size_2 : List UInt8 := dkwX1_size_2 ++ []
def dkwX1_size_1 : List UInt8 := [182, 1, 31, 42, 180, 0, 51, 180, 0, 150, 27, 50, 180, 0, 223, 62, 42, 180, 0, 51, 180, 0, 150, 27]
abbrev dktX1_size_1 : List UInt8 := dkwX1_size_1 ++ dktX1_size_2
def dkwX1_size_0 : List UInt8 := [42, 27, 182, 1, 49, 153, 0, 15, 28, 133, 10, 20, 1, 60, 184, 0, 74, 154, 0, 5, 2, 172, 42]
abbrev dktX1_size_0 : List UInt8 := dkwX1_size_0 ++ dktX1_size_1
theorem dksX1_size_0 : cX1_size.data.toList.drop 0 = dktX1_size_0 := by decide +kernel
theorem dksX1_size_1 : cX1_size.data.toList.drop 23 = dktX1_size_1 := dk_seg dksX1_size_0 23 rfl rfl
theorem dksX1_size_2 : cX1_size.data.toList.drop 47 = dktX1_size_2 := dk_seg dksX1_size_1 24 rfl rfl
theorem dX1_size_0 : decode cX1_size 0 = .ok (.aload_n 0, 1) := dk_42 (dk_at dksX1_size_0 0 rfl rfl)
theorem dX1_size_1 : decode cX1_size 1 = .ok (.iload_n 1, 1) := dk_27 (dk_at dksX1_size_0 1 rfl rfl)
theorem dX1_size_2 : decode cX1_size 2 = .ok (.invokevirtual 305, 3) := dk_182 1 49 (dk_at dksX1_size_0 2 rfl rfl)
theorem dX1_size_5 : decode cX1_size 5 = .ok (.ifCond .eq 15, 3) := dk_153 0 15 (dk_at dksX1_size_0 5 rfl rfl)
theorem dX1_size_8 : decode cX1_size 8 = .ok (.iload_n 2, 1) := dk_28 (dk_at dksX1_size_0 8 rfl rfl)
theorem dX1_size_9 : decode cX1_size 9 = .ok (.i2l, 1) := dk_133 (dk_at dksX1_size_0 9 rfl rfl)
theorem dX1_size_10 : decode cX1_size 10 = .ok (.lconst 1, 1) := dk_10 (dk_at dksX1_size_0 10 rfl rfl)
theorem dX1_size_11 : decode cX1_size 11 = .ok (.ldc2_w 316, 3) := dk_20 1 60 (dk_at dksX1_size_0 11 rfl rfl)
theorem dX1_size_14 : decode cX1_size 14 = .ok (.invokestatic 74, 3) := dk_184 0 74 (dk_at dksX1_size_0 14 rfl rfl)
theorem dX1_size_17 : decode cX1_size 17 = .ok (.ifCond .ne 5, 3) := dk_154 0 5 (dk_at dksX1_size_0 17 rfl rfl)
theorem dX1_size_20 : decode cX1_size 20 = .ok (.iconst (-1), 1) := dk_2 (dk_at dksX1_size_0 20 rfl rfl)
theorem dX1_size_21 : decode cX1_size 21 = .ok (.ireturn, 1) := dk_172 (dk_at dksX1_size_0 21 rfl rfl)
theorem dX1_size_22 : decode cX1_size 22 = .ok (.aload_n 0, 1) := dk_42 (dk_at dksX1_size_0 22 rfl rfl)
theorem dX1_size_23 : decode cX1_size 23 = .ok (.invokevirtual 287, 3) := dk_182 1 31 (dk_at dksX1_size_1 0 rfl rfl)
theorem dX1_size_26 : decode cX1_size 26 = .ok (.aload_n 0, 1) := dk_42 (dk_at dksX1_size_1 3 rfl rfl)
theorem dX1_size_27 : decode cX1_size 27 = .ok (.getfield 51, 3) := dk_180 0 51 (dk_at dksX1_size_1 4 rfl rfl)
theorem dX1_size_30 : decode cX1_size 30 = .ok (.getfield 150, 3) := dk_180 0 150 (dk_at dksX1_size_1 7 rfl rfl)
theorem dX1_size_33 : decode cX1_size 33 = .ok (.iload_n 1, 1) := dk_27 (dk_at dksX1_size_1 10 rfl rfl)
theorem dX1_size_34 : decode cX1_size 34 = .ok (.aaload, 1) := dk_50 (dk_at dksX1_size_1 11 rfl rfl)
theorem dX1_size_35 : decode cX1_size 35 = .ok (.getfield 223, 3) := dk_180 0 223 (dk_at dksX1_size_1 12 rfl rfl)
theorem dX1_size_38 : decode cX1_size 38 = .ok (.istore_n 3, 1) := dk_62 (dk_at dksX1_size_1 15 rfl rfl)
theorem dX1_size_39 : decode cX1_size 39 = .ok (.aload_n 0, 1) := dk_42 (dk_at dksX1_size_1 16 rfl rfl)
theorem dX1_size_40 : decode cX1_size 40 = .ok (.getfield 51, 3) := dk_180 0 51 (dk_at dksX1_size_1 17 rfl rfl)
theorem dX1_size_43 : decode cX1_size 43 = .ok (.getfield 150, 3) := dk_180 0 150 (dk_at dksX1_size_1 20 rfl rfl)
theorem dX1_size_46 : decode cX1_size 46 = .ok (.iload_n 1, 1) := dk_27 (dk_at dksX1_size_1 23 rfl rfl)
theorem dX1_size_47 : decode cX1_size 47 = .ok (.aaload, 1) := dk_50 (dk_at dksX1_size_2 0 rfl rfl)
theorem dX1_size_48 : decode cX1_size 48 = .ok (.iload_n 2, 1) := dk_28 (dk_at dksX1_size_2 1 rfl rfl)
theorem dX1_size_49 : decode cX1_size 49 = .ok (.putfield 223, 3) := dk_181 0 223 (dk_at dksX1_size_2 2 rfl rfl)
theorem dX1_size_52 : decode cX1_size 52 = .ok (.iload_n 3, 1) := dk_29 (dk_at dksX1_size_2 5 rfl rfl)
theorem dX1_size_53 : decode cX1_size 53 = .ok (.ireturn, 1) := dk_172 (dk_at dksX1_size_2 6 rfl rfl)
abbrev cX1_queue : ByteArray := prog_1_method_28_code
def yX1_queue : MethodName := ⟨RX1, "queue", "(II)I"⟩
def dkwX1_queue_1 : List UInt8 := [50, 180, 0, 211, 28, 46, 167, 0, 4, 2, 172]
abbrev dktX1_queue_1 : List UInt8 := dkwX1_queue_1 ++ []
def dkwX1_queue_0 : List UInt8 := [42, 27, 182, 1, 49, 153, 0, 28, 42, 28, 182, 1, 41, 153, 0, 20, 42, 180, 0, 51, 180, 0, 150, 27]
abbrev dktX1_queue_0 : List UInt8 := dkwX1_queue_0 ++ dktX1_queue_1
theorem dksX1_queue_0 : cX1_queue.data.toList.drop 0 = dktX1_queue_0 := by decide +kernel
theorem dksX1_queue_1 : cX1_queue.data.toList.drop 24 = dktX1_queue_1 := dk_seg dksX1_queue_0 24 rfl rfl
theorem dX1_queue_0 : decode cX1_queue 0 = .ok (.aload_n 0, 1) := dk_42 (dk_at dksX1_queue_0 0 rfl rfl)
theorem dX1_queue_1 : decode cX1_queue 1 = .ok (.iload_n 1, 1) := dk_27 (dk_at dksX1_queue_0 1 rfl rfl)
theorem dX1_queue_2 : decode cX1_queue 2 = .ok (.invokevirtual 305, 3) := dk_182 1 49 (dk_at dksX1_queue_0 2 rfl rfl)
theorem dX1_queue_5 : decode cX1_queue 5 = .ok (.ifCond .eq 28, 3) := dk_153 0 28 (dk_at dksX1_queue_0 5 rfl rfl)
theorem dX1_queue_8 : decode cX1_queue 8 = .ok (.aload_n 0, 1) := dk_42 (dk_at dksX1_queue_0 8 rfl rfl)
theorem dX1_queue_9 : decode cX1_queue 9 = .ok (.iload_n 2, 1) := dk_28 (dk_at dksX1_queue_0 9 rfl rfl)
theorem dX1_queue_10 : decode cX1_queue 10 = .ok (.invokevirtual 297, 3) := dk_182 1 41 (dk_at dksX1_queue_0 10 rfl rfl)
theorem dX1_queue_13 : decode cX1_queue 13 = .ok (.ifCond .eq 20, 3) := dk_153 0 20 (dk_at dksX1_queue_0 13 rfl rfl)
theorem dX1_queue_16 : decode cX1_queue 16 = .ok (.aload_n 0, 1) := dk_42 (dk_at dksX1_queue_0 16 rfl rfl)
theorem dX1_queue_17 : decode cX1_queue 17 = .ok (.getfield 51, 3) := dk_180 0 51 (dk_at dksX1_queue_0 17 rfl rfl)
theorem dX1_queue_20 : decode cX1_queue 20 = .ok (.getfield 150, 3) := dk_180 0 150 (dk_at dksX1_queue_0 20 rfl rfl)
theorem dX1_queue_23 : decode cX1_queue 23 = .ok (.iload_n 1, 1) := dk_27 (dk_at dksX1_queue_0 23 rfl rfl)
theorem dX1_queue_24 : decode cX1_queue 24 = .ok (.aaload, 1) := dk_50 (dk_at dksX1_queue_1 0 rfl rfl)
theorem dX1_queue_25 : decode cX1_queue 25 = .ok (.getfield 211, 3) := dk_180 0 211 (dk_at dksX1_queue_1 1 rfl rfl)
theorem dX1_queue_28 : decode cX1_queue 28 = .ok (.iload_n 2, 1) := dk_28 (dk_at dksX1_queue_1 4 rfl rfl)
theorem dX1_queue_29 : decode cX1_queue 29 = .ok (.iaload, 1) := dk_46 (dk_at dksX1_queue_1 5 rfl rfl)
theorem dX1_queue_30 : decode cX1_queue 30 = .ok (.goto 4, 3) := dk_167 0 4 (dk_at dksX1_queue_1 6 rfl rfl)
theorem dX1_queue_33 : decode cX1_queue 33 = .ok (.iconst (-1), 1) := dk_2 (dk_at dksX1_queue_1 9 rfl rfl)
theorem dX1_queue_34 : decode cX1_queue 34 = .ok (.ireturn, 1) := dk_172 (dk_at dksX1_queue_1 10 rfl rfl)
abbrev cX1_flow : ByteArray := prog_1_method_29_code
def yX1_flow : MethodName := ⟨RX1, "flow", "(II)I"⟩
def dkwX1_flow_5 : List UInt8 := [180, 1, 80, 172, 45, 180, 1, 82, 172, 2, 172]
abbrev dktX1_flow_5 : List UInt8 := dkwX1_flow_5 ++ []
def dkwX1_flow_4 : List UInt8 := [167, 0, 4, 3, 172, 45, 180, 0, 126, 172, 42, 180, 0, 20, 180, 0, 199, 27, 50, 180, 1, 77, 172, 45]
abbrev dktX1_flow_4 : List UInt8 := dkwX1_flow_4 ++ dktX1_flow_5
def dkwX1_flow_3 : List UInt8 := [45, 180, 0, 214, 172, 45, 180, 0, 220, 172, 45, 180, 1, 76, 172, 45, 180, 0, 122, 153, 0, 7, 4]
abbrev dktX1_flow_3 : List UInt8 := dkwX1_flow_3 ++ dktX1_flow_4
def dkwX1_flow_2 : List UInt8 := [45, 180, 0, 129, 172, 45, 180, 1, 46, 172, 45, 180, 1, 73, 3, 46, 172, 45, 180, 1, 73, 4, 46, 172]
abbrev dktX1_flow_2 : List UInt8 := dkwX1_flow_2 ++ dktX1_flow_3
def dkwX1_flow_1 : List UInt8 := [170, 0, 0, 0, 0, 0, 143, 0, 0, 0, 0, 0, 0, 0, 11, 0, 0, 0, 63, 0, 0, 0, 68, 0, 0, 0, 73, 0, 0, 0, 80, 0, 0, 0, 87, 0, 0, 0, 92, 0, 0, 0, 97, 0, 0, 0, 102, 0, 0, 0, 115, 0, 0, 0, 120, 0, 0, 0, 133, 0, 0, 0, 138]
abbrev dktX1_flow_1 : List UInt8 := dkwX1_flow_1 ++ dktX1_flow_2
def dkwX1_flow_0 : List UInt8 := [42, 27, 182, 1, 41, 154, 0, 5, 2, 172, 42, 180, 0, 51, 180, 0, 114, 27, 50, 78, 28]
abbrev dktX1_flow_0 : List UInt8 := dkwX1_flow_0 ++ dktX1_flow_1
theorem dksX1_flow_0 : cX1_flow.data.toList.drop 0 = dktX1_flow_0 := by decide +kernel
theorem dksX1_flow_1 : cX1_flow.data.toList.drop 21 = dktX1_flow_1 := dk_seg dksX1_flow_0 21 rfl rfl
theorem dksX1_flow_2 : cX1_flow.data.toList.drop 84 = dktX1_flow_2 := dk_seg dksX1_flow_1 63 rfl rfl
theorem dksX1_flow_3 : cX1_flow.data.toList.drop 108 = dktX1_flow_3 := dk_seg dksX1_flow_2 24 rfl rfl
theorem dksX1_flow_4 : cX1_flow.data.toList.drop 131 = dktX1_flow_4 := dk_seg dksX1_flow_3 23 rfl rfl
theorem dksX1_flow_5 : cX1_flow.data.toList.drop 155 = dktX1_flow_5 := dk_seg dksX1_flow_4 24 rfl rfl
theorem dX1_flow_0 : decode cX1_flow 0 = .ok (.aload_n 0, 1) := dk_42 (dk_at dksX1_flow_0 0 rfl rfl)
theorem dX1_flow_1 : decode cX1_flow 1 = .ok (.iload_n 1, 1) := dk_27 (dk_at dksX1_flow_0 1 rfl rfl)
theorem dX1_flow_2 : decode cX1_flow 2 = .ok (.invokevirtual 297, 3) := dk_182 1 41 (dk_at dksX1_flow_0 2 rfl rfl)
theorem dX1_flow_5 : decode cX1_flow 5 = .ok (.ifCond .ne 5, 3) := dk_154 0 5 (dk_at dksX1_flow_0 5 rfl rfl)
theorem dX1_flow_8 : decode cX1_flow 8 = .ok (.iconst (-1), 1) := dk_2 (dk_at dksX1_flow_0 8 rfl rfl)
theorem dX1_flow_9 : decode cX1_flow 9 = .ok (.ireturn, 1) := dk_172 (dk_at dksX1_flow_0 9 rfl rfl)
theorem dX1_flow_10 : decode cX1_flow 10 = .ok (.aload_n 0, 1) := dk_42 (dk_at dksX1_flow_0 10 rfl rfl)
theorem dX1_flow_11 : decode cX1_flow 11 = .ok (.getfield 51, 3) := dk_180 0 51 (dk_at dksX1_flow_0 11 rfl rfl)
theorem dX1_flow_14 : decode cX1_flow 14 = .ok (.getfield 114, 3) := dk_180 0 114 (dk_at dksX1_flow_0 14 rfl rfl)
theorem dX1_flow_17 : decode cX1_flow 17 = .ok (.iload_n 1, 1) := dk_27 (dk_at dksX1_flow_0 17 rfl rfl)
theorem dX1_flow_18 : decode cX1_flow 18 = .ok (.aaload, 1) := dk_50 (dk_at dksX1_flow_0 18 rfl rfl)
theorem dX1_flow_19 : decode cX1_flow 19 = .ok (.astore_n 3, 1) := dk_78 (dk_at dksX1_flow_0 19 rfl rfl)
theorem dX1_flow_20 : decode cX1_flow 20 = .ok (.iload_n 2, 1) := dk_28 (dk_at dksX1_flow_0 20 rfl rfl)
theorem dX1_flow_21 : decode cX1_flow 21 = .ok (.tableswitch 143 0 11 #[63, 68, 73, 80, 87, 92, 97, 102, 115, 120, 133, 138], 63) := by decide +kernel
theorem dX1_flow_84 : decode cX1_flow 84 = .ok (.aload_n 3, 1) := dk_45 (dk_at dksX1_flow_2 0 rfl rfl)
theorem dX1_flow_85 : decode cX1_flow 85 = .ok (.getfield 129, 3) := dk_180 0 129 (dk_at dksX1_flow_2 1 rfl rfl)
theorem dX1_flow_88 : decode cX1_flow 88 = .ok (.ireturn, 1) := dk_172 (dk_at dksX1_flow_2 4 rfl rfl)
theorem dX1_flow_89 : decode cX1_flow 89 = .ok (.aload_n 3, 1) := dk_45 (dk_at dksX1_flow_2 5 rfl rfl)
theorem dX1_flow_90 : decode cX1_flow 90 = .ok (.getfield 302, 3) := dk_180 1 46 (dk_at dksX1_flow_2 6 rfl rfl)
theorem dX1_flow_93 : decode cX1_flow 93 = .ok (.ireturn, 1) := dk_172 (dk_at dksX1_flow_2 9 rfl rfl)
theorem dX1_flow_94 : decode cX1_flow 94 = .ok (.aload_n 3, 1) := dk_45 (dk_at dksX1_flow_2 10 rfl rfl)
theorem dX1_flow_95 : decode cX1_flow 95 = .ok (.getfield 329, 3) := dk_180 1 73 (dk_at dksX1_flow_2 11 rfl rfl)
theorem dX1_flow_98 : decode cX1_flow 98 = .ok (.iconst 0, 1) := dk_3 (dk_at dksX1_flow_2 14 rfl rfl)
theorem dX1_flow_99 : decode cX1_flow 99 = .ok (.iaload, 1) := dk_46 (dk_at dksX1_flow_2 15 rfl rfl)
theorem dX1_flow_100 : decode cX1_flow 100 = .ok (.ireturn, 1) := dk_172 (dk_at dksX1_flow_2 16 rfl rfl)
theorem dX1_flow_101 : decode cX1_flow 101 = .ok (.aload_n 3, 1) := dk_45 (dk_at dksX1_flow_2 17 rfl rfl)
theorem dX1_flow_102 : decode cX1_flow 102 = .ok (.getfield 329, 3) := dk_180 1 73 (dk_at dksX1_flow_2 18 rfl rfl)
theorem dX1_flow_105 : decode cX1_flow 105 = .ok (.iconst 1, 1) := dk_4 (dk_at dksX1_flow_2 21 rfl rfl)
theorem dX1_flow_106 : decode cX1_flow 106 = .ok (.iaload, 1) := dk_46 (dk_at dksX1_flow_2 22 rfl rfl)
theorem dX1_flow_107 : decode cX1_flow 107 = .ok (.ireturn, 1) := dk_172 (dk_at dksX1_flow_2 23 rfl rfl)
theorem dX1_flow_108 : decode cX1_flow 108 = .ok (.aload_n 3, 1) := dk_45 (dk_at dksX1_flow_3 0 rfl rfl)
theorem dX1_flow_109 : decode cX1_flow 109 = .ok (.getfield 214, 3) := dk_180 0 214 (dk_at dksX1_flow_3 1 rfl rfl)
theorem dX1_flow_112 : decode cX1_flow 112 = .ok (.ireturn, 1) := dk_172 (dk_at dksX1_flow_3 4 rfl rfl)
theorem dX1_flow_113 : decode cX1_flow 113 = .ok (.aload_n 3, 1) := dk_45 (dk_at dksX1_flow_3 5 rfl rfl)
theorem dX1_flow_114 : decode cX1_flow 114 = .ok (.getfield 220, 3) := dk_180 0 220 (dk_at dksX1_flow_3 6 rfl rfl)
theorem dX1_flow_117 : decode cX1_flow 117 = .ok (.ireturn, 1) := dk_172 (dk_at dksX1_flow_3 9 rfl rfl)
theorem dX1_flow_118 : decode cX1_flow 118 = .ok (.aload_n 3, 1) := dk_45 (dk_at dksX1_flow_3 10 rfl rfl)
theorem dX1_flow_119 : decode cX1_flow 119 = .ok (.getfield 332, 3) := dk_180 1 76 (dk_at dksX1_flow_3 11 rfl rfl)
theorem dX1_flow_122 : decode cX1_flow 122 = .ok (.ireturn, 1) := dk_172 (dk_at dksX1_flow_3 14 rfl rfl)
theorem dX1_flow_123 : decode cX1_flow 123 = .ok (.aload_n 3, 1) := dk_45 (dk_at dksX1_flow_3 15 rfl rfl)
theorem dX1_flow_124 : decode cX1_flow 124 = .ok (.getfield 122, 3) := dk_180 0 122 (dk_at dksX1_flow_3 16 rfl rfl)
theorem dX1_flow_127 : decode cX1_flow 127 = .ok (.ifCond .eq 7, 3) := dk_153 0 7 (dk_at dksX1_flow_3 19 rfl rfl)
theorem dX1_flow_130 : decode cX1_flow 130 = .ok (.iconst 1, 1) := dk_4 (dk_at dksX1_flow_3 22 rfl rfl)
theorem dX1_flow_131 : decode cX1_flow 131 = .ok (.goto 4, 3) := dk_167 0 4 (dk_at dksX1_flow_4 0 rfl rfl)
theorem dX1_flow_134 : decode cX1_flow 134 = .ok (.iconst 0, 1) := dk_3 (dk_at dksX1_flow_4 3 rfl rfl)
theorem dX1_flow_135 : decode cX1_flow 135 = .ok (.ireturn, 1) := dk_172 (dk_at dksX1_flow_4 4 rfl rfl)
theorem dX1_flow_136 : decode cX1_flow 136 = .ok (.aload_n 3, 1) := dk_45 (dk_at dksX1_flow_4 5 rfl rfl)
theorem dX1_flow_137 : decode cX1_flow 137 = .ok (.getfield 126, 3) := dk_180 0 126 (dk_at dksX1_flow_4 6 rfl rfl)
theorem dX1_flow_140 : decode cX1_flow 140 = .ok (.ireturn, 1) := dk_172 (dk_at dksX1_flow_4 9 rfl rfl)
theorem dX1_flow_141 : decode cX1_flow 141 = .ok (.aload_n 0, 1) := dk_42 (dk_at dksX1_flow_4 10 rfl rfl)
theorem dX1_flow_142 : decode cX1_flow 142 = .ok (.getfield 20, 3) := dk_180 0 20 (dk_at dksX1_flow_4 11 rfl rfl)
theorem dX1_flow_145 : decode cX1_flow 145 = .ok (.getfield 199, 3) := dk_180 0 199 (dk_at dksX1_flow_4 14 rfl rfl)
theorem dX1_flow_148 : decode cX1_flow 148 = .ok (.iload_n 1, 1) := dk_27 (dk_at dksX1_flow_4 17 rfl rfl)
theorem dX1_flow_149 : decode cX1_flow 149 = .ok (.aaload, 1) := dk_50 (dk_at dksX1_flow_4 18 rfl rfl)
theorem dX1_flow_150 : decode cX1_flow 150 = .ok (.getfield 333, 3) := dk_180 1 77 (dk_at dksX1_flow_4 19 rfl rfl)
theorem dX1_flow_153 : decode cX1_flow 153 = .ok (.ireturn, 1) := dk_172 (dk_at dksX1_flow_4 22 rfl rfl)
theorem dX1_flow_154 : decode cX1_flow 154 = .ok (.aload_n 3, 1) := dk_45 (dk_at dksX1_flow_4 23 rfl rfl)
theorem dX1_flow_155 : decode cX1_flow 155 = .ok (.getfield 336, 3) := dk_180 1 80 (dk_at dksX1_flow_5 0 rfl rfl)
theorem dX1_flow_158 : decode cX1_flow 158 = .ok (.ireturn, 1) := dk_172 (dk_at dksX1_flow_5 3 rfl rfl)
theorem dX1_flow_159 : decode cX1_flow 159 = .ok (.aload_n 3, 1) := dk_45 (dk_at dksX1_flow_5 4 rfl rfl)
theorem dX1_flow_160 : decode cX1_flow 160 = .ok (.getfield 338, 3) := dk_180 1 82 (dk_at dksX1_flow_5 5 rfl rfl)
theorem dX1_flow_163 : decode cX1_flow 163 = .ok (.ireturn, 1) := dk_172 (dk_at dksX1_flow_5 8 rfl rfl)
theorem dX1_flow_164 : decode cX1_flow 164 = .ok (.iconst (-1), 1) := dk_2 (dk_at dksX1_flow_5 9 rfl rfl)
theorem dX1_flow_165 : decode cX1_flow 165 = .ok (.ireturn, 1) := dk_172 (dk_at dksX1_flow_5 10 rfl rfl)
abbrev cX1_path : ByteArray := prog_1_method_30_code
def yX1_path : MethodName := ⟨RX1, "path", "(II)I"⟩
def dkwX1_path_2 : List UInt8 := [167, 0, 4, 2, 172]
abbrev dktX1_path_2 : List UInt8 := dkwX1_path_2 ++ []
def dkwX1_path_1 : List UInt8 := [100, 133, 184, 0, 74, 153, 0, 20, 42, 180, 0, 20, 180, 0, 199, 27, 50, 180, 0, 208, 28, 46]
abbrev dktX1_path_1 : List UInt8 := dkwX1_path_1 ++ dktX1_path_2
def dkwX1_path_0 : List UInt8 := [42, 27, 182, 1, 41, 153, 0, 44, 28, 133, 9, 42, 180, 0, 20, 180, 0, 199, 27, 50, 180, 1, 77, 4]
abbrev dktX1_path_0 : List UInt8 := dkwX1_path_0 ++ dktX1_path_1
theorem dksX1_path_0 : cX1_path.data.toList.drop 0 = dktX1_path_0 := by decide +kernel
theorem dksX1_path_1 : cX1_path.data.toList.drop 24 = dktX1_path_1 := dk_seg dksX1_path_0 24 rfl rfl
theorem dksX1_path_2 : cX1_path.data.toList.drop 46 = dktX1_path_2 := dk_seg dksX1_path_1 22 rfl rfl
theorem dX1_path_0 : decode cX1_path 0 = .ok (.aload_n 0, 1) := dk_42 (dk_at dksX1_path_0 0 rfl rfl)
theorem dX1_path_1 : decode cX1_path 1 = .ok (.iload_n 1, 1) := dk_27 (dk_at dksX1_path_0 1 rfl rfl)
theorem dX1_path_2 : decode cX1_path 2 = .ok (.invokevirtual 297, 3) := dk_182 1 41 (dk_at dksX1_path_0 2 rfl rfl)
theorem dX1_path_5 : decode cX1_path 5 = .ok (.ifCond .eq 44, 3) := dk_153 0 44 (dk_at dksX1_path_0 5 rfl rfl)
theorem dX1_path_8 : decode cX1_path 8 = .ok (.iload_n 2, 1) := dk_28 (dk_at dksX1_path_0 8 rfl rfl)
theorem dX1_path_9 : decode cX1_path 9 = .ok (.i2l, 1) := dk_133 (dk_at dksX1_path_0 9 rfl rfl)
theorem dX1_path_10 : decode cX1_path 10 = .ok (.lconst 0, 1) := dk_9 (dk_at dksX1_path_0 10 rfl rfl)
theorem dX1_path_11 : decode cX1_path 11 = .ok (.aload_n 0, 1) := dk_42 (dk_at dksX1_path_0 11 rfl rfl)
theorem dX1_path_12 : decode cX1_path 12 = .ok (.getfield 20, 3) := dk_180 0 20 (dk_at dksX1_path_0 12 rfl rfl)
theorem dX1_path_15 : decode cX1_path 15 = .ok (.getfield 199, 3) := dk_180 0 199 (dk_at dksX1_path_0 15 rfl rfl)
theorem dX1_path_18 : decode cX1_path 18 = .ok (.iload_n 1, 1) := dk_27 (dk_at dksX1_path_0 18 rfl rfl)
theorem dX1_path_19 : decode cX1_path 19 = .ok (.aaload, 1) := dk_50 (dk_at dksX1_path_0 19 rfl rfl)
theorem dX1_path_20 : decode cX1_path 20 = .ok (.getfield 333, 3) := dk_180 1 77 (dk_at dksX1_path_0 20 rfl rfl)
theorem dX1_path_23 : decode cX1_path 23 = .ok (.iconst 1, 1) := dk_4 (dk_at dksX1_path_0 23 rfl rfl)
theorem dX1_path_24 : decode cX1_path 24 = .ok (.isub, 1) := dk_100 (dk_at dksX1_path_1 0 rfl rfl)
theorem dX1_path_25 : decode cX1_path 25 = .ok (.i2l, 1) := dk_133 (dk_at dksX1_path_1 1 rfl rfl)
theorem dX1_path_26 : decode cX1_path 26 = .ok (.invokestatic 74, 3) := dk_184 0 74 (dk_at dksX1_path_1 2 rfl rfl)
theorem dX1_path_29 : decode cX1_path 29 = .ok (.ifCond .eq 20, 3) := dk_153 0 20 (dk_at dksX1_path_1 5 rfl rfl)
theorem dX1_path_32 : decode cX1_path 32 = .ok (.aload_n 0, 1) := dk_42 (dk_at dksX1_path_1 8 rfl rfl)
theorem dX1_path_33 : decode cX1_path 33 = .ok (.getfield 20, 3) := dk_180 0 20 (dk_at dksX1_path_1 9 rfl rfl)
theorem dX1_path_36 : decode cX1_path 36 = .ok (.getfield 199, 3) := dk_180 0 199 (dk_at dksX1_path_1 12 rfl rfl)
theorem dX1_path_39 : decode cX1_path 39 = .ok (.iload_n 1, 1) := dk_27 (dk_at dksX1_path_1 15 rfl rfl)
theorem dX1_path_40 : decode cX1_path 40 = .ok (.aaload, 1) := dk_50 (dk_at dksX1_path_1 16 rfl rfl)
theorem dX1_path_41 : decode cX1_path 41 = .ok (.getfield 208, 3) := dk_180 0 208 (dk_at dksX1_path_1 17 rfl rfl)
theorem dX1_path_44 : decode cX1_path 44 = .ok (.iload_n 2, 1) := dk_28 (dk_at dksX1_path_1 20 rfl rfl)
theorem dX1_path_45 : decode cX1_path 45 = .ok (.iaload, 1) := dk_46 (dk_at dksX1_path_1 21 rfl rfl)
theorem dX1_path_46 : decode cX1_path 46 = .ok (.goto 4, 3) := dk_167 0 4 (dk_at dksX1_path_2 0 rfl rfl)
theorem dX1_path_49 : decode cX1_path 49 = .ok (.iconst (-1), 1) := dk_2 (dk_at dksX1_path_2 3 rfl rfl)
theorem dX1_path_50 : decode cX1_path 50 = .ok (.ireturn, 1) := dk_172 (dk_at dksX1_path_2 4 rfl rfl)
abbrev cX1_onWay : ByteArray := prog_1_method_31_code
def yX1_onWay : MethodName := ⟨RX1, "onWay", "(I)I"⟩
def dkwX1_onWay_1 : List UInt8 := [44, 180, 0, 220, 100, 44, 180, 0, 236, 100, 172]
abbrev dktX1_onWay_1 : List UInt8 := dkwX1_onWay_1 ++ []
def dkwX1_onWay_0 : List UInt8 := [42, 27, 182, 1, 41, 154, 0, 5, 2, 172, 42, 180, 0, 51, 180, 0, 114, 27, 50, 77, 44, 180, 0, 214]
abbrev dktX1_onWay_0 : List UInt8 := dkwX1_onWay_0 ++ dktX1_onWay_1
theorem dksX1_onWay_0 : cX1_onWay.data.toList.drop 0 = dktX1_onWay_0 := by decide +kernel
theorem dksX1_onWay_1 : cX1_onWay.data.toList.drop 24 = dktX1_onWay_1 := dk_seg dksX1_onWay_0 24 rfl rfl
theorem dX1_onWay_0 : decode cX1_onWay 0 = .ok (.aload_n 0, 1) := dk_42 (dk_at dksX1_onWay_0 0 rfl rfl)
theorem dX1_onWay_1 : decode cX1_onWay 1 = .ok (.iload_n 1, 1) := dk_27 (dk_at dksX1_onWay_0 1 rfl rfl)
theorem dX1_onWay_2 : decode cX1_onWay 2 = .ok (.invokevirtual 297, 3) := dk_182 1 41 (dk_at dksX1_onWay_0 2 rfl rfl)
theorem dX1_onWay_5 : decode cX1_onWay 5 = .ok (.ifCond .ne 5, 3) := dk_154 0 5 (dk_at dksX1_onWay_0 5 rfl rfl)
theorem dX1_onWay_8 : decode cX1_onWay 8 = .ok (.iconst (-1), 1) := dk_2 (dk_at dksX1_onWay_0 8 rfl rfl)
theorem dX1_onWay_9 : decode cX1_onWay 9 = .ok (.ireturn, 1) := dk_172 (dk_at dksX1_onWay_0 9 rfl rfl)
theorem dX1_onWay_10 : decode cX1_onWay 10 = .ok (.aload_n 0, 1) := dk_42 (dk_at dksX1_onWay_0 10 rfl rfl)
theorem dX1_onWay_11 : decode cX1_onWay 11 = .ok (.getfield 51, 3) := dk_180 0 51 (dk_at dksX1_onWay_0 11 rfl rfl)
theorem dX1_onWay_14 : decode cX1_onWay 14 = .ok (.getfield 114, 3) := dk_180 0 114 (dk_at dksX1_onWay_0 14 rfl rfl)
theorem dX1_onWay_17 : decode cX1_onWay 17 = .ok (.iload_n 1, 1) := dk_27 (dk_at dksX1_onWay_0 17 rfl rfl)
theorem dX1_onWay_18 : decode cX1_onWay 18 = .ok (.aaload, 1) := dk_50 (dk_at dksX1_onWay_0 18 rfl rfl)
theorem dX1_onWay_19 : decode cX1_onWay 19 = .ok (.astore_n 2, 1) := dk_77 (dk_at dksX1_onWay_0 19 rfl rfl)
theorem dX1_onWay_20 : decode cX1_onWay 20 = .ok (.aload_n 2, 1) := dk_44 (dk_at dksX1_onWay_0 20 rfl rfl)
theorem dX1_onWay_21 : decode cX1_onWay 21 = .ok (.getfield 214, 3) := dk_180 0 214 (dk_at dksX1_onWay_0 21 rfl rfl)
theorem dX1_onWay_24 : decode cX1_onWay 24 = .ok (.aload_n 2, 1) := dk_44 (dk_at dksX1_onWay_1 0 rfl rfl)
theorem dX1_onWay_25 : decode cX1_onWay 25 = .ok (.getfield 220, 3) := dk_180 0 220 (dk_at dksX1_onWay_1 1 rfl rfl)
theorem dX1_onWay_28 : decode cX1_onWay 28 = .ok (.isub, 1) := dk_100 (dk_at dksX1_onWay_1 4 rfl rfl)
theorem dX1_onWay_29 : decode cX1_onWay 29 = .ok (.aload_n 2, 1) := dk_44 (dk_at dksX1_onWay_1 5 rfl rfl)
theorem dX1_onWay_30 : decode cX1_onWay 30 = .ok (.getfield 236, 3) := dk_180 0 236 (dk_at dksX1_onWay_1 6 rfl rfl)
theorem dX1_onWay_33 : decode cX1_onWay 33 = .ok (.isub, 1) := dk_100 (dk_at dksX1_onWay_1 9 rfl rfl)
theorem dX1_onWay_34 : decode cX1_onWay 34 = .ok (.ireturn, 1) := dk_172 (dk_at dksX1_onWay_1 10 rfl rfl)
abbrev cX1_feedback : ByteArray := prog_1_method_32_code
def yX1_feedback : MethodName := ⟨RX1, "feedback", "(I)I"⟩
def dkwX1_feedback_0 : List UInt8 := [42, 27, 182, 1, 49, 153, 0, 14, 42, 180, 0, 51, 27, 182, 0, 248, 167, 0, 6, 19, 1, 86, 172]
abbrev dktX1_feedback_0 : List UInt8 := dkwX1_feedback_0 ++ []
theorem dksX1_feedback_0 : cX1_feedback.data.toList.drop 0 = dktX1_feedback_0 := by decide +kernel
theorem dX1_feedback_0 : decode cX1_feedback 0 = .ok (.aload_n 0, 1) := dk_42 (dk_at dksX1_feedback_0 0 rfl rfl)
theorem dX1_feedback_1 : decode cX1_feedback 1 = .ok (.iload_n 1, 1) := dk_27 (dk_at dksX1_feedback_0 1 rfl rfl)
theorem dX1_feedback_2 : decode cX1_feedback 2 = .ok (.invokevirtual 305, 3) := dk_182 1 49 (dk_at dksX1_feedback_0 2 rfl rfl)
theorem dX1_feedback_5 : decode cX1_feedback 5 = .ok (.ifCond .eq 14, 3) := dk_153 0 14 (dk_at dksX1_feedback_0 5 rfl rfl)
theorem dX1_feedback_8 : decode cX1_feedback 8 = .ok (.aload_n 0, 1) := dk_42 (dk_at dksX1_feedback_0 8 rfl rfl)
theorem dX1_feedback_9 : decode cX1_feedback 9 = .ok (.getfield 51, 3) := dk_180 0 51 (dk_at dksX1_feedback_0 9 rfl rfl)
theorem dX1_feedback_12 : decode cX1_feedback 12 = .ok (.iload_n 1, 1) := dk_27 (dk_at dksX1_feedback_0 12 rfl rfl)
theorem dX1_feedback_13 : decode cX1_feedback 13 = .ok (.invokevirtual 248, 3) := dk_182 0 248 (dk_at dksX1_feedback_0 13 rfl rfl)
theorem dX1_feedback_16 : decode cX1_feedback 16 = .ok (.goto 6, 3) := dk_167 0 6 (dk_at dksX1_feedback_0 16 rfl rfl)
theorem dX1_feedback_19 : decode cX1_feedback 19 = .ok (.ldc_w 342, 3) := dk_19 1 86 (dk_at dksX1_feedback_0 19 rfl rfl)
theorem dX1_feedback_22 : decode cX1_feedback 22 = .ok (.ireturn, 1) := dk_172 (dk_at dksX1_feedback_0 22 rfl rfl)
abbrev cX1_notice : ByteArray := prog_1_method_33_code
def yX1_notice : MethodName := ⟨RX1, "notice", "(I)I"⟩
def dkwX1_notice_1 : List UInt8 := [167, 0, 4, 2, 172]
abbrev dktX1_notice_1 : List UInt8 := dkwX1_notice_1 ++ []
def dkwX1_notice_0 : List UInt8 := [42, 27, 182, 1, 49, 153, 0, 21, 42, 180, 0, 51, 42, 180, 0, 51, 27, 182, 0, 248, 182, 0, 251]
abbrev dktX1_notice_0 : List UInt8 := dkwX1_notice_0 ++ dktX1_notice_1
theorem dksX1_notice_0 : cX1_notice.data.toList.drop 0 = dktX1_notice_0 := by decide +kernel
theorem dksX1_notice_1 : cX1_notice.data.toList.drop 23 = dktX1_notice_1 := dk_seg dksX1_notice_0 23 rfl rfl
theorem dX1_notice_0 : decode cX1_notice 0 = .ok (.aload_n 0, 1) := dk_42 (dk_at dksX1_notice_0 0 rfl rfl)
theorem dX1_notice_1 : decode cX1_notice 1 = .ok (.iload_n 1, 1) := dk_27 (dk_at dksX1_notice_0 1 rfl rfl)
theorem dX1_notice_2 : decode cX1_notice 2 = .ok (.invokevirtual 305, 3) := dk_182 1 49 (dk_at dksX1_notice_0 2 rfl rfl)
theorem dX1_notice_5 : decode cX1_notice 5 = .ok (.ifCond .eq 21, 3) := dk_153 0 21 (dk_at dksX1_notice_0 5 rfl rfl)
theorem dX1_notice_8 : decode cX1_notice 8 = .ok (.aload_n 0, 1) := dk_42 (dk_at dksX1_notice_0 8 rfl rfl)
theorem dX1_notice_9 : decode cX1_notice 9 = .ok (.getfield 51, 3) := dk_180 0 51 (dk_at dksX1_notice_0 9 rfl rfl)
theorem dX1_notice_12 : decode cX1_notice 12 = .ok (.aload_n 0, 1) := dk_42 (dk_at dksX1_notice_0 12 rfl rfl)
theorem dX1_notice_13 : decode cX1_notice 13 = .ok (.getfield 51, 3) := dk_180 0 51 (dk_at dksX1_notice_0 13 rfl rfl)
theorem dX1_notice_16 : decode cX1_notice 16 = .ok (.iload_n 1, 1) := dk_27 (dk_at dksX1_notice_0 16 rfl rfl)
theorem dX1_notice_17 : decode cX1_notice 17 = .ok (.invokevirtual 248, 3) := dk_182 0 248 (dk_at dksX1_notice_0 17 rfl rfl)
theorem dX1_notice_20 : decode cX1_notice 20 = .ok (.invokevirtual 251, 3) := dk_182 0 251 (dk_at dksX1_notice_0 20 rfl rfl)
theorem dX1_notice_23 : decode cX1_notice 23 = .ok (.goto 4, 3) := dk_167 0 4 (dk_at dksX1_notice_1 0 rfl rfl)
theorem dX1_notice_26 : decode cX1_notice 26 = .ok (.iconst (-1), 1) := dk_2 (dk_at dksX1_notice_1 3 rfl rfl)
theorem dX1_notice_27 : decode cX1_notice 27 = .ok (.ireturn, 1) := dk_172 (dk_at dksX1_notice_1 4 rfl rfl)
abbrev cX1_headroom : ByteArray := prog_1_method_35_code
def yX1_headroom : MethodName := ⟨RX1, "headroom", "(I)I"⟩
def dkwX1_headroom_0 : List UInt8 := [42, 27, 182, 1, 49, 153, 0, 11, 42, 27, 182, 1, 87, 167, 0, 4, 2, 172]
abbrev dktX1_headroom_0 : List UInt8 := dkwX1_headroom_0 ++ []
theorem dksX1_headroom_0 : cX1_headroom.data.toList.drop 0 = dktX1_headroom_0 := by decide +kernel
theorem dX1_headroom_0 : decode cX1_headroom 0 = .ok (.aload_n 0, 1) := dk_42 (dk_at dksX1_headroom_0 0 rfl rfl)
theorem dX1_headroom_1 : decode cX1_headroom 1 = .ok (.iload_n 1, 1) := dk_27 (dk_at dksX1_headroom_0 1 rfl rfl)
theorem dX1_headroom_2 : decode cX1_headroom 2 = .ok (.invokevirtual 305, 3) := dk_182 1 49 (dk_at dksX1_headroom_0 2 rfl rfl)
theorem dX1_headroom_5 : decode cX1_headroom 5 = .ok (.ifCond .eq 11, 3) := dk_153 0 11 (dk_at dksX1_headroom_0 5 rfl rfl)
theorem dX1_headroom_8 : decode cX1_headroom 8 = .ok (.aload_n 0, 1) := dk_42 (dk_at dksX1_headroom_0 8 rfl rfl)
theorem dX1_headroom_9 : decode cX1_headroom 9 = .ok (.iload_n 1, 1) := dk_27 (dk_at dksX1_headroom_0 9 rfl rfl)
theorem dX1_headroom_10 : decode cX1_headroom 10 = .ok (.invokevirtual 343, 3) := dk_182 1 87 (dk_at dksX1_headroom_0 10 rfl rfl)
theorem dX1_headroom_13 : decode cX1_headroom 13 = .ok (.goto 4, 3) := dk_167 0 4 (dk_at dksX1_headroom_0 13 rfl rfl)
theorem dX1_headroom_16 : decode cX1_headroom 16 = .ok (.iconst (-1), 1) := dk_2 (dk_at dksX1_headroom_0 16 rfl rfl)
theorem dX1_headroom_17 : decode cX1_headroom 17 = .ok (.ireturn, 1) := dk_172 (dk_at dksX1_headroom_0 17 rfl rfl)
abbrev cX1_headroomOf : ByteArray := prog_1_method_34_code
def yX1_headroomOf : MethodName := ⟨RX1, "headroomOf", "(I)I"⟩
def dkwX1_headroomOf_1 : List UInt8 := [180, 0, 187, 42, 180, 0, 20, 180, 0, 183, 27, 50, 180, 1, 65, 4, 96, 104, 96, 172]
abbrev dktX1_headroomOf_1 : List UInt8 := dkwX1_headroomOf_1 ++ []
def dkwX1_headroomOf_0 : List UInt8 := [42, 180, 0, 51, 180, 0, 150, 27, 50, 180, 1, 54, 4, 100, 42, 180, 0, 20, 180, 0, 183, 27, 50]
abbrev dktX1_headroomOf_0 : List UInt8 := dkwX1_headroomOf_0 ++ dktX1_headroomOf_1
theorem dksX1_headroomOf_0 : cX1_headroomOf.data.toList.drop 0 = dktX1_headroomOf_0 := by decide +kernel
theorem dksX1_headroomOf_1 : cX1_headroomOf.data.toList.drop 23 = dktX1_headroomOf_1 := dk_seg dksX1_headroomOf_0 23 rfl rfl
theorem dX1_headroomOf_0 : decode cX1_headroomOf 0 = .ok (.aload_n 0, 1) := dk_42 (dk_at dksX1_headroomOf_0 0 rfl rfl)
theorem dX1_headroomOf_1 : decode cX1_headroomOf 1 = .ok (.getfield 51, 3) := dk_180 0 51 (dk_at dksX1_headroomOf_0 1 rfl rfl)
theorem dX1_headroomOf_4 : decode cX1_headroomOf 4 = .ok (.getfield 150, 3) := dk_180 0 150 (dk_at dksX1_headroomOf_0 4 rfl rfl)
theorem dX1_headroomOf_7 : decode cX1_headroomOf 7 = .ok (.iload_n 1, 1) := dk_27 (dk_at dksX1_headroomOf_0 7 rfl rfl)
theorem dX1_headroomOf_8 : decode cX1_headroomOf 8 = .ok (.aaload, 1) := dk_50 (dk_at dksX1_headroomOf_0 8 rfl rfl)
theorem dX1_headroomOf_9 : decode cX1_headroomOf 9 = .ok (.getfield 310, 3) := dk_180 1 54 (dk_at dksX1_headroomOf_0 9 rfl rfl)
theorem dX1_headroomOf_12 : decode cX1_headroomOf 12 = .ok (.iconst 1, 1) := dk_4 (dk_at dksX1_headroomOf_0 12 rfl rfl)
theorem dX1_headroomOf_13 : decode cX1_headroomOf 13 = .ok (.isub, 1) := dk_100 (dk_at dksX1_headroomOf_0 13 rfl rfl)
theorem dX1_headroomOf_14 : decode cX1_headroomOf 14 = .ok (.aload_n 0, 1) := dk_42 (dk_at dksX1_headroomOf_0 14 rfl rfl)
theorem dX1_headroomOf_15 : decode cX1_headroomOf 15 = .ok (.getfield 20, 3) := dk_180 0 20 (dk_at dksX1_headroomOf_0 15 rfl rfl)
theorem dX1_headroomOf_18 : decode cX1_headroomOf 18 = .ok (.getfield 183, 3) := dk_180 0 183 (dk_at dksX1_headroomOf_0 18 rfl rfl)
theorem dX1_headroomOf_21 : decode cX1_headroomOf 21 = .ok (.iload_n 1, 1) := dk_27 (dk_at dksX1_headroomOf_0 21 rfl rfl)
theorem dX1_headroomOf_22 : decode cX1_headroomOf 22 = .ok (.aaload, 1) := dk_50 (dk_at dksX1_headroomOf_0 22 rfl rfl)
theorem dX1_headroomOf_23 : decode cX1_headroomOf 23 = .ok (.getfield 187, 3) := dk_180 0 187 (dk_at dksX1_headroomOf_1 0 rfl rfl)
theorem dX1_headroomOf_26 : decode cX1_headroomOf 26 = .ok (.aload_n 0, 1) := dk_42 (dk_at dksX1_headroomOf_1 3 rfl rfl)
theorem dX1_headroomOf_27 : decode cX1_headroomOf 27 = .ok (.getfield 20, 3) := dk_180 0 20 (dk_at dksX1_headroomOf_1 4 rfl rfl)
theorem dX1_headroomOf_30 : decode cX1_headroomOf 30 = .ok (.getfield 183, 3) := dk_180 0 183 (dk_at dksX1_headroomOf_1 7 rfl rfl)
theorem dX1_headroomOf_33 : decode cX1_headroomOf 33 = .ok (.iload_n 1, 1) := dk_27 (dk_at dksX1_headroomOf_1 10 rfl rfl)
theorem dX1_headroomOf_34 : decode cX1_headroomOf 34 = .ok (.aaload, 1) := dk_50 (dk_at dksX1_headroomOf_1 11 rfl rfl)
theorem dX1_headroomOf_35 : decode cX1_headroomOf 35 = .ok (.getfield 321, 3) := dk_180 1 65 (dk_at dksX1_headroomOf_1 12 rfl rfl)
theorem dX1_headroomOf_38 : decode cX1_headroomOf 38 = .ok (.iconst 1, 1) := dk_4 (dk_at dksX1_headroomOf_1 15 rfl rfl)
theorem dX1_headroomOf_39 : decode cX1_headroomOf 39 = .ok (.iadd, 1) := dk_96 (dk_at dksX1_headroomOf_1 16 rfl rfl)
theorem dX1_headroomOf_40 : decode cX1_headroomOf 40 = .ok (.imul, 1) := dk_104 (dk_at dksX1_headroomOf_1 17 rfl rfl)
theorem dX1_headroomOf_41 : decode cX1_headroomOf 41 = .ok (.iadd, 1) := dk_96 (dk_at dksX1_headroomOf_1 18 rfl rfl)
theorem dX1_headroomOf_42 : decode cX1_headroomOf 42 = .ok (.ireturn, 1) := dk_172 (dk_at dksX1_headroomOf_1 19 rfl rfl)
abbrev cX1_safe : ByteArray := prog_1_method_36_code
def yX1_safe : MethodName := ⟨RX1, "safe", "()I"⟩
def dkwX1_safe_2 : List UInt8 := [167, 255, 214, 27, 172]
abbrev dktX1_safe_2 : List UInt8 := dkwX1_safe_2 ++ []
def dkwX1_safe_1 : List UInt8 := [180, 0, 150, 28, 50, 180, 0, 223, 163, 0, 11, 27, 178, 0, 68, 28, 46, 128, 60, 132, 2, 1]
abbrev dktX1_safe_1 : List UInt8 := dkwX1_safe_1 ++ dktX1_safe_2
def dkwX1_safe_0 : List UInt8 := [3, 60, 3, 61, 28, 42, 180, 0, 20, 180, 0, 138, 162, 0, 37, 42, 28, 182, 1, 87, 42, 180, 0, 51]
abbrev dktX1_safe_0 : List UInt8 := dkwX1_safe_0 ++ dktX1_safe_1
theorem dksX1_safe_0 : cX1_safe.data.toList.drop 0 = dktX1_safe_0 := by decide +kernel
theorem dksX1_safe_1 : cX1_safe.data.toList.drop 24 = dktX1_safe_1 := dk_seg dksX1_safe_0 24 rfl rfl
theorem dksX1_safe_2 : cX1_safe.data.toList.drop 46 = dktX1_safe_2 := dk_seg dksX1_safe_1 22 rfl rfl
theorem dX1_safe_0 : decode cX1_safe 0 = .ok (.iconst 0, 1) := dk_3 (dk_at dksX1_safe_0 0 rfl rfl)
theorem dX1_safe_1 : decode cX1_safe 1 = .ok (.istore_n 1, 1) := dk_60 (dk_at dksX1_safe_0 1 rfl rfl)
theorem dX1_safe_2 : decode cX1_safe 2 = .ok (.iconst 0, 1) := dk_3 (dk_at dksX1_safe_0 2 rfl rfl)
theorem dX1_safe_3 : decode cX1_safe 3 = .ok (.istore_n 2, 1) := dk_61 (dk_at dksX1_safe_0 3 rfl rfl)
theorem dX1_safe_4 : decode cX1_safe 4 = .ok (.iload_n 2, 1) := dk_28 (dk_at dksX1_safe_0 4 rfl rfl)
theorem dX1_safe_5 : decode cX1_safe 5 = .ok (.aload_n 0, 1) := dk_42 (dk_at dksX1_safe_0 5 rfl rfl)
theorem dX1_safe_6 : decode cX1_safe 6 = .ok (.getfield 20, 3) := dk_180 0 20 (dk_at dksX1_safe_0 6 rfl rfl)
theorem dX1_safe_9 : decode cX1_safe 9 = .ok (.getfield 138, 3) := dk_180 0 138 (dk_at dksX1_safe_0 9 rfl rfl)
theorem dX1_safe_12 : decode cX1_safe 12 = .ok (.if_icmp .ge 37, 3) := dk_162 0 37 (dk_at dksX1_safe_0 12 rfl rfl)
theorem dX1_safe_15 : decode cX1_safe 15 = .ok (.aload_n 0, 1) := dk_42 (dk_at dksX1_safe_0 15 rfl rfl)
theorem dX1_safe_16 : decode cX1_safe 16 = .ok (.iload_n 2, 1) := dk_28 (dk_at dksX1_safe_0 16 rfl rfl)
theorem dX1_safe_17 : decode cX1_safe 17 = .ok (.invokevirtual 343, 3) := dk_182 1 87 (dk_at dksX1_safe_0 17 rfl rfl)
theorem dX1_safe_20 : decode cX1_safe 20 = .ok (.aload_n 0, 1) := dk_42 (dk_at dksX1_safe_0 20 rfl rfl)
theorem dX1_safe_21 : decode cX1_safe 21 = .ok (.getfield 51, 3) := dk_180 0 51 (dk_at dksX1_safe_0 21 rfl rfl)
theorem dX1_safe_24 : decode cX1_safe 24 = .ok (.getfield 150, 3) := dk_180 0 150 (dk_at dksX1_safe_1 0 rfl rfl)
theorem dX1_safe_27 : decode cX1_safe 27 = .ok (.iload_n 2, 1) := dk_28 (dk_at dksX1_safe_1 3 rfl rfl)
theorem dX1_safe_28 : decode cX1_safe 28 = .ok (.aaload, 1) := dk_50 (dk_at dksX1_safe_1 4 rfl rfl)
theorem dX1_safe_29 : decode cX1_safe 29 = .ok (.getfield 223, 3) := dk_180 0 223 (dk_at dksX1_safe_1 5 rfl rfl)
theorem dX1_safe_32 : decode cX1_safe 32 = .ok (.if_icmp .gt 11, 3) := dk_163 0 11 (dk_at dksX1_safe_1 8 rfl rfl)
theorem dX1_safe_35 : decode cX1_safe 35 = .ok (.iload_n 1, 1) := dk_27 (dk_at dksX1_safe_1 11 rfl rfl)
theorem dX1_safe_36 : decode cX1_safe 36 = .ok (.getstatic 68, 3) := dk_178 0 68 (dk_at dksX1_safe_1 12 rfl rfl)
theorem dX1_safe_39 : decode cX1_safe 39 = .ok (.iload_n 2, 1) := dk_28 (dk_at dksX1_safe_1 15 rfl rfl)
theorem dX1_safe_40 : decode cX1_safe 40 = .ok (.iaload, 1) := dk_46 (dk_at dksX1_safe_1 16 rfl rfl)
theorem dX1_safe_41 : decode cX1_safe 41 = .ok (.ior, 1) := dk_128 (dk_at dksX1_safe_1 17 rfl rfl)
theorem dX1_safe_42 : decode cX1_safe 42 = .ok (.istore_n 1, 1) := dk_60 (dk_at dksX1_safe_1 18 rfl rfl)
theorem dX1_safe_43 : decode cX1_safe 43 = .ok (.iinc 2 1, 3) := dk_132 2 1 (dk_at dksX1_safe_1 19 rfl rfl)
theorem dX1_safe_46 : decode cX1_safe 46 = .ok (.goto (-42), 3) := dk_167 255 214 (dk_at dksX1_safe_2 0 rfl rfl)
theorem dX1_safe_49 : decode cX1_safe 49 = .ok (.iload_n 1, 1) := dk_27 (dk_at dksX1_safe_2 3 rfl rfl)
theorem dX1_safe_50 : decode cX1_safe 50 = .ok (.ireturn, 1) := dk_172 (dk_at dksX1_safe_2 4 rfl rfl)
abbrev cX1_waits : ByteArray := prog_1_method_39_code
def yX1_waits : MethodName := ⟨RX1, "waits", "(I)I"⟩
def dkwX1_waits_2 : List UInt8 := [132, 3, 1, 167, 255, 222, 28, 172]
abbrev dktX1_waits_2 : List UInt8 := dkwX1_waits_2 ++ []
def dkwX1_waits_1 : List UInt8 := [162, 0, 29, 42, 180, 0, 51, 27, 29, 182, 1, 102, 153, 0, 11, 28, 178, 0, 68, 29, 46, 128, 61]
abbrev dktX1_waits_1 : List UInt8 := dkwX1_waits_1 ++ dktX1_waits_2
def dkwX1_waits_0 : List UInt8 := [42, 27, 182, 1, 49, 154, 0, 5, 2, 172, 3, 61, 3, 62, 29, 42, 180, 0, 20, 180, 0, 138]
abbrev dktX1_waits_0 : List UInt8 := dkwX1_waits_0 ++ dktX1_waits_1
theorem dksX1_waits_0 : cX1_waits.data.toList.drop 0 = dktX1_waits_0 := by decide +kernel
theorem dksX1_waits_1 : cX1_waits.data.toList.drop 22 = dktX1_waits_1 := dk_seg dksX1_waits_0 22 rfl rfl
theorem dksX1_waits_2 : cX1_waits.data.toList.drop 45 = dktX1_waits_2 := dk_seg dksX1_waits_1 23 rfl rfl
theorem dX1_waits_0 : decode cX1_waits 0 = .ok (.aload_n 0, 1) := dk_42 (dk_at dksX1_waits_0 0 rfl rfl)
theorem dX1_waits_1 : decode cX1_waits 1 = .ok (.iload_n 1, 1) := dk_27 (dk_at dksX1_waits_0 1 rfl rfl)
theorem dX1_waits_2 : decode cX1_waits 2 = .ok (.invokevirtual 305, 3) := dk_182 1 49 (dk_at dksX1_waits_0 2 rfl rfl)
theorem dX1_waits_5 : decode cX1_waits 5 = .ok (.ifCond .ne 5, 3) := dk_154 0 5 (dk_at dksX1_waits_0 5 rfl rfl)
theorem dX1_waits_8 : decode cX1_waits 8 = .ok (.iconst (-1), 1) := dk_2 (dk_at dksX1_waits_0 8 rfl rfl)
theorem dX1_waits_9 : decode cX1_waits 9 = .ok (.ireturn, 1) := dk_172 (dk_at dksX1_waits_0 9 rfl rfl)
theorem dX1_waits_10 : decode cX1_waits 10 = .ok (.iconst 0, 1) := dk_3 (dk_at dksX1_waits_0 10 rfl rfl)
theorem dX1_waits_11 : decode cX1_waits 11 = .ok (.istore_n 2, 1) := dk_61 (dk_at dksX1_waits_0 11 rfl rfl)
theorem dX1_waits_12 : decode cX1_waits 12 = .ok (.iconst 0, 1) := dk_3 (dk_at dksX1_waits_0 12 rfl rfl)
theorem dX1_waits_13 : decode cX1_waits 13 = .ok (.istore_n 3, 1) := dk_62 (dk_at dksX1_waits_0 13 rfl rfl)
theorem dX1_waits_14 : decode cX1_waits 14 = .ok (.iload_n 3, 1) := dk_29 (dk_at dksX1_waits_0 14 rfl rfl)
theorem dX1_waits_15 : decode cX1_waits 15 = .ok (.aload_n 0, 1) := dk_42 (dk_at dksX1_waits_0 15 rfl rfl)
theorem dX1_waits_16 : decode cX1_waits 16 = .ok (.getfield 20, 3) := dk_180 0 20 (dk_at dksX1_waits_0 16 rfl rfl)
theorem dX1_waits_19 : decode cX1_waits 19 = .ok (.getfield 138, 3) := dk_180 0 138 (dk_at dksX1_waits_0 19 rfl rfl)
theorem dX1_waits_22 : decode cX1_waits 22 = .ok (.if_icmp .ge 29, 3) := dk_162 0 29 (dk_at dksX1_waits_1 0 rfl rfl)
theorem dX1_waits_25 : decode cX1_waits 25 = .ok (.aload_n 0, 1) := dk_42 (dk_at dksX1_waits_1 3 rfl rfl)
theorem dX1_waits_26 : decode cX1_waits 26 = .ok (.getfield 51, 3) := dk_180 0 51 (dk_at dksX1_waits_1 4 rfl rfl)
theorem dX1_waits_29 : decode cX1_waits 29 = .ok (.iload_n 1, 1) := dk_27 (dk_at dksX1_waits_1 7 rfl rfl)
theorem dX1_waits_30 : decode cX1_waits 30 = .ok (.iload_n 3, 1) := dk_29 (dk_at dksX1_waits_1 8 rfl rfl)
theorem dX1_waits_31 : decode cX1_waits 31 = .ok (.invokevirtual 358, 3) := dk_182 1 102 (dk_at dksX1_waits_1 9 rfl rfl)
theorem dX1_waits_34 : decode cX1_waits 34 = .ok (.ifCond .eq 11, 3) := dk_153 0 11 (dk_at dksX1_waits_1 12 rfl rfl)
theorem dX1_waits_37 : decode cX1_waits 37 = .ok (.iload_n 2, 1) := dk_28 (dk_at dksX1_waits_1 15 rfl rfl)
theorem dX1_waits_38 : decode cX1_waits 38 = .ok (.getstatic 68, 3) := dk_178 0 68 (dk_at dksX1_waits_1 16 rfl rfl)
theorem dX1_waits_41 : decode cX1_waits 41 = .ok (.iload_n 3, 1) := dk_29 (dk_at dksX1_waits_1 19 rfl rfl)
theorem dX1_waits_42 : decode cX1_waits 42 = .ok (.iaload, 1) := dk_46 (dk_at dksX1_waits_1 20 rfl rfl)
theorem dX1_waits_43 : decode cX1_waits 43 = .ok (.ior, 1) := dk_128 (dk_at dksX1_waits_1 21 rfl rfl)
theorem dX1_waits_44 : decode cX1_waits 44 = .ok (.istore_n 2, 1) := dk_61 (dk_at dksX1_waits_1 22 rfl rfl)
theorem dX1_waits_45 : decode cX1_waits 45 = .ok (.iinc 3 1, 3) := dk_132 3 1 (dk_at dksX1_waits_2 0 rfl rfl)
theorem dX1_waits_48 : decode cX1_waits 48 = .ok (.goto (-34), 3) := dk_167 255 222 (dk_at dksX1_waits_2 3 rfl rfl)
theorem dX1_waits_51 : decode cX1_waits 51 = .ok (.iload_n 2, 1) := dk_28 (dk_at dksX1_waits_2 6 rfl rfl)
theorem dX1_waits_52 : decode cX1_waits 52 = .ok (.ireturn, 1) := dk_172 (dk_at dksX1_waits_2 7 rfl rfl)
abbrev cX1_cycle : ByteArray := prog_1_method_40_code
def yX1_cycle : MethodName := ⟨RX1, "cycle", "(I)I"⟩
def dkwX1_cycle_1 : List UInt8 := [162, 0, 12, 44, 180, 1, 115, 27, 46, 167, 0, 5, 16, 254, 172]
abbrev dktX1_cycle_1 : List UInt8 := dkwX1_cycle_1 ++ []
def dkwX1_cycle_0 : List UInt8 := [27, 156, 0, 5, 2, 172, 42, 42, 180, 0, 51, 182, 1, 106, 182, 1, 110, 77, 27, 44, 180, 1, 114]
abbrev dktX1_cycle_0 : List UInt8 := dkwX1_cycle_0 ++ dktX1_cycle_1
theorem dksX1_cycle_0 : cX1_cycle.data.toList.drop 0 = dktX1_cycle_0 := by decide +kernel
theorem dksX1_cycle_1 : cX1_cycle.data.toList.drop 23 = dktX1_cycle_1 := dk_seg dksX1_cycle_0 23 rfl rfl
theorem dX1_cycle_0 : decode cX1_cycle 0 = .ok (.iload_n 1, 1) := dk_27 (dk_at dksX1_cycle_0 0 rfl rfl)
theorem dX1_cycle_1 : decode cX1_cycle 1 = .ok (.ifCond .ge 5, 3) := dk_156 0 5 (dk_at dksX1_cycle_0 1 rfl rfl)
theorem dX1_cycle_4 : decode cX1_cycle 4 = .ok (.iconst (-1), 1) := dk_2 (dk_at dksX1_cycle_0 4 rfl rfl)
theorem dX1_cycle_5 : decode cX1_cycle 5 = .ok (.ireturn, 1) := dk_172 (dk_at dksX1_cycle_0 5 rfl rfl)
theorem dX1_cycle_6 : decode cX1_cycle 6 = .ok (.aload_n 0, 1) := dk_42 (dk_at dksX1_cycle_0 6 rfl rfl)
theorem dX1_cycle_7 : decode cX1_cycle 7 = .ok (.aload_n 0, 1) := dk_42 (dk_at dksX1_cycle_0 7 rfl rfl)
theorem dX1_cycle_8 : decode cX1_cycle 8 = .ok (.getfield 51, 3) := dk_180 0 51 (dk_at dksX1_cycle_0 8 rfl rfl)
theorem dX1_cycle_11 : decode cX1_cycle 11 = .ok (.invokevirtual 362, 3) := dk_182 1 106 (dk_at dksX1_cycle_0 11 rfl rfl)
theorem dX1_cycle_14 : decode cX1_cycle 14 = .ok (.invokevirtual 366, 3) := dk_182 1 110 (dk_at dksX1_cycle_0 14 rfl rfl)
theorem dX1_cycle_17 : decode cX1_cycle 17 = .ok (.astore_n 2, 1) := dk_77 (dk_at dksX1_cycle_0 17 rfl rfl)
theorem dX1_cycle_18 : decode cX1_cycle 18 = .ok (.iload_n 1, 1) := dk_27 (dk_at dksX1_cycle_0 18 rfl rfl)
theorem dX1_cycle_19 : decode cX1_cycle 19 = .ok (.aload_n 2, 1) := dk_44 (dk_at dksX1_cycle_0 19 rfl rfl)
theorem dX1_cycle_20 : decode cX1_cycle 20 = .ok (.getfield 370, 3) := dk_180 1 114 (dk_at dksX1_cycle_0 20 rfl rfl)
theorem dX1_cycle_23 : decode cX1_cycle 23 = .ok (.if_icmp .ge 12, 3) := dk_162 0 12 (dk_at dksX1_cycle_1 0 rfl rfl)
theorem dX1_cycle_26 : decode cX1_cycle 26 = .ok (.aload_n 2, 1) := dk_44 (dk_at dksX1_cycle_1 3 rfl rfl)
theorem dX1_cycle_27 : decode cX1_cycle 27 = .ok (.getfield 371, 3) := dk_180 1 115 (dk_at dksX1_cycle_1 4 rfl rfl)
theorem dX1_cycle_30 : decode cX1_cycle 30 = .ok (.iload_n 1, 1) := dk_27 (dk_at dksX1_cycle_1 7 rfl rfl)
theorem dX1_cycle_31 : decode cX1_cycle 31 = .ok (.iaload, 1) := dk_46 (dk_at dksX1_cycle_1 8 rfl rfl)
theorem dX1_cycle_32 : decode cX1_cycle 32 = .ok (.goto 5, 3) := dk_167 0 5 (dk_at dksX1_cycle_1 9 rfl rfl)
theorem dX1_cycle_35 : decode cX1_cycle 35 = .ok (.bipush (-2), 2) := dk_16 254 (dk_at dksX1_cycle_1 12 rfl rfl)
theorem dX1_cycle_37 : decode cX1_cycle 37 = .ok (.ireturn, 1) := dk_172 (dk_at dksX1_cycle_1 14 rfl rfl)
abbrev cX1_paused : ByteArray := prog_1_method_38_code
def yX1_paused : MethodName := ⟨RX1, "paused", "(LLosslessFabric$State;)LLosslessFabric$Cycle;"⟩
def dkwX1_paused_0 : List UInt8 := [187, 1, 93, 89, 42, 43, 186, 1, 95, 0, 0, 183, 1, 99, 176]
abbrev dktX1_paused_0 : List UInt8 := dkwX1_paused_0 ++ []
theorem dksX1_paused_0 : cX1_paused.data.toList.drop 0 = dktX1_paused_0 := by decide +kernel
theorem dX1_paused_0 : decode cX1_paused 0 = .ok (.new 349, 3) := dk_187 1 93 (dk_at dksX1_paused_0 0 rfl rfl)
theorem dX1_paused_3 : decode cX1_paused 3 = .ok (.dup, 1) := dk_89 (dk_at dksX1_paused_0 3 rfl rfl)
theorem dX1_paused_4 : decode cX1_paused 4 = .ok (.aload_n 0, 1) := dk_42 (dk_at dksX1_paused_0 4 rfl rfl)
theorem dX1_paused_5 : decode cX1_paused 5 = .ok (.aload_n 1, 1) := dk_43 (dk_at dksX1_paused_0 5 rfl rfl)
theorem dX1_paused_6 : decode cX1_paused 6 = .ok (.invokedynamic 351, 5) := by decide +kernel
theorem dX1_paused_11 : decode cX1_paused 11 = .ok (.invokespecial 355, 3) := dk_183 1 99 (dk_at dksX1_paused_0 11 rfl rfl)
theorem dX1_paused_14 : decode cX1_paused 14 = .ok (.areturn, 1) := dk_176 (dk_at dksX1_paused_0 14 rfl rfl)
abbrev cX1_lambda_paused_2 : ByteArray := prog_1_method_60_code
def yX1_lambda_paused_2 : MethodName := ⟨RX1, "lambda$paused$2", "(LLosslessFabric$State;II)Z"⟩
def dkwX1_lambda_paused_2_0 : List UInt8 := [42, 27, 28, 182, 1, 102, 172]
abbrev dktX1_lambda_paused_2_0 : List UInt8 := dkwX1_lambda_paused_2_0 ++ []
theorem dksX1_lambda_paused_2_0 : cX1_lambda_paused_2.data.toList.drop 0 = dktX1_lambda_paused_2_0 := by decide +kernel
theorem dX1_lambda_paused_2_0 : decode cX1_lambda_paused_2 0 = .ok (.aload_n 0, 1) := dk_42 (dk_at dksX1_lambda_paused_2_0 0 rfl rfl)
theorem dX1_lambda_paused_2_1 : decode cX1_lambda_paused_2 1 = .ok (.iload_n 1, 1) := dk_27 (dk_at dksX1_lambda_paused_2_0 1 rfl rfl)
theorem dX1_lambda_paused_2_2 : decode cX1_lambda_paused_2 2 = .ok (.iload_n 2, 1) := dk_28 (dk_at dksX1_lambda_paused_2_0 2 rfl rfl)
theorem dX1_lambda_paused_2_3 : decode cX1_lambda_paused_2 3 = .ok (.invokevirtual 358, 3) := dk_182 1 102 (dk_at dksX1_lambda_paused_2_0 3 rfl rfl)
theorem dX1_lambda_paused_2_6 : decode cX1_lambda_paused_2 6 = .ok (.ireturn, 1) := dk_172 (dk_at dksX1_lambda_paused_2_0 6 rfl rfl)
abbrev cX1_witness : ByteArray := prog_1_method_41_code
def yX1_witness : MethodName := ⟨RX1, "witness", "(I)I"⟩
def dkwX1_witness_2 : List UInt8 := [112, 46, 182, 1, 118, 167, 0, 5, 16, 254, 172]
abbrev dktX1_witness_2 : List UInt8 := dkwX1_witness_2 ++ []
def dkwX1_witness_1 : List UInt8 := [162, 0, 32, 42, 180, 0, 51, 44, 180, 1, 115, 27, 46, 44, 180, 1, 115, 27, 4, 96, 44, 180, 1, 114]
abbrev dktX1_witness_1 : List UInt8 := dkwX1_witness_1 ++ dktX1_witness_2
def dkwX1_witness_0 : List UInt8 := [27, 156, 0, 5, 2, 172, 42, 42, 180, 0, 51, 182, 1, 106, 182, 1, 110, 77, 27, 44, 180, 1, 114]
abbrev dktX1_witness_0 : List UInt8 := dkwX1_witness_0 ++ dktX1_witness_1
theorem dksX1_witness_0 : cX1_witness.data.toList.drop 0 = dktX1_witness_0 := by decide +kernel
theorem dksX1_witness_1 : cX1_witness.data.toList.drop 23 = dktX1_witness_1 := dk_seg dksX1_witness_0 23 rfl rfl
theorem dksX1_witness_2 : cX1_witness.data.toList.drop 47 = dktX1_witness_2 := dk_seg dksX1_witness_1 24 rfl rfl
theorem dX1_witness_0 : decode cX1_witness 0 = .ok (.iload_n 1, 1) := dk_27 (dk_at dksX1_witness_0 0 rfl rfl)
theorem dX1_witness_1 : decode cX1_witness 1 = .ok (.ifCond .ge 5, 3) := dk_156 0 5 (dk_at dksX1_witness_0 1 rfl rfl)
theorem dX1_witness_4 : decode cX1_witness 4 = .ok (.iconst (-1), 1) := dk_2 (dk_at dksX1_witness_0 4 rfl rfl)
theorem dX1_witness_5 : decode cX1_witness 5 = .ok (.ireturn, 1) := dk_172 (dk_at dksX1_witness_0 5 rfl rfl)
theorem dX1_witness_6 : decode cX1_witness 6 = .ok (.aload_n 0, 1) := dk_42 (dk_at dksX1_witness_0 6 rfl rfl)
theorem dX1_witness_7 : decode cX1_witness 7 = .ok (.aload_n 0, 1) := dk_42 (dk_at dksX1_witness_0 7 rfl rfl)
theorem dX1_witness_8 : decode cX1_witness 8 = .ok (.getfield 51, 3) := dk_180 0 51 (dk_at dksX1_witness_0 8 rfl rfl)
theorem dX1_witness_11 : decode cX1_witness 11 = .ok (.invokevirtual 362, 3) := dk_182 1 106 (dk_at dksX1_witness_0 11 rfl rfl)
theorem dX1_witness_14 : decode cX1_witness 14 = .ok (.invokevirtual 366, 3) := dk_182 1 110 (dk_at dksX1_witness_0 14 rfl rfl)
theorem dX1_witness_17 : decode cX1_witness 17 = .ok (.astore_n 2, 1) := dk_77 (dk_at dksX1_witness_0 17 rfl rfl)
theorem dX1_witness_18 : decode cX1_witness 18 = .ok (.iload_n 1, 1) := dk_27 (dk_at dksX1_witness_0 18 rfl rfl)
theorem dX1_witness_19 : decode cX1_witness 19 = .ok (.aload_n 2, 1) := dk_44 (dk_at dksX1_witness_0 19 rfl rfl)
theorem dX1_witness_20 : decode cX1_witness 20 = .ok (.getfield 370, 3) := dk_180 1 114 (dk_at dksX1_witness_0 20 rfl rfl)
theorem dX1_witness_23 : decode cX1_witness 23 = .ok (.if_icmp .ge 32, 3) := dk_162 0 32 (dk_at dksX1_witness_1 0 rfl rfl)
theorem dX1_witness_26 : decode cX1_witness 26 = .ok (.aload_n 0, 1) := dk_42 (dk_at dksX1_witness_1 3 rfl rfl)
theorem dX1_witness_27 : decode cX1_witness 27 = .ok (.getfield 51, 3) := dk_180 0 51 (dk_at dksX1_witness_1 4 rfl rfl)
theorem dX1_witness_30 : decode cX1_witness 30 = .ok (.aload_n 2, 1) := dk_44 (dk_at dksX1_witness_1 7 rfl rfl)
theorem dX1_witness_31 : decode cX1_witness 31 = .ok (.getfield 371, 3) := dk_180 1 115 (dk_at dksX1_witness_1 8 rfl rfl)
theorem dX1_witness_34 : decode cX1_witness 34 = .ok (.iload_n 1, 1) := dk_27 (dk_at dksX1_witness_1 11 rfl rfl)
theorem dX1_witness_35 : decode cX1_witness 35 = .ok (.iaload, 1) := dk_46 (dk_at dksX1_witness_1 12 rfl rfl)
theorem dX1_witness_36 : decode cX1_witness 36 = .ok (.aload_n 2, 1) := dk_44 (dk_at dksX1_witness_1 13 rfl rfl)
theorem dX1_witness_37 : decode cX1_witness 37 = .ok (.getfield 371, 3) := dk_180 1 115 (dk_at dksX1_witness_1 14 rfl rfl)
theorem dX1_witness_40 : decode cX1_witness 40 = .ok (.iload_n 1, 1) := dk_27 (dk_at dksX1_witness_1 17 rfl rfl)
theorem dX1_witness_41 : decode cX1_witness 41 = .ok (.iconst 1, 1) := dk_4 (dk_at dksX1_witness_1 18 rfl rfl)
theorem dX1_witness_42 : decode cX1_witness 42 = .ok (.iadd, 1) := dk_96 (dk_at dksX1_witness_1 19 rfl rfl)
theorem dX1_witness_43 : decode cX1_witness 43 = .ok (.aload_n 2, 1) := dk_44 (dk_at dksX1_witness_1 20 rfl rfl)
theorem dX1_witness_44 : decode cX1_witness 44 = .ok (.getfield 370, 3) := dk_180 1 114 (dk_at dksX1_witness_1 21 rfl rfl)
theorem dX1_witness_47 : decode cX1_witness 47 = .ok (.irem, 1) := dk_112 (dk_at dksX1_witness_2 0 rfl rfl)
theorem dX1_witness_48 : decode cX1_witness 48 = .ok (.iaload, 1) := dk_46 (dk_at dksX1_witness_2 1 rfl rfl)
theorem dX1_witness_49 : decode cX1_witness 49 = .ok (.invokevirtual 374, 3) := dk_182 1 118 (dk_at dksX1_witness_2 2 rfl rfl)
theorem dX1_witness_52 : decode cX1_witness 52 = .ok (.goto 5, 3) := dk_167 0 5 (dk_at dksX1_witness_2 5 rfl rfl)
theorem dX1_witness_55 : decode cX1_witness 55 = .ok (.bipush (-2), 2) := dk_16 254 (dk_at dksX1_witness_2 8 rfl rfl)
theorem dX1_witness_57 : decode cX1_witness 57 = .ok (.ireturn, 1) := dk_172 (dk_at dksX1_witness_2 10 rfl rfl)
abbrev cX1_inCycles : ByteArray := prog_1_method_42_code
def yX1_inCycles : MethodName := ⟨RX1, "inCycles", "(I)I"⟩
def dkwX1_inCycles_1 : List UInt8 := [167, 0, 17, 187, 1, 93, 89, 42, 42, 186, 1, 121, 0, 0, 183, 1, 99, 77, 44, 182, 1, 124, 172]
abbrev dktX1_inCycles_1 : List UInt8 := dkwX1_inCycles_1 ++ []
def dkwX1_inCycles_0 : List UInt8 := [27, 133, 9, 10, 184, 0, 74, 154, 0, 5, 2, 172, 27, 154, 0, 14, 42, 42, 180, 0, 51, 182, 1, 106]
abbrev dktX1_inCycles_0 : List UInt8 := dkwX1_inCycles_0 ++ dktX1_inCycles_1
theorem dksX1_inCycles_0 : cX1_inCycles.data.toList.drop 0 = dktX1_inCycles_0 := by decide +kernel
theorem dksX1_inCycles_1 : cX1_inCycles.data.toList.drop 24 = dktX1_inCycles_1 := dk_seg dksX1_inCycles_0 24 rfl rfl
theorem dX1_inCycles_0 : decode cX1_inCycles 0 = .ok (.iload_n 1, 1) := dk_27 (dk_at dksX1_inCycles_0 0 rfl rfl)
theorem dX1_inCycles_1 : decode cX1_inCycles 1 = .ok (.i2l, 1) := dk_133 (dk_at dksX1_inCycles_0 1 rfl rfl)
theorem dX1_inCycles_2 : decode cX1_inCycles 2 = .ok (.lconst 0, 1) := dk_9 (dk_at dksX1_inCycles_0 2 rfl rfl)
theorem dX1_inCycles_3 : decode cX1_inCycles 3 = .ok (.lconst 1, 1) := dk_10 (dk_at dksX1_inCycles_0 3 rfl rfl)
theorem dX1_inCycles_4 : decode cX1_inCycles 4 = .ok (.invokestatic 74, 3) := dk_184 0 74 (dk_at dksX1_inCycles_0 4 rfl rfl)
theorem dX1_inCycles_7 : decode cX1_inCycles 7 = .ok (.ifCond .ne 5, 3) := dk_154 0 5 (dk_at dksX1_inCycles_0 7 rfl rfl)
theorem dX1_inCycles_10 : decode cX1_inCycles 10 = .ok (.iconst (-1), 1) := dk_2 (dk_at dksX1_inCycles_0 10 rfl rfl)
theorem dX1_inCycles_11 : decode cX1_inCycles 11 = .ok (.ireturn, 1) := dk_172 (dk_at dksX1_inCycles_0 11 rfl rfl)
theorem dX1_inCycles_12 : decode cX1_inCycles 12 = .ok (.iload_n 1, 1) := dk_27 (dk_at dksX1_inCycles_0 12 rfl rfl)
theorem dX1_inCycles_13 : decode cX1_inCycles 13 = .ok (.ifCond .ne 14, 3) := dk_154 0 14 (dk_at dksX1_inCycles_0 13 rfl rfl)
theorem dX1_inCycles_16 : decode cX1_inCycles 16 = .ok (.aload_n 0, 1) := dk_42 (dk_at dksX1_inCycles_0 16 rfl rfl)
theorem dX1_inCycles_17 : decode cX1_inCycles 17 = .ok (.aload_n 0, 1) := dk_42 (dk_at dksX1_inCycles_0 17 rfl rfl)
theorem dX1_inCycles_18 : decode cX1_inCycles 18 = .ok (.getfield 51, 3) := dk_180 0 51 (dk_at dksX1_inCycles_0 18 rfl rfl)
theorem dX1_inCycles_21 : decode cX1_inCycles 21 = .ok (.invokevirtual 362, 3) := dk_182 1 106 (dk_at dksX1_inCycles_0 21 rfl rfl)
theorem dX1_inCycles_24 : decode cX1_inCycles 24 = .ok (.goto 17, 3) := dk_167 0 17 (dk_at dksX1_inCycles_1 0 rfl rfl)
theorem dX1_inCycles_27 : decode cX1_inCycles 27 = .ok (.new 349, 3) := dk_187 1 93 (dk_at dksX1_inCycles_1 3 rfl rfl)
theorem dX1_inCycles_30 : decode cX1_inCycles 30 = .ok (.dup, 1) := dk_89 (dk_at dksX1_inCycles_1 6 rfl rfl)
theorem dX1_inCycles_31 : decode cX1_inCycles 31 = .ok (.aload_n 0, 1) := dk_42 (dk_at dksX1_inCycles_1 7 rfl rfl)
theorem dX1_inCycles_32 : decode cX1_inCycles 32 = .ok (.aload_n 0, 1) := dk_42 (dk_at dksX1_inCycles_1 8 rfl rfl)
theorem dX1_inCycles_33 : decode cX1_inCycles 33 = .ok (.invokedynamic 377, 5) := by decide +kernel
theorem dX1_inCycles_38 : decode cX1_inCycles 38 = .ok (.invokespecial 355, 3) := dk_183 1 99 (dk_at dksX1_inCycles_1 14 rfl rfl)
theorem dX1_inCycles_41 : decode cX1_inCycles 41 = .ok (.astore_n 2, 1) := dk_77 (dk_at dksX1_inCycles_1 17 rfl rfl)
theorem dX1_inCycles_42 : decode cX1_inCycles 42 = .ok (.aload_n 2, 1) := dk_44 (dk_at dksX1_inCycles_1 18 rfl rfl)
theorem dX1_inCycles_43 : decode cX1_inCycles 43 = .ok (.invokevirtual 380, 3) := dk_182 1 124 (dk_at dksX1_inCycles_1 19 rfl rfl)
theorem dX1_inCycles_46 : decode cX1_inCycles 46 = .ok (.ireturn, 1) := dk_172 (dk_at dksX1_inCycles_1 22 rfl rfl)
abbrev cX1_lambda_inCycles_3 : ByteArray := prog_1_method_59_code
def yX1_lambda_inCycles_3 : MethodName := ⟨RX1, "lambda$inCycles$3", "(II)Z"⟩
def dkwX1_lambda_inCycles_3_0 : List UInt8 := [42, 27, 28, 182, 1, 210, 172]
abbrev dktX1_lambda_inCycles_3_0 : List UInt8 := dkwX1_lambda_inCycles_3_0 ++ []
theorem dksX1_lambda_inCycles_3_0 : cX1_lambda_inCycles_3.data.toList.drop 0 = dktX1_lambda_inCycles_3_0 := by decide +kernel
theorem dX1_lambda_inCycles_3_0 : decode cX1_lambda_inCycles_3 0 = .ok (.aload_n 0, 1) := dk_42 (dk_at dksX1_lambda_inCycles_3_0 0 rfl rfl)
theorem dX1_lambda_inCycles_3_1 : decode cX1_lambda_inCycles_3 1 = .ok (.iload_n 1, 1) := dk_27 (dk_at dksX1_lambda_inCycles_3_0 1 rfl rfl)
theorem dX1_lambda_inCycles_3_2 : decode cX1_lambda_inCycles_3 2 = .ok (.iload_n 2, 1) := dk_28 (dk_at dksX1_lambda_inCycles_3_0 2 rfl rfl)
theorem dX1_lambda_inCycles_3_3 : decode cX1_lambda_inCycles_3 3 = .ok (.invokevirtual 466, 3) := dk_182 1 210 (dk_at dksX1_lambda_inCycles_3_0 3 rfl rfl)
theorem dX1_lambda_inCycles_3_6 : decode cX1_lambda_inCycles_3 6 = .ok (.ireturn, 1) := dk_172 (dk_at dksX1_lambda_inCycles_3_0 6 rfl rfl)
abbrev cX1_mayWait : ByteArray := prog_1_method_37_code
def yX1_mayWait : MethodName := ⟨RX1, "mayWait", "(II)Z"⟩
def dkwX1_mayWait_1 : List UInt8 := [182, 1, 90, 28, 160, 0, 5, 4, 172, 132, 3, 1, 167, 255, 223, 3, 172]
abbrev dktX1_mayWait_1 : List UInt8 := dkwX1_mayWait_1 ++ []
def dkwX1_mayWait_0 : List UInt8 := [3, 62, 29, 42, 180, 0, 20, 180, 0, 111, 162, 0, 28, 42, 180, 0, 20, 180, 0, 199, 29, 50, 27]
abbrev dktX1_mayWait_0 : List UInt8 := dkwX1_mayWait_0 ++ dktX1_mayWait_1
theorem dksX1_mayWait_0 : cX1_mayWait.data.toList.drop 0 = dktX1_mayWait_0 := by decide +kernel
theorem dksX1_mayWait_1 : cX1_mayWait.data.toList.drop 23 = dktX1_mayWait_1 := dk_seg dksX1_mayWait_0 23 rfl rfl
theorem dX1_mayWait_0 : decode cX1_mayWait 0 = .ok (.iconst 0, 1) := dk_3 (dk_at dksX1_mayWait_0 0 rfl rfl)
theorem dX1_mayWait_1 : decode cX1_mayWait 1 = .ok (.istore_n 3, 1) := dk_62 (dk_at dksX1_mayWait_0 1 rfl rfl)
theorem dX1_mayWait_2 : decode cX1_mayWait 2 = .ok (.iload_n 3, 1) := dk_29 (dk_at dksX1_mayWait_0 2 rfl rfl)
theorem dX1_mayWait_3 : decode cX1_mayWait 3 = .ok (.aload_n 0, 1) := dk_42 (dk_at dksX1_mayWait_0 3 rfl rfl)
theorem dX1_mayWait_4 : decode cX1_mayWait 4 = .ok (.getfield 20, 3) := dk_180 0 20 (dk_at dksX1_mayWait_0 4 rfl rfl)
theorem dX1_mayWait_7 : decode cX1_mayWait 7 = .ok (.getfield 111, 3) := dk_180 0 111 (dk_at dksX1_mayWait_0 7 rfl rfl)
theorem dX1_mayWait_10 : decode cX1_mayWait 10 = .ok (.if_icmp .ge 28, 3) := dk_162 0 28 (dk_at dksX1_mayWait_0 10 rfl rfl)
theorem dX1_mayWait_13 : decode cX1_mayWait 13 = .ok (.aload_n 0, 1) := dk_42 (dk_at dksX1_mayWait_0 13 rfl rfl)
theorem dX1_mayWait_14 : decode cX1_mayWait 14 = .ok (.getfield 20, 3) := dk_180 0 20 (dk_at dksX1_mayWait_0 14 rfl rfl)
theorem dX1_mayWait_17 : decode cX1_mayWait 17 = .ok (.getfield 199, 3) := dk_180 0 199 (dk_at dksX1_mayWait_0 17 rfl rfl)
theorem dX1_mayWait_20 : decode cX1_mayWait 20 = .ok (.iload_n 3, 1) := dk_29 (dk_at dksX1_mayWait_0 20 rfl rfl)
theorem dX1_mayWait_21 : decode cX1_mayWait 21 = .ok (.aaload, 1) := dk_50 (dk_at dksX1_mayWait_0 21 rfl rfl)
theorem dX1_mayWait_22 : decode cX1_mayWait 22 = .ok (.iload_n 1, 1) := dk_27 (dk_at dksX1_mayWait_0 22 rfl rfl)
theorem dX1_mayWait_23 : decode cX1_mayWait 23 = .ok (.invokevirtual 346, 3) := dk_182 1 90 (dk_at dksX1_mayWait_1 0 rfl rfl)
theorem dX1_mayWait_26 : decode cX1_mayWait 26 = .ok (.iload_n 2, 1) := dk_28 (dk_at dksX1_mayWait_1 3 rfl rfl)
theorem dX1_mayWait_27 : decode cX1_mayWait 27 = .ok (.if_icmp .ne 5, 3) := dk_160 0 5 (dk_at dksX1_mayWait_1 4 rfl rfl)
theorem dX1_mayWait_30 : decode cX1_mayWait 30 = .ok (.iconst 1, 1) := dk_4 (dk_at dksX1_mayWait_1 7 rfl rfl)
theorem dX1_mayWait_31 : decode cX1_mayWait 31 = .ok (.ireturn, 1) := dk_172 (dk_at dksX1_mayWait_1 8 rfl rfl)
theorem dX1_mayWait_32 : decode cX1_mayWait 32 = .ok (.iinc 3 1, 3) := dk_132 3 1 (dk_at dksX1_mayWait_1 9 rfl rfl)
theorem dX1_mayWait_35 : decode cX1_mayWait 35 = .ok (.goto (-33), 3) := dk_167 255 223 (dk_at dksX1_mayWait_1 12 rfl rfl)
theorem dX1_mayWait_38 : decode cX1_mayWait 38 = .ok (.iconst 0, 1) := dk_3 (dk_at dksX1_mayWait_1 15 rfl rfl)
theorem dX1_mayWait_39 : decode cX1_mayWait 39 = .ok (.ireturn, 1) := dk_172 (dk_at dksX1_mayWait_1 16 rfl rfl)
abbrev cX1_fair : ByteArray := prog_1_method_43_code
def yX1_fair : MethodName := ⟨RX1, "fair", "(IZ)J"⟩
def dkwX1_fair_1 : List UInt8 := [153, 0, 12, 45, 180, 1, 134, 27, 47, 167, 0, 9, 45, 180, 1, 138, 27, 47, 173]
abbrev dktX1_fair_1 : List UInt8 := dkwX1_fair_1 ++ []
def dkwX1_fair_0 : List UInt8 := [42, 27, 182, 1, 41, 154, 0, 7, 20, 1, 127, 173, 187, 1, 129, 89, 42, 183, 1, 131, 78, 28]
abbrev dktX1_fair_0 : List UInt8 := dkwX1_fair_0 ++ dktX1_fair_1
theorem dksX1_fair_0 : cX1_fair.data.toList.drop 0 = dktX1_fair_0 := by decide +kernel
theorem dksX1_fair_1 : cX1_fair.data.toList.drop 22 = dktX1_fair_1 := dk_seg dksX1_fair_0 22 rfl rfl
theorem dX1_fair_0 : decode cX1_fair 0 = .ok (.aload_n 0, 1) := dk_42 (dk_at dksX1_fair_0 0 rfl rfl)
theorem dX1_fair_1 : decode cX1_fair 1 = .ok (.iload_n 1, 1) := dk_27 (dk_at dksX1_fair_0 1 rfl rfl)
theorem dX1_fair_2 : decode cX1_fair 2 = .ok (.invokevirtual 297, 3) := dk_182 1 41 (dk_at dksX1_fair_0 2 rfl rfl)
theorem dX1_fair_5 : decode cX1_fair 5 = .ok (.ifCond .ne 7, 3) := dk_154 0 7 (dk_at dksX1_fair_0 5 rfl rfl)
theorem dX1_fair_8 : decode cX1_fair 8 = .ok (.ldc2_w 383, 3) := dk_20 1 127 (dk_at dksX1_fair_0 8 rfl rfl)
theorem dX1_fair_11 : decode cX1_fair 11 = .ok (.lreturn, 1) := dk_173 (dk_at dksX1_fair_0 11 rfl rfl)
theorem dX1_fair_12 : decode cX1_fair 12 = .ok (.new 385, 3) := dk_187 1 129 (dk_at dksX1_fair_0 12 rfl rfl)
theorem dX1_fair_15 : decode cX1_fair 15 = .ok (.dup, 1) := dk_89 (dk_at dksX1_fair_0 15 rfl rfl)
theorem dX1_fair_16 : decode cX1_fair 16 = .ok (.aload_n 0, 1) := dk_42 (dk_at dksX1_fair_0 16 rfl rfl)
theorem dX1_fair_17 : decode cX1_fair 17 = .ok (.invokespecial 387, 3) := dk_183 1 131 (dk_at dksX1_fair_0 17 rfl rfl)
theorem dX1_fair_20 : decode cX1_fair 20 = .ok (.astore_n 3, 1) := dk_78 (dk_at dksX1_fair_0 20 rfl rfl)
theorem dX1_fair_21 : decode cX1_fair 21 = .ok (.iload_n 2, 1) := dk_28 (dk_at dksX1_fair_0 21 rfl rfl)
theorem dX1_fair_22 : decode cX1_fair 22 = .ok (.ifCond .eq 12, 3) := dk_153 0 12 (dk_at dksX1_fair_1 0 rfl rfl)
theorem dX1_fair_25 : decode cX1_fair 25 = .ok (.aload_n 3, 1) := dk_45 (dk_at dksX1_fair_1 3 rfl rfl)
theorem dX1_fair_26 : decode cX1_fair 26 = .ok (.getfield 390, 3) := dk_180 1 134 (dk_at dksX1_fair_1 4 rfl rfl)
theorem dX1_fair_29 : decode cX1_fair 29 = .ok (.iload_n 1, 1) := dk_27 (dk_at dksX1_fair_1 7 rfl rfl)
theorem dX1_fair_30 : decode cX1_fair 30 = .ok (.laload, 1) := dk_47 (dk_at dksX1_fair_1 8 rfl rfl)
theorem dX1_fair_31 : decode cX1_fair 31 = .ok (.goto 9, 3) := dk_167 0 9 (dk_at dksX1_fair_1 9 rfl rfl)
theorem dX1_fair_34 : decode cX1_fair 34 = .ok (.aload_n 3, 1) := dk_45 (dk_at dksX1_fair_1 12 rfl rfl)
theorem dX1_fair_35 : decode cX1_fair 35 = .ok (.getfield 394, 3) := dk_180 1 138 (dk_at dksX1_fair_1 13 rfl rfl)
theorem dX1_fair_38 : decode cX1_fair 38 = .ok (.iload_n 1, 1) := dk_27 (dk_at dksX1_fair_1 16 rfl rfl)
theorem dX1_fair_39 : decode cX1_fair 39 = .ok (.laload, 1) := dk_47 (dk_at dksX1_fair_1 17 rfl rfl)
theorem dX1_fair_40 : decode cX1_fair 40 = .ok (.lreturn, 1) := dk_173 (dk_at dksX1_fair_1 18 rfl rfl)
abbrev cX1_has : ByteArray := prog_1_method_4_code
def yX1_has : MethodName := ⟨RX1, "has", "(II)Z"⟩
def dkwX1_has_0 : List UInt8 := [26, 178, 0, 68, 27, 46, 126, 153, 0, 7, 4, 167, 0, 4, 3, 172]
abbrev dktX1_has_0 : List UInt8 := dkwX1_has_0 ++ []
theorem dksX1_has_0 : cX1_has.data.toList.drop 0 = dktX1_has_0 := by decide +kernel
theorem dX1_has_0 : decode cX1_has 0 = .ok (.iload_n 0, 1) := dk_26 (dk_at dksX1_has_0 0 rfl rfl)
theorem dX1_has_1 : decode cX1_has 1 = .ok (.getstatic 68, 3) := dk_178 0 68 (dk_at dksX1_has_0 1 rfl rfl)
theorem dX1_has_4 : decode cX1_has 4 = .ok (.iload_n 1, 1) := dk_27 (dk_at dksX1_has_0 4 rfl rfl)
theorem dX1_has_5 : decode cX1_has 5 = .ok (.iaload, 1) := dk_46 (dk_at dksX1_has_0 5 rfl rfl)
theorem dX1_has_6 : decode cX1_has 6 = .ok (.iand, 1) := dk_126 (dk_at dksX1_has_0 6 rfl rfl)
theorem dX1_has_7 : decode cX1_has 7 = .ok (.ifCond .eq 7, 3) := dk_153 0 7 (dk_at dksX1_has_0 7 rfl rfl)
theorem dX1_has_10 : decode cX1_has 10 = .ok (.iconst 1, 1) := dk_4 (dk_at dksX1_has_0 10 rfl rfl)
theorem dX1_has_11 : decode cX1_has 11 = .ok (.goto 4, 3) := dk_167 0 4 (dk_at dksX1_has_0 11 rfl rfl)
theorem dX1_has_14 : decode cX1_has 14 = .ok (.iconst 0, 1) := dk_3 (dk_at dksX1_has_0 14 rfl rfl)
theorem dX1_has_15 : decode cX1_has 15 = .ok (.ireturn, 1) := dk_172 (dk_at dksX1_has_0 15 rfl rfl)
abbrev cX1_common : ByteArray := prog_1_method_5_code
def yX1_common : MethodName := ⟨RX1, "common", "(JJ)J"⟩
def dkwX1_common_1 : List UInt8 := [22, 8, 55, 6, 167, 255, 234, 22, 4, 173]
abbrev dktX1_common_1 : List UInt8 := dkwX1_common_1 ++ []
def dkwX1_common_0 : List UInt8 := [30, 55, 4, 32, 55, 6, 22, 6, 9, 148, 153, 0, 21, 22, 4, 22, 6, 113, 55, 8, 22, 6, 55, 4]
abbrev dktX1_common_0 : List UInt8 := dkwX1_common_0 ++ dktX1_common_1
theorem dksX1_common_0 : cX1_common.data.toList.drop 0 = dktX1_common_0 := by decide +kernel
theorem dksX1_common_1 : cX1_common.data.toList.drop 24 = dktX1_common_1 := dk_seg dksX1_common_0 24 rfl rfl
theorem dX1_common_0 : decode cX1_common 0 = .ok (.lload_n 0, 1) := dk_30 (dk_at dksX1_common_0 0 rfl rfl)
theorem dX1_common_1 : decode cX1_common 1 = .ok (.lstore 4, 2) := dk_55 4 (dk_at dksX1_common_0 1 rfl rfl)
theorem dX1_common_3 : decode cX1_common 3 = .ok (.lload_n 2, 1) := dk_32 (dk_at dksX1_common_0 3 rfl rfl)
theorem dX1_common_4 : decode cX1_common 4 = .ok (.lstore 6, 2) := dk_55 6 (dk_at dksX1_common_0 4 rfl rfl)
theorem dX1_common_6 : decode cX1_common 6 = .ok (.lload 6, 2) := dk_22 6 (dk_at dksX1_common_0 6 rfl rfl)
theorem dX1_common_8 : decode cX1_common 8 = .ok (.lconst 0, 1) := dk_9 (dk_at dksX1_common_0 8 rfl rfl)
theorem dX1_common_9 : decode cX1_common 9 = .ok (.lcmp, 1) := dk_148 (dk_at dksX1_common_0 9 rfl rfl)
theorem dX1_common_10 : decode cX1_common 10 = .ok (.ifCond .eq 21, 3) := dk_153 0 21 (dk_at dksX1_common_0 10 rfl rfl)
theorem dX1_common_13 : decode cX1_common 13 = .ok (.lload 4, 2) := dk_22 4 (dk_at dksX1_common_0 13 rfl rfl)
theorem dX1_common_15 : decode cX1_common 15 = .ok (.lload 6, 2) := dk_22 6 (dk_at dksX1_common_0 15 rfl rfl)
theorem dX1_common_17 : decode cX1_common 17 = .ok (.lrem, 1) := dk_113 (dk_at dksX1_common_0 17 rfl rfl)
theorem dX1_common_18 : decode cX1_common 18 = .ok (.lstore 8, 2) := dk_55 8 (dk_at dksX1_common_0 18 rfl rfl)
theorem dX1_common_20 : decode cX1_common 20 = .ok (.lload 6, 2) := dk_22 6 (dk_at dksX1_common_0 20 rfl rfl)
theorem dX1_common_22 : decode cX1_common 22 = .ok (.lstore 4, 2) := dk_55 4 (dk_at dksX1_common_0 22 rfl rfl)
theorem dX1_common_24 : decode cX1_common 24 = .ok (.lload 8, 2) := dk_22 8 (dk_at dksX1_common_1 0 rfl rfl)
theorem dX1_common_26 : decode cX1_common 26 = .ok (.lstore 6, 2) := dk_55 6 (dk_at dksX1_common_1 2 rfl rfl)
theorem dX1_common_28 : decode cX1_common 28 = .ok (.goto (-22), 3) := dk_167 255 234 (dk_at dksX1_common_1 4 rfl rfl)
theorem dX1_common_31 : decode cX1_common 31 = .ok (.lload 4, 2) := dk_22 4 (dk_at dksX1_common_1 7 rfl rfl)
theorem dX1_common_33 : decode cX1_common 33 = .ok (.lreturn, 1) := dk_173 (dk_at dksX1_common_1 9 rfl rfl)
abbrev cX1_full : ByteArray := prog_1_method_44_code
def yX1_full : MethodName := ⟨RX1, "full", "()I"⟩
def dkwX1_full_0 : List UInt8 := [187, 1, 129, 89, 42, 183, 1, 131, 182, 1, 141, 180, 1, 145, 172]
abbrev dktX1_full_0 : List UInt8 := dkwX1_full_0 ++ []
theorem dksX1_full_0 : cX1_full.data.toList.drop 0 = dktX1_full_0 := by decide +kernel
theorem dX1_full_0 : decode cX1_full 0 = .ok (.new 385, 3) := dk_187 1 129 (dk_at dksX1_full_0 0 rfl rfl)
theorem dX1_full_3 : decode cX1_full 3 = .ok (.dup, 1) := dk_89 (dk_at dksX1_full_0 3 rfl rfl)
theorem dX1_full_4 : decode cX1_full 4 = .ok (.aload_n 0, 1) := dk_42 (dk_at dksX1_full_0 4 rfl rfl)
theorem dX1_full_5 : decode cX1_full 5 = .ok (.invokespecial 387, 3) := dk_183 1 131 (dk_at dksX1_full_0 5 rfl rfl)
theorem dX1_full_8 : decode cX1_full 8 = .ok (.invokevirtual 397, 3) := dk_182 1 141 (dk_at dksX1_full_0 8 rfl rfl)
theorem dX1_full_11 : decode cX1_full 11 = .ok (.getfield 401, 3) := dk_180 1 145 (dk_at dksX1_full_0 11 rfl rfl)
theorem dX1_full_14 : decode cX1_full 14 = .ok (.ireturn, 1) := dk_172 (dk_at dksX1_full_0 14 rfl rfl)
abbrev cX1_ahead : ByteArray := prog_1_method_47_code
def yX1_ahead : MethodName := ⟨RX1, "ahead", "(III)I"⟩
def dkwX1_ahead_6 : List UInt8 := [172]
abbrev dktX1_ahead_6 : List UInt8 := dkwX1_ahead_6 ++ []
def dkwX1_ahead_5 : List UInt8 := [180, 0, 237, 167, 0, 21, 25, 4, 180, 0, 233, 42, 180, 0, 51, 180, 0, 150, 27, 50, 180, 0, 233, 100]
abbrev dktX1_ahead_5 : List UInt8 := dkwX1_ahead_5 ++ dktX1_ahead_6
def dkwX1_ahead_4 : List UInt8 := [27, 50, 58, 4, 29, 154, 0, 11, 25, 4, 182, 0, 226, 167, 0, 34, 29, 4, 160, 0, 11, 25, 4]
abbrev dktX1_ahead_4 : List UInt8 := dkwX1_ahead_4 ++ dktX1_ahead_5
def dkwX1_ahead_3 : List UInt8 := [162, 0, 17, 42, 42, 180, 0, 58, 182, 1, 34, 132, 4, 1, 167, 255, 239, 42, 180, 0, 58, 180, 0, 150]
abbrev dktX1_ahead_3 : List UInt8 := dkwX1_ahead_3 ++ dktX1_ahead_4
def dkwX1_ahead_2 : List UInt8 := [27, 50, 42, 180, 0, 51, 180, 0, 150, 27, 50, 182, 0, 226, 181, 0, 237, 3, 54, 4, 21, 4, 28]
abbrev dktX1_ahead_2 : List UInt8 := dkwX1_ahead_2 ++ dktX1_ahead_3
def dkwX1_ahead_1 : List UInt8 := [154, 0, 5, 2, 172, 42, 180, 0, 58, 42, 180, 0, 51, 182, 1, 25, 87, 42, 180, 0, 58, 180, 0, 150]
abbrev dktX1_ahead_1 : List UInt8 := dkwX1_ahead_1 ++ dktX1_ahead_2
def dkwX1_ahead_0 : List UInt8 := [42, 27, 182, 1, 49, 153, 0, 22, 28, 184, 1, 150, 153, 0, 15, 29, 133, 9, 20, 1, 153, 184, 0, 74]
abbrev dktX1_ahead_0 : List UInt8 := dkwX1_ahead_0 ++ dktX1_ahead_1
theorem dksX1_ahead_0 : cX1_ahead.data.toList.drop 0 = dktX1_ahead_0 := by decide +kernel
theorem dksX1_ahead_1 : cX1_ahead.data.toList.drop 24 = dktX1_ahead_1 := dk_seg dksX1_ahead_0 24 rfl rfl
theorem dksX1_ahead_2 : cX1_ahead.data.toList.drop 48 = dktX1_ahead_2 := dk_seg dksX1_ahead_1 24 rfl rfl
theorem dksX1_ahead_3 : cX1_ahead.data.toList.drop 71 = dktX1_ahead_3 := dk_seg dksX1_ahead_2 23 rfl rfl
theorem dksX1_ahead_4 : cX1_ahead.data.toList.drop 95 = dktX1_ahead_4 := dk_seg dksX1_ahead_3 24 rfl rfl
theorem dksX1_ahead_5 : cX1_ahead.data.toList.drop 118 = dktX1_ahead_5 := dk_seg dksX1_ahead_4 23 rfl rfl
theorem dksX1_ahead_6 : cX1_ahead.data.toList.drop 142 = dktX1_ahead_6 := dk_seg dksX1_ahead_5 24 rfl rfl
theorem dX1_ahead_0 : decode cX1_ahead 0 = .ok (.aload_n 0, 1) := dk_42 (dk_at dksX1_ahead_0 0 rfl rfl)
theorem dX1_ahead_1 : decode cX1_ahead 1 = .ok (.iload_n 1, 1) := dk_27 (dk_at dksX1_ahead_0 1 rfl rfl)
theorem dX1_ahead_2 : decode cX1_ahead 2 = .ok (.invokevirtual 305, 3) := dk_182 1 49 (dk_at dksX1_ahead_0 2 rfl rfl)
theorem dX1_ahead_5 : decode cX1_ahead 5 = .ok (.ifCond .eq 22, 3) := dk_153 0 22 (dk_at dksX1_ahead_0 5 rfl rfl)
theorem dX1_ahead_8 : decode cX1_ahead 8 = .ok (.iload_n 2, 1) := dk_28 (dk_at dksX1_ahead_0 8 rfl rfl)
theorem dX1_ahead_9 : decode cX1_ahead 9 = .ok (.invokestatic 406, 3) := dk_184 1 150 (dk_at dksX1_ahead_0 9 rfl rfl)
theorem dX1_ahead_12 : decode cX1_ahead 12 = .ok (.ifCond .eq 15, 3) := dk_153 0 15 (dk_at dksX1_ahead_0 12 rfl rfl)
theorem dX1_ahead_15 : decode cX1_ahead 15 = .ok (.iload_n 3, 1) := dk_29 (dk_at dksX1_ahead_0 15 rfl rfl)
theorem dX1_ahead_16 : decode cX1_ahead 16 = .ok (.i2l, 1) := dk_133 (dk_at dksX1_ahead_0 16 rfl rfl)
theorem dX1_ahead_17 : decode cX1_ahead 17 = .ok (.lconst 0, 1) := dk_9 (dk_at dksX1_ahead_0 17 rfl rfl)
theorem dX1_ahead_18 : decode cX1_ahead 18 = .ok (.ldc2_w 409, 3) := dk_20 1 153 (dk_at dksX1_ahead_0 18 rfl rfl)
theorem dX1_ahead_21 : decode cX1_ahead 21 = .ok (.invokestatic 74, 3) := dk_184 0 74 (dk_at dksX1_ahead_0 21 rfl rfl)
theorem dX1_ahead_24 : decode cX1_ahead 24 = .ok (.ifCond .ne 5, 3) := dk_154 0 5 (dk_at dksX1_ahead_1 0 rfl rfl)
theorem dX1_ahead_27 : decode cX1_ahead 27 = .ok (.iconst (-1), 1) := dk_2 (dk_at dksX1_ahead_1 3 rfl rfl)
theorem dX1_ahead_28 : decode cX1_ahead 28 = .ok (.ireturn, 1) := dk_172 (dk_at dksX1_ahead_1 4 rfl rfl)
theorem dX1_ahead_29 : decode cX1_ahead 29 = .ok (.aload_n 0, 1) := dk_42 (dk_at dksX1_ahead_1 5 rfl rfl)
theorem dX1_ahead_30 : decode cX1_ahead 30 = .ok (.getfield 58, 3) := dk_180 0 58 (dk_at dksX1_ahead_1 6 rfl rfl)
theorem dX1_ahead_33 : decode cX1_ahead 33 = .ok (.aload_n 0, 1) := dk_42 (dk_at dksX1_ahead_1 9 rfl rfl)
theorem dX1_ahead_34 : decode cX1_ahead 34 = .ok (.getfield 51, 3) := dk_180 0 51 (dk_at dksX1_ahead_1 10 rfl rfl)
theorem dX1_ahead_37 : decode cX1_ahead 37 = .ok (.invokevirtual 281, 3) := dk_182 1 25 (dk_at dksX1_ahead_1 13 rfl rfl)
theorem dX1_ahead_40 : decode cX1_ahead 40 = .ok (.pop, 1) := dk_87 (dk_at dksX1_ahead_1 16 rfl rfl)
theorem dX1_ahead_41 : decode cX1_ahead 41 = .ok (.aload_n 0, 1) := dk_42 (dk_at dksX1_ahead_1 17 rfl rfl)
theorem dX1_ahead_42 : decode cX1_ahead 42 = .ok (.getfield 58, 3) := dk_180 0 58 (dk_at dksX1_ahead_1 18 rfl rfl)
theorem dX1_ahead_45 : decode cX1_ahead 45 = .ok (.getfield 150, 3) := dk_180 0 150 (dk_at dksX1_ahead_1 21 rfl rfl)
theorem dX1_ahead_48 : decode cX1_ahead 48 = .ok (.iload_n 1, 1) := dk_27 (dk_at dksX1_ahead_2 0 rfl rfl)
theorem dX1_ahead_49 : decode cX1_ahead 49 = .ok (.aaload, 1) := dk_50 (dk_at dksX1_ahead_2 1 rfl rfl)
theorem dX1_ahead_50 : decode cX1_ahead 50 = .ok (.aload_n 0, 1) := dk_42 (dk_at dksX1_ahead_2 2 rfl rfl)
theorem dX1_ahead_51 : decode cX1_ahead 51 = .ok (.getfield 51, 3) := dk_180 0 51 (dk_at dksX1_ahead_2 3 rfl rfl)
theorem dX1_ahead_54 : decode cX1_ahead 54 = .ok (.getfield 150, 3) := dk_180 0 150 (dk_at dksX1_ahead_2 6 rfl rfl)
theorem dX1_ahead_57 : decode cX1_ahead 57 = .ok (.iload_n 1, 1) := dk_27 (dk_at dksX1_ahead_2 9 rfl rfl)
theorem dX1_ahead_58 : decode cX1_ahead 58 = .ok (.aaload, 1) := dk_50 (dk_at dksX1_ahead_2 10 rfl rfl)
theorem dX1_ahead_59 : decode cX1_ahead 59 = .ok (.invokevirtual 226, 3) := dk_182 0 226 (dk_at dksX1_ahead_2 11 rfl rfl)
theorem dX1_ahead_62 : decode cX1_ahead 62 = .ok (.putfield 237, 3) := dk_181 0 237 (dk_at dksX1_ahead_2 14 rfl rfl)
theorem dX1_ahead_65 : decode cX1_ahead 65 = .ok (.iconst 0, 1) := dk_3 (dk_at dksX1_ahead_2 17 rfl rfl)
theorem dX1_ahead_66 : decode cX1_ahead 66 = .ok (.istore 4, 2) := dk_54 4 (dk_at dksX1_ahead_2 18 rfl rfl)
theorem dX1_ahead_68 : decode cX1_ahead 68 = .ok (.iload 4, 2) := dk_21 4 (dk_at dksX1_ahead_2 20 rfl rfl)
theorem dX1_ahead_70 : decode cX1_ahead 70 = .ok (.iload_n 2, 1) := dk_28 (dk_at dksX1_ahead_2 22 rfl rfl)
theorem dX1_ahead_71 : decode cX1_ahead 71 = .ok (.if_icmp .ge 17, 3) := dk_162 0 17 (dk_at dksX1_ahead_3 0 rfl rfl)
theorem dX1_ahead_74 : decode cX1_ahead 74 = .ok (.aload_n 0, 1) := dk_42 (dk_at dksX1_ahead_3 3 rfl rfl)
theorem dX1_ahead_75 : decode cX1_ahead 75 = .ok (.aload_n 0, 1) := dk_42 (dk_at dksX1_ahead_3 4 rfl rfl)
theorem dX1_ahead_76 : decode cX1_ahead 76 = .ok (.getfield 58, 3) := dk_180 0 58 (dk_at dksX1_ahead_3 5 rfl rfl)
theorem dX1_ahead_79 : decode cX1_ahead 79 = .ok (.invokevirtual 290, 3) := dk_182 1 34 (dk_at dksX1_ahead_3 8 rfl rfl)
theorem dX1_ahead_82 : decode cX1_ahead 82 = .ok (.iinc 4 1, 3) := dk_132 4 1 (dk_at dksX1_ahead_3 11 rfl rfl)
theorem dX1_ahead_85 : decode cX1_ahead 85 = .ok (.goto (-17), 3) := dk_167 255 239 (dk_at dksX1_ahead_3 14 rfl rfl)
theorem dX1_ahead_88 : decode cX1_ahead 88 = .ok (.aload_n 0, 1) := dk_42 (dk_at dksX1_ahead_3 17 rfl rfl)
theorem dX1_ahead_89 : decode cX1_ahead 89 = .ok (.getfield 58, 3) := dk_180 0 58 (dk_at dksX1_ahead_3 18 rfl rfl)
theorem dX1_ahead_92 : decode cX1_ahead 92 = .ok (.getfield 150, 3) := dk_180 0 150 (dk_at dksX1_ahead_3 21 rfl rfl)
theorem dX1_ahead_95 : decode cX1_ahead 95 = .ok (.iload_n 1, 1) := dk_27 (dk_at dksX1_ahead_4 0 rfl rfl)
theorem dX1_ahead_96 : decode cX1_ahead 96 = .ok (.aaload, 1) := dk_50 (dk_at dksX1_ahead_4 1 rfl rfl)
theorem dX1_ahead_97 : decode cX1_ahead 97 = .ok (.astore 4, 2) := dk_58 4 (dk_at dksX1_ahead_4 2 rfl rfl)
theorem dX1_ahead_99 : decode cX1_ahead 99 = .ok (.iload_n 3, 1) := dk_29 (dk_at dksX1_ahead_4 4 rfl rfl)
theorem dX1_ahead_100 : decode cX1_ahead 100 = .ok (.ifCond .ne 11, 3) := dk_154 0 11 (dk_at dksX1_ahead_4 5 rfl rfl)
theorem dX1_ahead_103 : decode cX1_ahead 103 = .ok (.aload 4, 2) := dk_25 4 (dk_at dksX1_ahead_4 8 rfl rfl)
theorem dX1_ahead_105 : decode cX1_ahead 105 = .ok (.invokevirtual 226, 3) := dk_182 0 226 (dk_at dksX1_ahead_4 10 rfl rfl)
theorem dX1_ahead_108 : decode cX1_ahead 108 = .ok (.goto 34, 3) := dk_167 0 34 (dk_at dksX1_ahead_4 13 rfl rfl)
theorem dX1_ahead_111 : decode cX1_ahead 111 = .ok (.iload_n 3, 1) := dk_29 (dk_at dksX1_ahead_4 16 rfl rfl)
theorem dX1_ahead_112 : decode cX1_ahead 112 = .ok (.iconst 1, 1) := dk_4 (dk_at dksX1_ahead_4 17 rfl rfl)
theorem dX1_ahead_113 : decode cX1_ahead 113 = .ok (.if_icmp .ne 11, 3) := dk_160 0 11 (dk_at dksX1_ahead_4 18 rfl rfl)
theorem dX1_ahead_116 : decode cX1_ahead 116 = .ok (.aload 4, 2) := dk_25 4 (dk_at dksX1_ahead_4 21 rfl rfl)
theorem dX1_ahead_118 : decode cX1_ahead 118 = .ok (.getfield 237, 3) := dk_180 0 237 (dk_at dksX1_ahead_5 0 rfl rfl)
theorem dX1_ahead_121 : decode cX1_ahead 121 = .ok (.goto 21, 3) := dk_167 0 21 (dk_at dksX1_ahead_5 3 rfl rfl)
theorem dX1_ahead_124 : decode cX1_ahead 124 = .ok (.aload 4, 2) := dk_25 4 (dk_at dksX1_ahead_5 6 rfl rfl)
theorem dX1_ahead_126 : decode cX1_ahead 126 = .ok (.getfield 233, 3) := dk_180 0 233 (dk_at dksX1_ahead_5 8 rfl rfl)
theorem dX1_ahead_129 : decode cX1_ahead 129 = .ok (.aload_n 0, 1) := dk_42 (dk_at dksX1_ahead_5 11 rfl rfl)
theorem dX1_ahead_130 : decode cX1_ahead 130 = .ok (.getfield 51, 3) := dk_180 0 51 (dk_at dksX1_ahead_5 12 rfl rfl)
theorem dX1_ahead_133 : decode cX1_ahead 133 = .ok (.getfield 150, 3) := dk_180 0 150 (dk_at dksX1_ahead_5 15 rfl rfl)
theorem dX1_ahead_136 : decode cX1_ahead 136 = .ok (.iload_n 1, 1) := dk_27 (dk_at dksX1_ahead_5 18 rfl rfl)
theorem dX1_ahead_137 : decode cX1_ahead 137 = .ok (.aaload, 1) := dk_50 (dk_at dksX1_ahead_5 19 rfl rfl)
theorem dX1_ahead_138 : decode cX1_ahead 138 = .ok (.getfield 233, 3) := dk_180 0 233 (dk_at dksX1_ahead_5 20 rfl rfl)
theorem dX1_ahead_141 : decode cX1_ahead 141 = .ok (.isub, 1) := dk_100 (dk_at dksX1_ahead_5 23 rfl rfl)
theorem dX1_ahead_142 : decode cX1_ahead 142 = .ok (.ireturn, 1) := dk_172 (dk_at dksX1_ahead_6 0 rfl rfl)
abbrev cX1_isAhead : ByteArray := prog_1_method_45_code
def yX1_isAhead : MethodName := ⟨RX1, "isAhead", "(I)Z"⟩
def dkwX1_isAhead_0 : List UInt8 := [26, 133, 9, 20, 1, 148, 184, 0, 74, 172]
abbrev dktX1_isAhead_0 : List UInt8 := dkwX1_isAhead_0 ++ []
theorem dksX1_isAhead_0 : cX1_isAhead.data.toList.drop 0 = dktX1_isAhead_0 := by decide +kernel
theorem dX1_isAhead_0 : decode cX1_isAhead 0 = .ok (.iload_n 0, 1) := dk_26 (dk_at dksX1_isAhead_0 0 rfl rfl)
theorem dX1_isAhead_1 : decode cX1_isAhead 1 = .ok (.i2l, 1) := dk_133 (dk_at dksX1_isAhead_0 1 rfl rfl)
theorem dX1_isAhead_2 : decode cX1_isAhead 2 = .ok (.lconst 0, 1) := dk_9 (dk_at dksX1_isAhead_0 2 rfl rfl)
theorem dX1_isAhead_3 : decode cX1_isAhead 3 = .ok (.ldc2_w 404, 3) := dk_20 1 148 (dk_at dksX1_isAhead_0 3 rfl rfl)
theorem dX1_isAhead_6 : decode cX1_isAhead 6 = .ok (.invokestatic 74, 3) := dk_184 0 74 (dk_at dksX1_isAhead_0 6 rfl rfl)
theorem dX1_isAhead_9 : decode cX1_isAhead 9 = .ok (.ireturn, 1) := dk_172 (dk_at dksX1_isAhead_0 9 rfl rfl)
abbrev cX1_flows : ByteArray := prog_1_method_48_code
def yX1_flows : MethodName := ⟨RX1, "flows", "(III)I"⟩
def dkwX1_flows_4 : List UInt8 := [180, 0, 214, 100, 172]
abbrev dktX1_flows_4 : List UInt8 := dkwX1_flows_4 ++ []
def dkwX1_flows_3 : List UInt8 := [50, 180, 0, 220, 100, 167, 0, 21, 25, 4, 180, 0, 214, 42, 180, 0, 51, 180, 0, 114, 27, 50]
abbrev dktX1_flows_3 : List UInt8 := dkwX1_flows_3 ++ dktX1_flows_4
def dkwX1_flows_2 : List UInt8 := [180, 0, 129, 167, 0, 47, 29, 4, 160, 0, 24, 25, 4, 180, 0, 220, 42, 180, 0, 51, 180, 0, 114, 27]
abbrev dktX1_flows_2 : List UInt8 := dkwX1_flows_2 ++ dktX1_flows_3
def dkwX1_flows_1 : List UInt8 := [154, 0, 5, 2, 172, 42, 28, 182, 1, 155, 180, 0, 114, 27, 50, 58, 4, 29, 154, 0, 11, 25, 4]
abbrev dktX1_flows_1 : List UInt8 := dkwX1_flows_1 ++ dktX1_flows_2
def dkwX1_flows_0 : List UInt8 := [42, 27, 182, 1, 41, 153, 0, 22, 28, 184, 1, 150, 153, 0, 15, 29, 133, 9, 20, 1, 153, 184, 0, 74]
abbrev dktX1_flows_0 : List UInt8 := dkwX1_flows_0 ++ dktX1_flows_1
theorem dksX1_flows_0 : cX1_flows.data.toList.drop 0 = dktX1_flows_0 := by decide +kernel
theorem dksX1_flows_1 : cX1_flows.data.toList.drop 24 = dktX1_flows_1 := dk_seg dksX1_flows_0 24 rfl rfl
theorem dksX1_flows_2 : cX1_flows.data.toList.drop 47 = dktX1_flows_2 := dk_seg dksX1_flows_1 23 rfl rfl
theorem dksX1_flows_3 : cX1_flows.data.toList.drop 71 = dktX1_flows_3 := dk_seg dksX1_flows_2 24 rfl rfl
theorem dksX1_flows_4 : cX1_flows.data.toList.drop 93 = dktX1_flows_4 := dk_seg dksX1_flows_3 22 rfl rfl
theorem dX1_flows_0 : decode cX1_flows 0 = .ok (.aload_n 0, 1) := dk_42 (dk_at dksX1_flows_0 0 rfl rfl)
theorem dX1_flows_1 : decode cX1_flows 1 = .ok (.iload_n 1, 1) := dk_27 (dk_at dksX1_flows_0 1 rfl rfl)
theorem dX1_flows_2 : decode cX1_flows 2 = .ok (.invokevirtual 297, 3) := dk_182 1 41 (dk_at dksX1_flows_0 2 rfl rfl)
theorem dX1_flows_5 : decode cX1_flows 5 = .ok (.ifCond .eq 22, 3) := dk_153 0 22 (dk_at dksX1_flows_0 5 rfl rfl)
theorem dX1_flows_8 : decode cX1_flows 8 = .ok (.iload_n 2, 1) := dk_28 (dk_at dksX1_flows_0 8 rfl rfl)
theorem dX1_flows_9 : decode cX1_flows 9 = .ok (.invokestatic 406, 3) := dk_184 1 150 (dk_at dksX1_flows_0 9 rfl rfl)
theorem dX1_flows_12 : decode cX1_flows 12 = .ok (.ifCond .eq 15, 3) := dk_153 0 15 (dk_at dksX1_flows_0 12 rfl rfl)
theorem dX1_flows_15 : decode cX1_flows 15 = .ok (.iload_n 3, 1) := dk_29 (dk_at dksX1_flows_0 15 rfl rfl)
theorem dX1_flows_16 : decode cX1_flows 16 = .ok (.i2l, 1) := dk_133 (dk_at dksX1_flows_0 16 rfl rfl)
theorem dX1_flows_17 : decode cX1_flows 17 = .ok (.lconst 0, 1) := dk_9 (dk_at dksX1_flows_0 17 rfl rfl)
theorem dX1_flows_18 : decode cX1_flows 18 = .ok (.ldc2_w 409, 3) := dk_20 1 153 (dk_at dksX1_flows_0 18 rfl rfl)
theorem dX1_flows_21 : decode cX1_flows 21 = .ok (.invokestatic 74, 3) := dk_184 0 74 (dk_at dksX1_flows_0 21 rfl rfl)
theorem dX1_flows_24 : decode cX1_flows 24 = .ok (.ifCond .ne 5, 3) := dk_154 0 5 (dk_at dksX1_flows_1 0 rfl rfl)
theorem dX1_flows_27 : decode cX1_flows 27 = .ok (.iconst (-1), 1) := dk_2 (dk_at dksX1_flows_1 3 rfl rfl)
theorem dX1_flows_28 : decode cX1_flows 28 = .ok (.ireturn, 1) := dk_172 (dk_at dksX1_flows_1 4 rfl rfl)
theorem dX1_flows_29 : decode cX1_flows 29 = .ok (.aload_n 0, 1) := dk_42 (dk_at dksX1_flows_1 5 rfl rfl)
theorem dX1_flows_30 : decode cX1_flows 30 = .ok (.iload_n 2, 1) := dk_28 (dk_at dksX1_flows_1 6 rfl rfl)
theorem dX1_flows_31 : decode cX1_flows 31 = .ok (.invokevirtual 411, 3) := dk_182 1 155 (dk_at dksX1_flows_1 7 rfl rfl)
theorem dX1_flows_34 : decode cX1_flows 34 = .ok (.getfield 114, 3) := dk_180 0 114 (dk_at dksX1_flows_1 10 rfl rfl)
theorem dX1_flows_37 : decode cX1_flows 37 = .ok (.iload_n 1, 1) := dk_27 (dk_at dksX1_flows_1 13 rfl rfl)
theorem dX1_flows_38 : decode cX1_flows 38 = .ok (.aaload, 1) := dk_50 (dk_at dksX1_flows_1 14 rfl rfl)
theorem dX1_flows_39 : decode cX1_flows 39 = .ok (.astore 4, 2) := dk_58 4 (dk_at dksX1_flows_1 15 rfl rfl)
theorem dX1_flows_41 : decode cX1_flows 41 = .ok (.iload_n 3, 1) := dk_29 (dk_at dksX1_flows_1 17 rfl rfl)
theorem dX1_flows_42 : decode cX1_flows 42 = .ok (.ifCond .ne 11, 3) := dk_154 0 11 (dk_at dksX1_flows_1 18 rfl rfl)
theorem dX1_flows_45 : decode cX1_flows 45 = .ok (.aload 4, 2) := dk_25 4 (dk_at dksX1_flows_1 21 rfl rfl)
theorem dX1_flows_47 : decode cX1_flows 47 = .ok (.getfield 129, 3) := dk_180 0 129 (dk_at dksX1_flows_2 0 rfl rfl)
theorem dX1_flows_50 : decode cX1_flows 50 = .ok (.goto 47, 3) := dk_167 0 47 (dk_at dksX1_flows_2 3 rfl rfl)
theorem dX1_flows_53 : decode cX1_flows 53 = .ok (.iload_n 3, 1) := dk_29 (dk_at dksX1_flows_2 6 rfl rfl)
theorem dX1_flows_54 : decode cX1_flows 54 = .ok (.iconst 1, 1) := dk_4 (dk_at dksX1_flows_2 7 rfl rfl)
theorem dX1_flows_55 : decode cX1_flows 55 = .ok (.if_icmp .ne 24, 3) := dk_160 0 24 (dk_at dksX1_flows_2 8 rfl rfl)
theorem dX1_flows_58 : decode cX1_flows 58 = .ok (.aload 4, 2) := dk_25 4 (dk_at dksX1_flows_2 11 rfl rfl)
theorem dX1_flows_60 : decode cX1_flows 60 = .ok (.getfield 220, 3) := dk_180 0 220 (dk_at dksX1_flows_2 13 rfl rfl)
theorem dX1_flows_63 : decode cX1_flows 63 = .ok (.aload_n 0, 1) := dk_42 (dk_at dksX1_flows_2 16 rfl rfl)
theorem dX1_flows_64 : decode cX1_flows 64 = .ok (.getfield 51, 3) := dk_180 0 51 (dk_at dksX1_flows_2 17 rfl rfl)
theorem dX1_flows_67 : decode cX1_flows 67 = .ok (.getfield 114, 3) := dk_180 0 114 (dk_at dksX1_flows_2 20 rfl rfl)
theorem dX1_flows_70 : decode cX1_flows 70 = .ok (.iload_n 1, 1) := dk_27 (dk_at dksX1_flows_2 23 rfl rfl)
theorem dX1_flows_71 : decode cX1_flows 71 = .ok (.aaload, 1) := dk_50 (dk_at dksX1_flows_3 0 rfl rfl)
theorem dX1_flows_72 : decode cX1_flows 72 = .ok (.getfield 220, 3) := dk_180 0 220 (dk_at dksX1_flows_3 1 rfl rfl)
theorem dX1_flows_75 : decode cX1_flows 75 = .ok (.isub, 1) := dk_100 (dk_at dksX1_flows_3 4 rfl rfl)
theorem dX1_flows_76 : decode cX1_flows 76 = .ok (.goto 21, 3) := dk_167 0 21 (dk_at dksX1_flows_3 5 rfl rfl)
theorem dX1_flows_79 : decode cX1_flows 79 = .ok (.aload 4, 2) := dk_25 4 (dk_at dksX1_flows_3 8 rfl rfl)
theorem dX1_flows_81 : decode cX1_flows 81 = .ok (.getfield 214, 3) := dk_180 0 214 (dk_at dksX1_flows_3 10 rfl rfl)
theorem dX1_flows_84 : decode cX1_flows 84 = .ok (.aload_n 0, 1) := dk_42 (dk_at dksX1_flows_3 13 rfl rfl)
theorem dX1_flows_85 : decode cX1_flows 85 = .ok (.getfield 51, 3) := dk_180 0 51 (dk_at dksX1_flows_3 14 rfl rfl)
theorem dX1_flows_88 : decode cX1_flows 88 = .ok (.getfield 114, 3) := dk_180 0 114 (dk_at dksX1_flows_3 17 rfl rfl)
theorem dX1_flows_91 : decode cX1_flows 91 = .ok (.iload_n 1, 1) := dk_27 (dk_at dksX1_flows_3 20 rfl rfl)
theorem dX1_flows_92 : decode cX1_flows 92 = .ok (.aaload, 1) := dk_50 (dk_at dksX1_flows_3 21 rfl rfl)
theorem dX1_flows_93 : decode cX1_flows 93 = .ok (.getfield 214, 3) := dk_180 0 214 (dk_at dksX1_flows_4 0 rfl rfl)
theorem dX1_flows_96 : decode cX1_flows 96 = .ok (.isub, 1) := dk_100 (dk_at dksX1_flows_4 3 rfl rfl)
theorem dX1_flows_97 : decode cX1_flows 97 = .ok (.ireturn, 1) := dk_172 (dk_at dksX1_flows_4 4 rfl rfl)
abbrev cX1_tried : ByteArray := prog_1_method_46_code
def yX1_tried : MethodName := ⟨RX1, "tried", "(I)LLosslessFabric$State;"⟩
def dkwX1_tried_1 : List UInt8 := [182, 1, 34, 132, 2, 1, 167, 255, 240, 42, 180, 0, 58, 176]
abbrev dktX1_tried_1 : List UInt8 := dkwX1_tried_1 ++ []
def dkwX1_tried_0 : List UInt8 := [42, 180, 0, 58, 42, 180, 0, 51, 182, 1, 25, 87, 3, 61, 28, 27, 162, 0, 17, 42, 42, 180, 0, 58]
abbrev dktX1_tried_0 : List UInt8 := dkwX1_tried_0 ++ dktX1_tried_1
theorem dksX1_tried_0 : cX1_tried.data.toList.drop 0 = dktX1_tried_0 := by decide +kernel
theorem dksX1_tried_1 : cX1_tried.data.toList.drop 24 = dktX1_tried_1 := dk_seg dksX1_tried_0 24 rfl rfl
theorem dX1_tried_0 : decode cX1_tried 0 = .ok (.aload_n 0, 1) := dk_42 (dk_at dksX1_tried_0 0 rfl rfl)
theorem dX1_tried_1 : decode cX1_tried 1 = .ok (.getfield 58, 3) := dk_180 0 58 (dk_at dksX1_tried_0 1 rfl rfl)
theorem dX1_tried_4 : decode cX1_tried 4 = .ok (.aload_n 0, 1) := dk_42 (dk_at dksX1_tried_0 4 rfl rfl)
theorem dX1_tried_5 : decode cX1_tried 5 = .ok (.getfield 51, 3) := dk_180 0 51 (dk_at dksX1_tried_0 5 rfl rfl)
theorem dX1_tried_8 : decode cX1_tried 8 = .ok (.invokevirtual 281, 3) := dk_182 1 25 (dk_at dksX1_tried_0 8 rfl rfl)
theorem dX1_tried_11 : decode cX1_tried 11 = .ok (.pop, 1) := dk_87 (dk_at dksX1_tried_0 11 rfl rfl)
theorem dX1_tried_12 : decode cX1_tried 12 = .ok (.iconst 0, 1) := dk_3 (dk_at dksX1_tried_0 12 rfl rfl)
theorem dX1_tried_13 : decode cX1_tried 13 = .ok (.istore_n 2, 1) := dk_61 (dk_at dksX1_tried_0 13 rfl rfl)
theorem dX1_tried_14 : decode cX1_tried 14 = .ok (.iload_n 2, 1) := dk_28 (dk_at dksX1_tried_0 14 rfl rfl)
theorem dX1_tried_15 : decode cX1_tried 15 = .ok (.iload_n 1, 1) := dk_27 (dk_at dksX1_tried_0 15 rfl rfl)
theorem dX1_tried_16 : decode cX1_tried 16 = .ok (.if_icmp .ge 17, 3) := dk_162 0 17 (dk_at dksX1_tried_0 16 rfl rfl)
theorem dX1_tried_19 : decode cX1_tried 19 = .ok (.aload_n 0, 1) := dk_42 (dk_at dksX1_tried_0 19 rfl rfl)
theorem dX1_tried_20 : decode cX1_tried 20 = .ok (.aload_n 0, 1) := dk_42 (dk_at dksX1_tried_0 20 rfl rfl)
theorem dX1_tried_21 : decode cX1_tried 21 = .ok (.getfield 58, 3) := dk_180 0 58 (dk_at dksX1_tried_0 21 rfl rfl)
theorem dX1_tried_24 : decode cX1_tried 24 = .ok (.invokevirtual 290, 3) := dk_182 1 34 (dk_at dksX1_tried_1 0 rfl rfl)
theorem dX1_tried_27 : decode cX1_tried 27 = .ok (.iinc 2 1, 3) := dk_132 2 1 (dk_at dksX1_tried_1 3 rfl rfl)
theorem dX1_tried_30 : decode cX1_tried 30 = .ok (.goto (-16), 3) := dk_167 255 240 (dk_at dksX1_tried_1 6 rfl rfl)
theorem dX1_tried_33 : decode cX1_tried 33 = .ok (.aload_n 0, 1) := dk_42 (dk_at dksX1_tried_1 9 rfl rfl)
theorem dX1_tried_34 : decode cX1_tried 34 = .ok (.getfield 58, 3) := dk_180 0 58 (dk_at dksX1_tried_1 10 rfl rfl)
theorem dX1_tried_37 : decode cX1_tried 37 = .ok (.areturn, 1) := dk_176 (dk_at dksX1_tried_1 13 rfl rfl)
abbrev cX1_stalls : ByteArray := prog_1_method_50_code
def yX1_stalls : MethodName := ⟨RX1, "stalls", "()I"⟩
def dkwX1_stalls_0 : List UInt8 := [42, 3, 182, 1, 155, 87, 42, 42, 186, 1, 164, 0, 0, 182, 1, 167, 172]
abbrev dktX1_stalls_0 : List UInt8 := dkwX1_stalls_0 ++ []
theorem dksX1_stalls_0 : cX1_stalls.data.toList.drop 0 = dktX1_stalls_0 := by decide +kernel
theorem dX1_stalls_0 : decode cX1_stalls 0 = .ok (.aload_n 0, 1) := dk_42 (dk_at dksX1_stalls_0 0 rfl rfl)
theorem dX1_stalls_1 : decode cX1_stalls 1 = .ok (.iconst 0, 1) := dk_3 (dk_at dksX1_stalls_0 1 rfl rfl)
theorem dX1_stalls_2 : decode cX1_stalls 2 = .ok (.invokevirtual 411, 3) := dk_182 1 155 (dk_at dksX1_stalls_0 2 rfl rfl)
theorem dX1_stalls_5 : decode cX1_stalls 5 = .ok (.pop, 1) := dk_87 (dk_at dksX1_stalls_0 5 rfl rfl)
theorem dX1_stalls_6 : decode cX1_stalls 6 = .ok (.aload_n 0, 1) := dk_42 (dk_at dksX1_stalls_0 6 rfl rfl)
theorem dX1_stalls_7 : decode cX1_stalls 7 = .ok (.aload_n 0, 1) := dk_42 (dk_at dksX1_stalls_0 7 rfl rfl)
theorem dX1_stalls_8 : decode cX1_stalls 8 = .ok (.invokedynamic 420, 5) := by decide +kernel
theorem dX1_stalls_13 : decode cX1_stalls 13 = .ok (.invokevirtual 423, 3) := dk_182 1 167 (dk_at dksX1_stalls_0 13 rfl rfl)
theorem dX1_stalls_16 : decode cX1_stalls 16 = .ok (.ireturn, 1) := dk_172 (dk_at dksX1_stalls_0 16 rfl rfl)
abbrev cX1_lambda_stalls_4 : ByteArray := prog_1_method_58_code
def yX1_lambda_stalls_4 : MethodName := ⟨RX1, "lambda$stalls$4", "(LLosslessFabric$State;)Z"⟩
def dkwX1_lambda_stalls_4_0 : List UInt8 := [42, 43, 182, 1, 106, 182, 1, 124, 153, 0, 7, 4, 167, 0, 4, 3, 172]
abbrev dktX1_lambda_stalls_4_0 : List UInt8 := dkwX1_lambda_stalls_4_0 ++ []
theorem dksX1_lambda_stalls_4_0 : cX1_lambda_stalls_4.data.toList.drop 0 = dktX1_lambda_stalls_4_0 := by decide +kernel
theorem dX1_lambda_stalls_4_0 : decode cX1_lambda_stalls_4 0 = .ok (.aload_n 0, 1) := dk_42 (dk_at dksX1_lambda_stalls_4_0 0 rfl rfl)
theorem dX1_lambda_stalls_4_1 : decode cX1_lambda_stalls_4 1 = .ok (.aload_n 1, 1) := dk_43 (dk_at dksX1_lambda_stalls_4_0 1 rfl rfl)
theorem dX1_lambda_stalls_4_2 : decode cX1_lambda_stalls_4 2 = .ok (.invokevirtual 362, 3) := dk_182 1 106 (dk_at dksX1_lambda_stalls_4_0 2 rfl rfl)
theorem dX1_lambda_stalls_4_5 : decode cX1_lambda_stalls_4 5 = .ok (.invokevirtual 380, 3) := dk_182 1 124 (dk_at dksX1_lambda_stalls_4_0 5 rfl rfl)
theorem dX1_lambda_stalls_4_8 : decode cX1_lambda_stalls_4 8 = .ok (.ifCond .eq 7, 3) := dk_153 0 7 (dk_at dksX1_lambda_stalls_4_0 8 rfl rfl)
theorem dX1_lambda_stalls_4_11 : decode cX1_lambda_stalls_4 11 = .ok (.iconst 1, 1) := dk_4 (dk_at dksX1_lambda_stalls_4_0 11 rfl rfl)
theorem dX1_lambda_stalls_4_12 : decode cX1_lambda_stalls_4 12 = .ok (.goto 4, 3) := dk_167 0 4 (dk_at dksX1_lambda_stalls_4_0 12 rfl rfl)
theorem dX1_lambda_stalls_4_15 : decode cX1_lambda_stalls_4 15 = .ok (.iconst 0, 1) := dk_3 (dk_at dksX1_lambda_stalls_4_0 15 rfl rfl)
theorem dX1_lambda_stalls_4_16 : decode cX1_lambda_stalls_4 16 = .ok (.ireturn, 1) := dk_172 (dk_at dksX1_lambda_stalls_4_0 16 rfl rfl)
abbrev cX1_until : ByteArray := prog_1_method_49_code
def yX1_until : MethodName := ⟨RX1, "until", "(LLosslessFabric$Goal;)I"⟩
def dkwX1_until_1 : List UInt8 := [28, 17, 1, 44, 162, 0, 11, 42, 42, 180, 0, 58, 182, 1, 34, 132, 2, 1, 167, 255, 216, 16, 254, 172]
abbrev dktX1_until_1 : List UInt8 := dkwX1_until_1 ++ []
def dkwX1_until_0 : List UInt8 := [3, 61, 28, 17, 1, 44, 163, 0, 39, 43, 42, 180, 0, 58, 185, 1, 159, 2, 0, 153, 0, 5, 28, 172]
abbrev dktX1_until_0 : List UInt8 := dkwX1_until_0 ++ dktX1_until_1
theorem dksX1_until_0 : cX1_until.data.toList.drop 0 = dktX1_until_0 := by decide +kernel
theorem dksX1_until_1 : cX1_until.data.toList.drop 24 = dktX1_until_1 := dk_seg dksX1_until_0 24 rfl rfl
theorem dX1_until_0 : decode cX1_until 0 = .ok (.iconst 0, 1) := dk_3 (dk_at dksX1_until_0 0 rfl rfl)
theorem dX1_until_1 : decode cX1_until 1 = .ok (.istore_n 2, 1) := dk_61 (dk_at dksX1_until_0 1 rfl rfl)
theorem dX1_until_2 : decode cX1_until 2 = .ok (.iload_n 2, 1) := dk_28 (dk_at dksX1_until_0 2 rfl rfl)
theorem dX1_until_3 : decode cX1_until 3 = .ok (.sipush 300, 3) := dk_17 1 44 (dk_at dksX1_until_0 3 rfl rfl)
theorem dX1_until_6 : decode cX1_until 6 = .ok (.if_icmp .gt 39, 3) := dk_163 0 39 (dk_at dksX1_until_0 6 rfl rfl)
theorem dX1_until_9 : decode cX1_until 9 = .ok (.aload_n 1, 1) := dk_43 (dk_at dksX1_until_0 9 rfl rfl)
theorem dX1_until_10 : decode cX1_until 10 = .ok (.aload_n 0, 1) := dk_42 (dk_at dksX1_until_0 10 rfl rfl)
theorem dX1_until_11 : decode cX1_until 11 = .ok (.getfield 58, 3) := dk_180 0 58 (dk_at dksX1_until_0 11 rfl rfl)
theorem dX1_until_14 : decode cX1_until 14 = .ok (.invokeinterface 415 2, 5) := by decide +kernel
theorem dX1_until_19 : decode cX1_until 19 = .ok (.ifCond .eq 5, 3) := dk_153 0 5 (dk_at dksX1_until_0 19 rfl rfl)
theorem dX1_until_22 : decode cX1_until 22 = .ok (.iload_n 2, 1) := dk_28 (dk_at dksX1_until_0 22 rfl rfl)
theorem dX1_until_23 : decode cX1_until 23 = .ok (.ireturn, 1) := dk_172 (dk_at dksX1_until_0 23 rfl rfl)
theorem dX1_until_24 : decode cX1_until 24 = .ok (.iload_n 2, 1) := dk_28 (dk_at dksX1_until_1 0 rfl rfl)
theorem dX1_until_25 : decode cX1_until 25 = .ok (.sipush 300, 3) := dk_17 1 44 (dk_at dksX1_until_1 1 rfl rfl)
theorem dX1_until_28 : decode cX1_until 28 = .ok (.if_icmp .ge 11, 3) := dk_162 0 11 (dk_at dksX1_until_1 4 rfl rfl)
theorem dX1_until_31 : decode cX1_until 31 = .ok (.aload_n 0, 1) := dk_42 (dk_at dksX1_until_1 7 rfl rfl)
theorem dX1_until_32 : decode cX1_until 32 = .ok (.aload_n 0, 1) := dk_42 (dk_at dksX1_until_1 8 rfl rfl)
theorem dX1_until_33 : decode cX1_until 33 = .ok (.getfield 58, 3) := dk_180 0 58 (dk_at dksX1_until_1 9 rfl rfl)
theorem dX1_until_36 : decode cX1_until 36 = .ok (.invokevirtual 290, 3) := dk_182 1 34 (dk_at dksX1_until_1 12 rfl rfl)
theorem dX1_until_39 : decode cX1_until 39 = .ok (.iinc 2 1, 3) := dk_132 2 1 (dk_at dksX1_until_1 15 rfl rfl)
theorem dX1_until_42 : decode cX1_until 42 = .ok (.goto (-40), 3) := dk_167 255 216 (dk_at dksX1_until_1 18 rfl rfl)
theorem dX1_until_45 : decode cX1_until 45 = .ok (.bipush (-2), 2) := dk_16 254 (dk_at dksX1_until_1 21 rfl rfl)
theorem dX1_until_47 : decode cX1_until 47 = .ok (.ireturn, 1) := dk_172 (dk_at dksX1_until_1 23 rfl rfl)
abbrev cX1_quiet : ByteArray := prog_1_method_51_code
def yX1_quiet : MethodName := ⟨RX1, "quiet", "()I"⟩
def dkwX1_quiet_2 : List UInt8 := [172]
abbrev dktX1_quiet_2 : List UInt8 := dkwX1_quiet_2 ++ []
def dkwX1_quiet_1 : List UInt8 := [180, 0, 114, 27, 50, 3, 181, 0, 122, 132, 1, 1, 167, 255, 229, 42, 186, 1, 171, 0, 0, 182, 1, 167]
abbrev dktX1_quiet_1 : List UInt8 := dkwX1_quiet_1 ++ dktX1_quiet_2
def dkwX1_quiet_0 : List UInt8 := [42, 3, 182, 1, 155, 87, 3, 60, 27, 42, 180, 0, 20, 180, 0, 111, 162, 0, 22, 42, 180, 0, 58]
abbrev dktX1_quiet_0 : List UInt8 := dkwX1_quiet_0 ++ dktX1_quiet_1
theorem dksX1_quiet_0 : cX1_quiet.data.toList.drop 0 = dktX1_quiet_0 := by decide +kernel
theorem dksX1_quiet_1 : cX1_quiet.data.toList.drop 23 = dktX1_quiet_1 := dk_seg dksX1_quiet_0 23 rfl rfl
theorem dksX1_quiet_2 : cX1_quiet.data.toList.drop 47 = dktX1_quiet_2 := dk_seg dksX1_quiet_1 24 rfl rfl
theorem dX1_quiet_0 : decode cX1_quiet 0 = .ok (.aload_n 0, 1) := dk_42 (dk_at dksX1_quiet_0 0 rfl rfl)
theorem dX1_quiet_1 : decode cX1_quiet 1 = .ok (.iconst 0, 1) := dk_3 (dk_at dksX1_quiet_0 1 rfl rfl)
theorem dX1_quiet_2 : decode cX1_quiet 2 = .ok (.invokevirtual 411, 3) := dk_182 1 155 (dk_at dksX1_quiet_0 2 rfl rfl)
theorem dX1_quiet_5 : decode cX1_quiet 5 = .ok (.pop, 1) := dk_87 (dk_at dksX1_quiet_0 5 rfl rfl)
theorem dX1_quiet_6 : decode cX1_quiet 6 = .ok (.iconst 0, 1) := dk_3 (dk_at dksX1_quiet_0 6 rfl rfl)
theorem dX1_quiet_7 : decode cX1_quiet 7 = .ok (.istore_n 1, 1) := dk_60 (dk_at dksX1_quiet_0 7 rfl rfl)
theorem dX1_quiet_8 : decode cX1_quiet 8 = .ok (.iload_n 1, 1) := dk_27 (dk_at dksX1_quiet_0 8 rfl rfl)
theorem dX1_quiet_9 : decode cX1_quiet 9 = .ok (.aload_n 0, 1) := dk_42 (dk_at dksX1_quiet_0 9 rfl rfl)
theorem dX1_quiet_10 : decode cX1_quiet 10 = .ok (.getfield 20, 3) := dk_180 0 20 (dk_at dksX1_quiet_0 10 rfl rfl)
theorem dX1_quiet_13 : decode cX1_quiet 13 = .ok (.getfield 111, 3) := dk_180 0 111 (dk_at dksX1_quiet_0 13 rfl rfl)
theorem dX1_quiet_16 : decode cX1_quiet 16 = .ok (.if_icmp .ge 22, 3) := dk_162 0 22 (dk_at dksX1_quiet_0 16 rfl rfl)
theorem dX1_quiet_19 : decode cX1_quiet 19 = .ok (.aload_n 0, 1) := dk_42 (dk_at dksX1_quiet_0 19 rfl rfl)
theorem dX1_quiet_20 : decode cX1_quiet 20 = .ok (.getfield 58, 3) := dk_180 0 58 (dk_at dksX1_quiet_0 20 rfl rfl)
theorem dX1_quiet_23 : decode cX1_quiet 23 = .ok (.getfield 114, 3) := dk_180 0 114 (dk_at dksX1_quiet_1 0 rfl rfl)
theorem dX1_quiet_26 : decode cX1_quiet 26 = .ok (.iload_n 1, 1) := dk_27 (dk_at dksX1_quiet_1 3 rfl rfl)
theorem dX1_quiet_27 : decode cX1_quiet 27 = .ok (.aaload, 1) := dk_50 (dk_at dksX1_quiet_1 4 rfl rfl)
theorem dX1_quiet_28 : decode cX1_quiet 28 = .ok (.iconst 0, 1) := dk_3 (dk_at dksX1_quiet_1 5 rfl rfl)
theorem dX1_quiet_29 : decode cX1_quiet 29 = .ok (.putfield 122, 3) := dk_181 0 122 (dk_at dksX1_quiet_1 6 rfl rfl)
theorem dX1_quiet_32 : decode cX1_quiet 32 = .ok (.iinc 1 1, 3) := dk_132 1 1 (dk_at dksX1_quiet_1 9 rfl rfl)
theorem dX1_quiet_35 : decode cX1_quiet 35 = .ok (.goto (-27), 3) := dk_167 255 229 (dk_at dksX1_quiet_1 12 rfl rfl)
theorem dX1_quiet_38 : decode cX1_quiet 38 = .ok (.aload_n 0, 1) := dk_42 (dk_at dksX1_quiet_1 15 rfl rfl)
theorem dX1_quiet_39 : decode cX1_quiet 39 = .ok (.invokedynamic 427, 5) := by decide +kernel
theorem dX1_quiet_44 : decode cX1_quiet 44 = .ok (.invokevirtual 423, 3) := dk_182 1 167 (dk_at dksX1_quiet_1 21 rfl rfl)
theorem dX1_quiet_47 : decode cX1_quiet 47 = .ok (.ireturn, 1) := dk_172 (dk_at dksX1_quiet_2 0 rfl rfl)
abbrev cX1_lambda_quiet_5 : ByteArray := prog_1_method_57_code
def yX1_lambda_quiet_5 : MethodName := ⟨RX1, "lambda$quiet$5", "(LLosslessFabric$State;)Z"⟩
theorem dX1_lambda_quiet_5_0 : decode cX1_lambda_quiet_5 0 = .ok (.aload_n 0, 1) := by decide +kernel
theorem dX1_lambda_quiet_5_1 : decode cX1_lambda_quiet_5 1 = .ok (.invokevirtual 463, 3) := by decide +kernel
theorem dX1_lambda_quiet_5_4 : decode cX1_lambda_quiet_5 4 = .ok (.ireturn, 1) := by decide +kernel
abbrev cX1_worst : ByteArray := prog_1_method_52_code
def yX1_worst : MethodName := ⟨RX1, "worst", "(I)I"⟩
def dkwX1_worst_6 : List UInt8 := [21, 5, 29, 163, 0, 6, 167, 0, 9, 21, 4, 61, 21, 5, 62, 132, 4, 1, 167, 255, 118, 28, 172]
abbrev dktX1_worst_6 : List UInt8 := dkwX1_worst_6 ++ []
def dkwX1_worst_5 : List UInt8 := [182, 1, 176, 100, 42, 180, 0, 51, 180, 0, 114, 21, 4, 50, 180, 0, 220, 96, 54, 5, 28, 155, 0, 12]
abbrev dktX1_worst_5 : List UInt8 := dkwX1_worst_5 ++ dktX1_worst_6
def dkwX1_worst_4 : List UInt8 := [4, 182, 1, 176, 42, 180, 0, 58, 180, 0, 114, 21, 4, 50, 180, 0, 220, 100, 42, 180, 0, 51, 4]
abbrev dktX1_worst_4 : List UInt8 := dkwX1_worst_4 ++ dktX1_worst_5
def dkwX1_worst_3 : List UInt8 := [21, 5, 27, 162, 0, 17, 42, 42, 180, 0, 58, 182, 1, 34, 132, 5, 1, 167, 255, 239, 42, 180, 0, 58]
abbrev dktX1_worst_3 : List UInt8 := dkwX1_worst_3 ++ dktX1_worst_4
def dkwX1_worst_2 : List UInt8 := [154, 0, 6, 167, 0, 107, 42, 3, 182, 1, 155, 180, 0, 114, 21, 4, 50, 3, 181, 0, 122, 3, 54, 5]
abbrev dktX1_worst_2 : List UInt8 := dkwX1_worst_2 ++ dktX1_worst_3
def dkwX1_worst_1 : List UInt8 := [42, 180, 0, 20, 180, 0, 111, 162, 0, 132, 42, 180, 0, 51, 180, 0, 114, 21, 4, 50, 180, 0, 122]
abbrev dktX1_worst_1 : List UInt8 := dkwX1_worst_1 ++ dktX1_worst_2
def dkwX1_worst_0 : List UInt8 := [27, 133, 10, 20, 1, 174, 184, 0, 74, 154, 0, 5, 2, 172, 16, 254, 61, 3, 62, 3, 54, 4, 21, 4]
abbrev dktX1_worst_0 : List UInt8 := dkwX1_worst_0 ++ dktX1_worst_1
theorem dksX1_worst_0 : cX1_worst.data.toList.drop 0 = dktX1_worst_0 := by decide +kernel
theorem dksX1_worst_1 : cX1_worst.data.toList.drop 24 = dktX1_worst_1 := dk_seg dksX1_worst_0 24 rfl rfl
theorem dksX1_worst_2 : cX1_worst.data.toList.drop 47 = dktX1_worst_2 := dk_seg dksX1_worst_1 23 rfl rfl
theorem dksX1_worst_3 : cX1_worst.data.toList.drop 71 = dktX1_worst_3 := dk_seg dksX1_worst_2 24 rfl rfl
theorem dksX1_worst_4 : cX1_worst.data.toList.drop 95 = dktX1_worst_4 := dk_seg dksX1_worst_3 24 rfl rfl
theorem dksX1_worst_5 : cX1_worst.data.toList.drop 118 = dktX1_worst_5 := dk_seg dksX1_worst_4 23 rfl rfl
theorem dksX1_worst_6 : cX1_worst.data.toList.drop 142 = dktX1_worst_6 := dk_seg dksX1_worst_5 24 rfl rfl
theorem dX1_worst_0 : decode cX1_worst 0 = .ok (.iload_n 1, 1) := dk_27 (dk_at dksX1_worst_0 0 rfl rfl)
theorem dX1_worst_1 : decode cX1_worst 1 = .ok (.i2l, 1) := dk_133 (dk_at dksX1_worst_0 1 rfl rfl)
theorem dX1_worst_2 : decode cX1_worst 2 = .ok (.lconst 1, 1) := dk_10 (dk_at dksX1_worst_0 2 rfl rfl)
theorem dX1_worst_3 : decode cX1_worst 3 = .ok (.ldc2_w 430, 3) := dk_20 1 174 (dk_at dksX1_worst_0 3 rfl rfl)
theorem dX1_worst_6 : decode cX1_worst 6 = .ok (.invokestatic 74, 3) := dk_184 0 74 (dk_at dksX1_worst_0 6 rfl rfl)
theorem dX1_worst_9 : decode cX1_worst 9 = .ok (.ifCond .ne 5, 3) := dk_154 0 5 (dk_at dksX1_worst_0 9 rfl rfl)
theorem dX1_worst_12 : decode cX1_worst 12 = .ok (.iconst (-1), 1) := dk_2 (dk_at dksX1_worst_0 12 rfl rfl)
theorem dX1_worst_13 : decode cX1_worst 13 = .ok (.ireturn, 1) := dk_172 (dk_at dksX1_worst_0 13 rfl rfl)
theorem dX1_worst_14 : decode cX1_worst 14 = .ok (.bipush (-2), 2) := dk_16 254 (dk_at dksX1_worst_0 14 rfl rfl)
theorem dX1_worst_16 : decode cX1_worst 16 = .ok (.istore_n 2, 1) := dk_61 (dk_at dksX1_worst_0 16 rfl rfl)
theorem dX1_worst_17 : decode cX1_worst 17 = .ok (.iconst 0, 1) := dk_3 (dk_at dksX1_worst_0 17 rfl rfl)
theorem dX1_worst_18 : decode cX1_worst 18 = .ok (.istore_n 3, 1) := dk_62 (dk_at dksX1_worst_0 18 rfl rfl)
theorem dX1_worst_19 : decode cX1_worst 19 = .ok (.iconst 0, 1) := dk_3 (dk_at dksX1_worst_0 19 rfl rfl)
theorem dX1_worst_20 : decode cX1_worst 20 = .ok (.istore 4, 2) := dk_54 4 (dk_at dksX1_worst_0 20 rfl rfl)
theorem dX1_worst_22 : decode cX1_worst 22 = .ok (.iload 4, 2) := dk_21 4 (dk_at dksX1_worst_0 22 rfl rfl)
theorem dX1_worst_24 : decode cX1_worst 24 = .ok (.aload_n 0, 1) := dk_42 (dk_at dksX1_worst_1 0 rfl rfl)
theorem dX1_worst_25 : decode cX1_worst 25 = .ok (.getfield 20, 3) := dk_180 0 20 (dk_at dksX1_worst_1 1 rfl rfl)
theorem dX1_worst_28 : decode cX1_worst 28 = .ok (.getfield 111, 3) := dk_180 0 111 (dk_at dksX1_worst_1 4 rfl rfl)
theorem dX1_worst_31 : decode cX1_worst 31 = .ok (.if_icmp .ge 132, 3) := dk_162 0 132 (dk_at dksX1_worst_1 7 rfl rfl)
theorem dX1_worst_34 : decode cX1_worst 34 = .ok (.aload_n 0, 1) := dk_42 (dk_at dksX1_worst_1 10 rfl rfl)
theorem dX1_worst_35 : decode cX1_worst 35 = .ok (.getfield 51, 3) := dk_180 0 51 (dk_at dksX1_worst_1 11 rfl rfl)
theorem dX1_worst_38 : decode cX1_worst 38 = .ok (.getfield 114, 3) := dk_180 0 114 (dk_at dksX1_worst_1 14 rfl rfl)
theorem dX1_worst_41 : decode cX1_worst 41 = .ok (.iload 4, 2) := dk_21 4 (dk_at dksX1_worst_1 17 rfl rfl)
theorem dX1_worst_43 : decode cX1_worst 43 = .ok (.aaload, 1) := dk_50 (dk_at dksX1_worst_1 19 rfl rfl)
theorem dX1_worst_44 : decode cX1_worst 44 = .ok (.getfield 122, 3) := dk_180 0 122 (dk_at dksX1_worst_1 20 rfl rfl)
theorem dX1_worst_47 : decode cX1_worst 47 = .ok (.ifCond .ne 6, 3) := dk_154 0 6 (dk_at dksX1_worst_2 0 rfl rfl)
theorem dX1_worst_50 : decode cX1_worst 50 = .ok (.goto 107, 3) := dk_167 0 107 (dk_at dksX1_worst_2 3 rfl rfl)
theorem dX1_worst_53 : decode cX1_worst 53 = .ok (.aload_n 0, 1) := dk_42 (dk_at dksX1_worst_2 6 rfl rfl)
theorem dX1_worst_54 : decode cX1_worst 54 = .ok (.iconst 0, 1) := dk_3 (dk_at dksX1_worst_2 7 rfl rfl)
theorem dX1_worst_55 : decode cX1_worst 55 = .ok (.invokevirtual 411, 3) := dk_182 1 155 (dk_at dksX1_worst_2 8 rfl rfl)
theorem dX1_worst_58 : decode cX1_worst 58 = .ok (.getfield 114, 3) := dk_180 0 114 (dk_at dksX1_worst_2 11 rfl rfl)
theorem dX1_worst_61 : decode cX1_worst 61 = .ok (.iload 4, 2) := dk_21 4 (dk_at dksX1_worst_2 14 rfl rfl)
theorem dX1_worst_63 : decode cX1_worst 63 = .ok (.aaload, 1) := dk_50 (dk_at dksX1_worst_2 16 rfl rfl)
theorem dX1_worst_64 : decode cX1_worst 64 = .ok (.iconst 0, 1) := dk_3 (dk_at dksX1_worst_2 17 rfl rfl)
theorem dX1_worst_65 : decode cX1_worst 65 = .ok (.putfield 122, 3) := dk_181 0 122 (dk_at dksX1_worst_2 18 rfl rfl)
theorem dX1_worst_68 : decode cX1_worst 68 = .ok (.iconst 0, 1) := dk_3 (dk_at dksX1_worst_2 21 rfl rfl)
theorem dX1_worst_69 : decode cX1_worst 69 = .ok (.istore 5, 2) := dk_54 5 (dk_at dksX1_worst_2 22 rfl rfl)
theorem dX1_worst_71 : decode cX1_worst 71 = .ok (.iload 5, 2) := dk_21 5 (dk_at dksX1_worst_3 0 rfl rfl)
theorem dX1_worst_73 : decode cX1_worst 73 = .ok (.iload_n 1, 1) := dk_27 (dk_at dksX1_worst_3 2 rfl rfl)
theorem dX1_worst_74 : decode cX1_worst 74 = .ok (.if_icmp .ge 17, 3) := dk_162 0 17 (dk_at dksX1_worst_3 3 rfl rfl)
theorem dX1_worst_77 : decode cX1_worst 77 = .ok (.aload_n 0, 1) := dk_42 (dk_at dksX1_worst_3 6 rfl rfl)
theorem dX1_worst_78 : decode cX1_worst 78 = .ok (.aload_n 0, 1) := dk_42 (dk_at dksX1_worst_3 7 rfl rfl)
theorem dX1_worst_79 : decode cX1_worst 79 = .ok (.getfield 58, 3) := dk_180 0 58 (dk_at dksX1_worst_3 8 rfl rfl)
theorem dX1_worst_82 : decode cX1_worst 82 = .ok (.invokevirtual 290, 3) := dk_182 1 34 (dk_at dksX1_worst_3 11 rfl rfl)
theorem dX1_worst_85 : decode cX1_worst 85 = .ok (.iinc 5 1, 3) := dk_132 5 1 (dk_at dksX1_worst_3 14 rfl rfl)
theorem dX1_worst_88 : decode cX1_worst 88 = .ok (.goto (-17), 3) := dk_167 255 239 (dk_at dksX1_worst_3 17 rfl rfl)
theorem dX1_worst_91 : decode cX1_worst 91 = .ok (.aload_n 0, 1) := dk_42 (dk_at dksX1_worst_3 20 rfl rfl)
theorem dX1_worst_92 : decode cX1_worst 92 = .ok (.getfield 58, 3) := dk_180 0 58 (dk_at dksX1_worst_3 21 rfl rfl)
theorem dX1_worst_95 : decode cX1_worst 95 = .ok (.iconst 1, 1) := dk_4 (dk_at dksX1_worst_4 0 rfl rfl)
theorem dX1_worst_96 : decode cX1_worst 96 = .ok (.invokevirtual 432, 3) := dk_182 1 176 (dk_at dksX1_worst_4 1 rfl rfl)
theorem dX1_worst_99 : decode cX1_worst 99 = .ok (.aload_n 0, 1) := dk_42 (dk_at dksX1_worst_4 4 rfl rfl)
theorem dX1_worst_100 : decode cX1_worst 100 = .ok (.getfield 58, 3) := dk_180 0 58 (dk_at dksX1_worst_4 5 rfl rfl)
theorem dX1_worst_103 : decode cX1_worst 103 = .ok (.getfield 114, 3) := dk_180 0 114 (dk_at dksX1_worst_4 8 rfl rfl)
theorem dX1_worst_106 : decode cX1_worst 106 = .ok (.iload 4, 2) := dk_21 4 (dk_at dksX1_worst_4 11 rfl rfl)
theorem dX1_worst_108 : decode cX1_worst 108 = .ok (.aaload, 1) := dk_50 (dk_at dksX1_worst_4 13 rfl rfl)
theorem dX1_worst_109 : decode cX1_worst 109 = .ok (.getfield 220, 3) := dk_180 0 220 (dk_at dksX1_worst_4 14 rfl rfl)
theorem dX1_worst_112 : decode cX1_worst 112 = .ok (.isub, 1) := dk_100 (dk_at dksX1_worst_4 17 rfl rfl)
theorem dX1_worst_113 : decode cX1_worst 113 = .ok (.aload_n 0, 1) := dk_42 (dk_at dksX1_worst_4 18 rfl rfl)
theorem dX1_worst_114 : decode cX1_worst 114 = .ok (.getfield 51, 3) := dk_180 0 51 (dk_at dksX1_worst_4 19 rfl rfl)
theorem dX1_worst_117 : decode cX1_worst 117 = .ok (.iconst 1, 1) := dk_4 (dk_at dksX1_worst_4 22 rfl rfl)
theorem dX1_worst_118 : decode cX1_worst 118 = .ok (.invokevirtual 432, 3) := dk_182 1 176 (dk_at dksX1_worst_5 0 rfl rfl)
theorem dX1_worst_121 : decode cX1_worst 121 = .ok (.isub, 1) := dk_100 (dk_at dksX1_worst_5 3 rfl rfl)
theorem dX1_worst_122 : decode cX1_worst 122 = .ok (.aload_n 0, 1) := dk_42 (dk_at dksX1_worst_5 4 rfl rfl)
theorem dX1_worst_123 : decode cX1_worst 123 = .ok (.getfield 51, 3) := dk_180 0 51 (dk_at dksX1_worst_5 5 rfl rfl)
theorem dX1_worst_126 : decode cX1_worst 126 = .ok (.getfield 114, 3) := dk_180 0 114 (dk_at dksX1_worst_5 8 rfl rfl)
theorem dX1_worst_129 : decode cX1_worst 129 = .ok (.iload 4, 2) := dk_21 4 (dk_at dksX1_worst_5 11 rfl rfl)
theorem dX1_worst_131 : decode cX1_worst 131 = .ok (.aaload, 1) := dk_50 (dk_at dksX1_worst_5 13 rfl rfl)
theorem dX1_worst_132 : decode cX1_worst 132 = .ok (.getfield 220, 3) := dk_180 0 220 (dk_at dksX1_worst_5 14 rfl rfl)
theorem dX1_worst_135 : decode cX1_worst 135 = .ok (.iadd, 1) := dk_96 (dk_at dksX1_worst_5 17 rfl rfl)
theorem dX1_worst_136 : decode cX1_worst 136 = .ok (.istore 5, 2) := dk_54 5 (dk_at dksX1_worst_5 18 rfl rfl)
theorem dX1_worst_138 : decode cX1_worst 138 = .ok (.iload_n 2, 1) := dk_28 (dk_at dksX1_worst_5 20 rfl rfl)
theorem dX1_worst_139 : decode cX1_worst 139 = .ok (.ifCond .lt 12, 3) := dk_155 0 12 (dk_at dksX1_worst_5 21 rfl rfl)
theorem dX1_worst_142 : decode cX1_worst 142 = .ok (.iload 5, 2) := dk_21 5 (dk_at dksX1_worst_6 0 rfl rfl)
theorem dX1_worst_144 : decode cX1_worst 144 = .ok (.iload_n 3, 1) := dk_29 (dk_at dksX1_worst_6 2 rfl rfl)
theorem dX1_worst_145 : decode cX1_worst 145 = .ok (.if_icmp .gt 6, 3) := dk_163 0 6 (dk_at dksX1_worst_6 3 rfl rfl)
theorem dX1_worst_148 : decode cX1_worst 148 = .ok (.goto 9, 3) := dk_167 0 9 (dk_at dksX1_worst_6 6 rfl rfl)
theorem dX1_worst_151 : decode cX1_worst 151 = .ok (.iload 4, 2) := dk_21 4 (dk_at dksX1_worst_6 9 rfl rfl)
theorem dX1_worst_153 : decode cX1_worst 153 = .ok (.istore_n 2, 1) := dk_61 (dk_at dksX1_worst_6 11 rfl rfl)
theorem dX1_worst_154 : decode cX1_worst 154 = .ok (.iload 5, 2) := dk_21 5 (dk_at dksX1_worst_6 12 rfl rfl)
theorem dX1_worst_156 : decode cX1_worst 156 = .ok (.istore_n 3, 1) := dk_62 (dk_at dksX1_worst_6 14 rfl rfl)
theorem dX1_worst_157 : decode cX1_worst 157 = .ok (.iinc 4 1, 3) := dk_132 4 1 (dk_at dksX1_worst_6 15 rfl rfl)
theorem dX1_worst_160 : decode cX1_worst 160 = .ok (.goto (-138), 3) := dk_167 255 118 (dk_at dksX1_worst_6 18 rfl rfl)
theorem dX1_worst_163 : decode cX1_worst 163 = .ok (.iload_n 2, 1) := dk_28 (dk_at dksX1_worst_6 21 rfl rfl)
theorem dX1_worst_164 : decode cX1_worst 164 = .ok (.ireturn, 1) := dk_172 (dk_at dksX1_worst_6 22 rfl rfl)
abbrev cX1_leastSize : ByteArray := prog_1_method_53_code
def yX1_leastSize : MethodName := ⟨RX1, "leastSize", "(II)I"⟩
def dkwX1_leastSize_6 : List UInt8 := [180, 0, 233, 164, 0, 8, 16, 254, 167, 0, 5, 21, 4, 172]
abbrev dktX1_leastSize_6 : List UInt8 := dkwX1_leastSize_6 ++ []
def dkwX1_leastSize_5 : List UInt8 := [184, 0, 230, 54, 4, 132, 5, 1, 167, 255, 182, 45, 180, 0, 233, 42, 180, 0, 51, 180, 0, 150, 27, 50]
abbrev dktX1_leastSize_5 : List UInt8 := dkwX1_leastSize_5 ++ dktX1_leastSize_6
def dkwX1_leastSize_4 : List UInt8 := [96, 46, 96, 54, 6, 132, 7, 1, 167, 255, 224, 21, 6, 158, 0, 14, 21, 4, 45, 182, 0, 226]
abbrev dktX1_leastSize_4 : List UInt8 := dkwX1_leastSize_4 ++ dktX1_leastSize_5
def dkwX1_leastSize_3 : List UInt8 := [21, 7, 42, 180, 0, 20, 180, 0, 111, 162, 0, 26, 21, 6, 42, 180, 0, 31, 16, 8, 27, 104, 21, 7]
abbrev dktX1_leastSize_3 : List UInt8 := dkwX1_leastSize_3 ++ dktX1_leastSize_4
def dkwX1_leastSize_2 : List UInt8 := [3, 54, 5, 21, 5, 28, 162, 0, 74, 42, 42, 180, 0, 58, 182, 1, 34, 3, 54, 6, 3, 54, 7]
abbrev dktX1_leastSize_2 : List UInt8 := dkwX1_leastSize_2 ++ dktX1_leastSize_3
def dkwX1_leastSize_1 : List UInt8 := [182, 1, 155, 87, 42, 180, 0, 58, 180, 0, 150, 27, 50, 78, 45, 17, 7, 207, 181, 0, 223, 4, 54, 4]
abbrev dktX1_leastSize_1 : List UInt8 := dkwX1_leastSize_1 ++ dktX1_leastSize_2
def dkwX1_leastSize_0 : List UInt8 := [42, 27, 182, 1, 49, 153, 0, 15, 28, 133, 10, 20, 1, 179, 184, 0, 74, 154, 0, 5, 2, 172, 42, 3]
abbrev dktX1_leastSize_0 : List UInt8 := dkwX1_leastSize_0 ++ dktX1_leastSize_1
theorem dksX1_leastSize_0 : cX1_leastSize.data.toList.drop 0 = dktX1_leastSize_0 := by decide +kernel
theorem dksX1_leastSize_1 : cX1_leastSize.data.toList.drop 24 = dktX1_leastSize_1 := dk_seg dksX1_leastSize_0 24 rfl rfl
theorem dksX1_leastSize_2 : cX1_leastSize.data.toList.drop 48 = dktX1_leastSize_2 := dk_seg dksX1_leastSize_1 24 rfl rfl
theorem dksX1_leastSize_3 : cX1_leastSize.data.toList.drop 71 = dktX1_leastSize_3 := dk_seg dksX1_leastSize_2 23 rfl rfl
theorem dksX1_leastSize_4 : cX1_leastSize.data.toList.drop 95 = dktX1_leastSize_4 := dk_seg dksX1_leastSize_3 24 rfl rfl
theorem dksX1_leastSize_5 : cX1_leastSize.data.toList.drop 117 = dktX1_leastSize_5 := dk_seg dksX1_leastSize_4 22 rfl rfl
theorem dksX1_leastSize_6 : cX1_leastSize.data.toList.drop 141 = dktX1_leastSize_6 := dk_seg dksX1_leastSize_5 24 rfl rfl
theorem dX1_leastSize_0 : decode cX1_leastSize 0 = .ok (.aload_n 0, 1) := dk_42 (dk_at dksX1_leastSize_0 0 rfl rfl)
theorem dX1_leastSize_1 : decode cX1_leastSize 1 = .ok (.iload_n 1, 1) := dk_27 (dk_at dksX1_leastSize_0 1 rfl rfl)
theorem dX1_leastSize_2 : decode cX1_leastSize 2 = .ok (.invokevirtual 305, 3) := dk_182 1 49 (dk_at dksX1_leastSize_0 2 rfl rfl)
theorem dX1_leastSize_5 : decode cX1_leastSize 5 = .ok (.ifCond .eq 15, 3) := dk_153 0 15 (dk_at dksX1_leastSize_0 5 rfl rfl)
theorem dX1_leastSize_8 : decode cX1_leastSize 8 = .ok (.iload_n 2, 1) := dk_28 (dk_at dksX1_leastSize_0 8 rfl rfl)
theorem dX1_leastSize_9 : decode cX1_leastSize 9 = .ok (.i2l, 1) := dk_133 (dk_at dksX1_leastSize_0 9 rfl rfl)
theorem dX1_leastSize_10 : decode cX1_leastSize 10 = .ok (.lconst 1, 1) := dk_10 (dk_at dksX1_leastSize_0 10 rfl rfl)
theorem dX1_leastSize_11 : decode cX1_leastSize 11 = .ok (.ldc2_w 435, 3) := dk_20 1 179 (dk_at dksX1_leastSize_0 11 rfl rfl)
theorem dX1_leastSize_14 : decode cX1_leastSize 14 = .ok (.invokestatic 74, 3) := dk_184 0 74 (dk_at dksX1_leastSize_0 14 rfl rfl)
theorem dX1_leastSize_17 : decode cX1_leastSize 17 = .ok (.ifCond .ne 5, 3) := dk_154 0 5 (dk_at dksX1_leastSize_0 17 rfl rfl)
theorem dX1_leastSize_20 : decode cX1_leastSize 20 = .ok (.iconst (-1), 1) := dk_2 (dk_at dksX1_leastSize_0 20 rfl rfl)
theorem dX1_leastSize_21 : decode cX1_leastSize 21 = .ok (.ireturn, 1) := dk_172 (dk_at dksX1_leastSize_0 21 rfl rfl)
theorem dX1_leastSize_22 : decode cX1_leastSize 22 = .ok (.aload_n 0, 1) := dk_42 (dk_at dksX1_leastSize_0 22 rfl rfl)
theorem dX1_leastSize_23 : decode cX1_leastSize 23 = .ok (.iconst 0, 1) := dk_3 (dk_at dksX1_leastSize_0 23 rfl rfl)
theorem dX1_leastSize_24 : decode cX1_leastSize 24 = .ok (.invokevirtual 411, 3) := dk_182 1 155 (dk_at dksX1_leastSize_1 0 rfl rfl)
theorem dX1_leastSize_27 : decode cX1_leastSize 27 = .ok (.pop, 1) := dk_87 (dk_at dksX1_leastSize_1 3 rfl rfl)
theorem dX1_leastSize_28 : decode cX1_leastSize 28 = .ok (.aload_n 0, 1) := dk_42 (dk_at dksX1_leastSize_1 4 rfl rfl)
theorem dX1_leastSize_29 : decode cX1_leastSize 29 = .ok (.getfield 58, 3) := dk_180 0 58 (dk_at dksX1_leastSize_1 5 rfl rfl)
theorem dX1_leastSize_32 : decode cX1_leastSize 32 = .ok (.getfield 150, 3) := dk_180 0 150 (dk_at dksX1_leastSize_1 8 rfl rfl)
theorem dX1_leastSize_35 : decode cX1_leastSize 35 = .ok (.iload_n 1, 1) := dk_27 (dk_at dksX1_leastSize_1 11 rfl rfl)
theorem dX1_leastSize_36 : decode cX1_leastSize 36 = .ok (.aaload, 1) := dk_50 (dk_at dksX1_leastSize_1 12 rfl rfl)
theorem dX1_leastSize_37 : decode cX1_leastSize 37 = .ok (.astore_n 3, 1) := dk_78 (dk_at dksX1_leastSize_1 13 rfl rfl)
theorem dX1_leastSize_38 : decode cX1_leastSize 38 = .ok (.aload_n 3, 1) := dk_45 (dk_at dksX1_leastSize_1 14 rfl rfl)
theorem dX1_leastSize_39 : decode cX1_leastSize 39 = .ok (.sipush 1999, 3) := dk_17 7 207 (dk_at dksX1_leastSize_1 15 rfl rfl)
theorem dX1_leastSize_42 : decode cX1_leastSize 42 = .ok (.putfield 223, 3) := dk_181 0 223 (dk_at dksX1_leastSize_1 18 rfl rfl)
theorem dX1_leastSize_45 : decode cX1_leastSize 45 = .ok (.iconst 1, 1) := dk_4 (dk_at dksX1_leastSize_1 21 rfl rfl)
theorem dX1_leastSize_46 : decode cX1_leastSize 46 = .ok (.istore 4, 2) := dk_54 4 (dk_at dksX1_leastSize_1 22 rfl rfl)
theorem dX1_leastSize_48 : decode cX1_leastSize 48 = .ok (.iconst 0, 1) := dk_3 (dk_at dksX1_leastSize_2 0 rfl rfl)
theorem dX1_leastSize_49 : decode cX1_leastSize 49 = .ok (.istore 5, 2) := dk_54 5 (dk_at dksX1_leastSize_2 1 rfl rfl)
theorem dX1_leastSize_51 : decode cX1_leastSize 51 = .ok (.iload 5, 2) := dk_21 5 (dk_at dksX1_leastSize_2 3 rfl rfl)
theorem dX1_leastSize_53 : decode cX1_leastSize 53 = .ok (.iload_n 2, 1) := dk_28 (dk_at dksX1_leastSize_2 5 rfl rfl)
theorem dX1_leastSize_54 : decode cX1_leastSize 54 = .ok (.if_icmp .ge 74, 3) := dk_162 0 74 (dk_at dksX1_leastSize_2 6 rfl rfl)
theorem dX1_leastSize_57 : decode cX1_leastSize 57 = .ok (.aload_n 0, 1) := dk_42 (dk_at dksX1_leastSize_2 9 rfl rfl)
theorem dX1_leastSize_58 : decode cX1_leastSize 58 = .ok (.aload_n 0, 1) := dk_42 (dk_at dksX1_leastSize_2 10 rfl rfl)
theorem dX1_leastSize_59 : decode cX1_leastSize 59 = .ok (.getfield 58, 3) := dk_180 0 58 (dk_at dksX1_leastSize_2 11 rfl rfl)
theorem dX1_leastSize_62 : decode cX1_leastSize 62 = .ok (.invokevirtual 290, 3) := dk_182 1 34 (dk_at dksX1_leastSize_2 14 rfl rfl)
theorem dX1_leastSize_65 : decode cX1_leastSize 65 = .ok (.iconst 0, 1) := dk_3 (dk_at dksX1_leastSize_2 17 rfl rfl)
theorem dX1_leastSize_66 : decode cX1_leastSize 66 = .ok (.istore 6, 2) := dk_54 6 (dk_at dksX1_leastSize_2 18 rfl rfl)
theorem dX1_leastSize_68 : decode cX1_leastSize 68 = .ok (.iconst 0, 1) := dk_3 (dk_at dksX1_leastSize_2 20 rfl rfl)
theorem dX1_leastSize_69 : decode cX1_leastSize 69 = .ok (.istore 7, 2) := dk_54 7 (dk_at dksX1_leastSize_2 21 rfl rfl)
theorem dX1_leastSize_71 : decode cX1_leastSize 71 = .ok (.iload 7, 2) := dk_21 7 (dk_at dksX1_leastSize_3 0 rfl rfl)
theorem dX1_leastSize_73 : decode cX1_leastSize 73 = .ok (.aload_n 0, 1) := dk_42 (dk_at dksX1_leastSize_3 2 rfl rfl)
theorem dX1_leastSize_74 : decode cX1_leastSize 74 = .ok (.getfield 20, 3) := dk_180 0 20 (dk_at dksX1_leastSize_3 3 rfl rfl)
theorem dX1_leastSize_77 : decode cX1_leastSize 77 = .ok (.getfield 111, 3) := dk_180 0 111 (dk_at dksX1_leastSize_3 6 rfl rfl)
theorem dX1_leastSize_80 : decode cX1_leastSize 80 = .ok (.if_icmp .ge 26, 3) := dk_162 0 26 (dk_at dksX1_leastSize_3 9 rfl rfl)
theorem dX1_leastSize_83 : decode cX1_leastSize 83 = .ok (.iload 6, 2) := dk_21 6 (dk_at dksX1_leastSize_3 12 rfl rfl)
theorem dX1_leastSize_85 : decode cX1_leastSize 85 = .ok (.aload_n 0, 1) := dk_42 (dk_at dksX1_leastSize_3 14 rfl rfl)
theorem dX1_leastSize_86 : decode cX1_leastSize 86 = .ok (.getfield 31, 3) := dk_180 0 31 (dk_at dksX1_leastSize_3 15 rfl rfl)
theorem dX1_leastSize_89 : decode cX1_leastSize 89 = .ok (.bipush 8, 2) := dk_16 8 (dk_at dksX1_leastSize_3 18 rfl rfl)
theorem dX1_leastSize_91 : decode cX1_leastSize 91 = .ok (.iload_n 1, 1) := dk_27 (dk_at dksX1_leastSize_3 20 rfl rfl)
theorem dX1_leastSize_92 : decode cX1_leastSize 92 = .ok (.imul, 1) := dk_104 (dk_at dksX1_leastSize_3 21 rfl rfl)
theorem dX1_leastSize_93 : decode cX1_leastSize 93 = .ok (.iload 7, 2) := dk_21 7 (dk_at dksX1_leastSize_3 22 rfl rfl)
theorem dX1_leastSize_95 : decode cX1_leastSize 95 = .ok (.iadd, 1) := dk_96 (dk_at dksX1_leastSize_4 0 rfl rfl)
theorem dX1_leastSize_96 : decode cX1_leastSize 96 = .ok (.iaload, 1) := dk_46 (dk_at dksX1_leastSize_4 1 rfl rfl)
theorem dX1_leastSize_97 : decode cX1_leastSize 97 = .ok (.iadd, 1) := dk_96 (dk_at dksX1_leastSize_4 2 rfl rfl)
theorem dX1_leastSize_98 : decode cX1_leastSize 98 = .ok (.istore 6, 2) := dk_54 6 (dk_at dksX1_leastSize_4 3 rfl rfl)
theorem dX1_leastSize_100 : decode cX1_leastSize 100 = .ok (.iinc 7 1, 3) := dk_132 7 1 (dk_at dksX1_leastSize_4 5 rfl rfl)
theorem dX1_leastSize_103 : decode cX1_leastSize 103 = .ok (.goto (-32), 3) := dk_167 255 224 (dk_at dksX1_leastSize_4 8 rfl rfl)
theorem dX1_leastSize_106 : decode cX1_leastSize 106 = .ok (.iload 6, 2) := dk_21 6 (dk_at dksX1_leastSize_4 11 rfl rfl)
theorem dX1_leastSize_108 : decode cX1_leastSize 108 = .ok (.ifCond .le 14, 3) := dk_158 0 14 (dk_at dksX1_leastSize_4 13 rfl rfl)
theorem dX1_leastSize_111 : decode cX1_leastSize 111 = .ok (.iload 4, 2) := dk_21 4 (dk_at dksX1_leastSize_4 16 rfl rfl)
theorem dX1_leastSize_113 : decode cX1_leastSize 113 = .ok (.aload_n 3, 1) := dk_45 (dk_at dksX1_leastSize_4 18 rfl rfl)
theorem dX1_leastSize_114 : decode cX1_leastSize 114 = .ok (.invokevirtual 226, 3) := dk_182 0 226 (dk_at dksX1_leastSize_4 19 rfl rfl)
theorem dX1_leastSize_117 : decode cX1_leastSize 117 = .ok (.invokestatic 230, 3) := dk_184 0 230 (dk_at dksX1_leastSize_5 0 rfl rfl)
theorem dX1_leastSize_120 : decode cX1_leastSize 120 = .ok (.istore 4, 2) := dk_54 4 (dk_at dksX1_leastSize_5 3 rfl rfl)
theorem dX1_leastSize_122 : decode cX1_leastSize 122 = .ok (.iinc 5 1, 3) := dk_132 5 1 (dk_at dksX1_leastSize_5 5 rfl rfl)
theorem dX1_leastSize_125 : decode cX1_leastSize 125 = .ok (.goto (-74), 3) := dk_167 255 182 (dk_at dksX1_leastSize_5 8 rfl rfl)
theorem dX1_leastSize_128 : decode cX1_leastSize 128 = .ok (.aload_n 3, 1) := dk_45 (dk_at dksX1_leastSize_5 11 rfl rfl)
theorem dX1_leastSize_129 : decode cX1_leastSize 129 = .ok (.getfield 233, 3) := dk_180 0 233 (dk_at dksX1_leastSize_5 12 rfl rfl)
theorem dX1_leastSize_132 : decode cX1_leastSize 132 = .ok (.aload_n 0, 1) := dk_42 (dk_at dksX1_leastSize_5 15 rfl rfl)
theorem dX1_leastSize_133 : decode cX1_leastSize 133 = .ok (.getfield 51, 3) := dk_180 0 51 (dk_at dksX1_leastSize_5 16 rfl rfl)
theorem dX1_leastSize_136 : decode cX1_leastSize 136 = .ok (.getfield 150, 3) := dk_180 0 150 (dk_at dksX1_leastSize_5 19 rfl rfl)
theorem dX1_leastSize_139 : decode cX1_leastSize 139 = .ok (.iload_n 1, 1) := dk_27 (dk_at dksX1_leastSize_5 22 rfl rfl)
theorem dX1_leastSize_140 : decode cX1_leastSize 140 = .ok (.aaload, 1) := dk_50 (dk_at dksX1_leastSize_5 23 rfl rfl)
theorem dX1_leastSize_141 : decode cX1_leastSize 141 = .ok (.getfield 233, 3) := dk_180 0 233 (dk_at dksX1_leastSize_6 0 rfl rfl)
theorem dX1_leastSize_144 : decode cX1_leastSize 144 = .ok (.if_icmp .le 8, 3) := dk_164 0 8 (dk_at dksX1_leastSize_6 3 rfl rfl)
theorem dX1_leastSize_147 : decode cX1_leastSize 147 = .ok (.bipush (-2), 2) := dk_16 254 (dk_at dksX1_leastSize_6 6 rfl rfl)
theorem dX1_leastSize_149 : decode cX1_leastSize 149 = .ok (.goto 5, 3) := dk_167 0 5 (dk_at dksX1_leastSize_6 8 rfl rfl)
theorem dX1_leastSize_152 : decode cX1_leastSize 152 = .ok (.iload 4, 2) := dk_21 4 (dk_at dksX1_leastSize_6 11 rfl rfl)
theorem dX1_leastSize_154 : decode cX1_leastSize 154 = .ok (.ireturn, 1) := dk_172 (dk_at dksX1_leastSize_6 13 rfl rfl)
abbrev cX1_chance : ByteArray := prog_1_method_55_code
def yX1_chance : MethodName := ⟨RX1, "chance", "(IIII)I"⟩
def dkwX1_chance_10 : List UInt8 := [21, 4, 96, 182, 1, 176, 100, 172]
abbrev dktX1_chance_10 : List UInt8 := dkwX1_chance_10 ++ []
def dkwX1_chance_9 : List UInt8 := [182, 1, 176, 100, 167, 0, 26, 42, 180, 0, 58, 4, 21, 4, 96, 182, 1, 176, 42, 180, 0, 51, 4]
abbrev dktX1_chance_9 : List UInt8 := dkwX1_chance_9 ++ dktX1_chance_10
def dkwX1_chance_8 : List UInt8 := [21, 5, 167, 0, 52, 21, 4, 6, 160, 0, 23, 42, 180, 0, 58, 6, 182, 1, 176, 42, 180, 0, 51, 6]
abbrev dktX1_chance_8 : List UInt8 := dkwX1_chance_8 ++ dktX1_chance_9
def dkwX1_chance_7 : List UInt8 := [182, 1, 106, 182, 1, 124, 153, 0, 6, 132, 5, 1, 132, 6, 1, 167, 255, 157, 21, 4, 5, 160, 0, 8]
abbrev dktX1_chance_7 : List UInt8 := dkwX1_chance_7 ++ dktX1_chance_8
def dkwX1_chance_6 : List UInt8 := [3, 181, 0, 122, 42, 42, 180, 0, 58, 182, 1, 34, 21, 4, 5, 160, 0, 20, 42, 42, 180, 0, 58]
abbrev dktX1_chance_6 : List UInt8 := dkwX1_chance_6 ++ dktX1_chance_7
def dkwX1_chance_5 : List UInt8 := [42, 16, 100, 182, 1, 200, 29, 162, 0, 21, 25, 7, 25, 7, 180, 0, 122, 154, 0, 7, 4, 167, 0, 4]
abbrev dktX1_chance_5 : List UInt8 := dkwX1_chance_5 ++ dktX1_chance_6
def dkwX1_chance_4 : List UInt8 := [158, 0, 52, 42, 180, 0, 58, 180, 0, 114, 42, 42, 180, 0, 20, 180, 0, 111, 182, 1, 200, 50, 58, 7]
abbrev dktX1_chance_4 : List UInt8 := dkwX1_chance_4 ++ dktX1_chance_5
def dkwX1_chance_3 : List UInt8 := [182, 1, 155, 87, 3, 54, 5, 3, 54, 6, 21, 6, 28, 162, 0, 99, 42, 180, 0, 20, 180, 0, 111]
abbrev dktX1_chance_3 : List UInt8 := dkwX1_chance_3 ++ dktX1_chance_4
def dkwX1_chance_2 : List UInt8 := [42, 27, 156, 0, 14, 42, 180, 0, 20, 180, 1, 197, 133, 167, 0, 5, 27, 133, 181, 1, 181, 42, 3]
abbrev dktX1_chance_2 : List UInt8 := dkwX1_chance_2 ++ dktX1_chance_3
def dkwX1_chance_1 : List UInt8 := [3, 29, 79, 184, 1, 37, 153, 0, 16, 21, 4, 133, 9, 20, 1, 195, 184, 0, 74, 154, 0, 5, 2, 172]
abbrev dktX1_chance_1 : List UInt8 := dkwX1_chance_1 ++ dktX1_chance_2
def dkwX1_chance_0 : List UInt8 := [27, 2, 161, 0, 44, 28, 133, 10, 20, 1, 193, 184, 0, 74, 153, 0, 32, 3, 16, 100, 4, 188, 10, 89]
abbrev dktX1_chance_0 : List UInt8 := dkwX1_chance_0 ++ dktX1_chance_1
theorem dksX1_chance_0 : cX1_chance.data.toList.drop 0 = dktX1_chance_0 := by decide +kernel
theorem dksX1_chance_1 : cX1_chance.data.toList.drop 24 = dktX1_chance_1 := dk_seg dksX1_chance_0 24 rfl rfl
theorem dksX1_chance_2 : cX1_chance.data.toList.drop 48 = dktX1_chance_2 := dk_seg dksX1_chance_1 24 rfl rfl
theorem dksX1_chance_3 : cX1_chance.data.toList.drop 71 = dktX1_chance_3 := dk_seg dksX1_chance_2 23 rfl rfl
theorem dksX1_chance_4 : cX1_chance.data.toList.drop 94 = dktX1_chance_4 := dk_seg dksX1_chance_3 23 rfl rfl
theorem dksX1_chance_5 : cX1_chance.data.toList.drop 118 = dktX1_chance_5 := dk_seg dksX1_chance_4 24 rfl rfl
theorem dksX1_chance_6 : cX1_chance.data.toList.drop 142 = dktX1_chance_6 := dk_seg dksX1_chance_5 24 rfl rfl
theorem dksX1_chance_7 : cX1_chance.data.toList.drop 165 = dktX1_chance_7 := dk_seg dksX1_chance_6 23 rfl rfl
theorem dksX1_chance_8 : cX1_chance.data.toList.drop 189 = dktX1_chance_8 := dk_seg dksX1_chance_7 24 rfl rfl
theorem dksX1_chance_9 : cX1_chance.data.toList.drop 213 = dktX1_chance_9 := dk_seg dksX1_chance_8 24 rfl rfl
theorem dksX1_chance_10 : cX1_chance.data.toList.drop 236 = dktX1_chance_10 := dk_seg dksX1_chance_9 23 rfl rfl
theorem dX1_chance_0 : decode cX1_chance 0 = .ok (.iload_n 1, 1) := dk_27 (dk_at dksX1_chance_0 0 rfl rfl)
theorem dX1_chance_1 : decode cX1_chance 1 = .ok (.iconst (-1), 1) := dk_2 (dk_at dksX1_chance_0 1 rfl rfl)
theorem dX1_chance_2 : decode cX1_chance 2 = .ok (.if_icmp .lt 44, 3) := dk_161 0 44 (dk_at dksX1_chance_0 2 rfl rfl)
theorem dX1_chance_5 : decode cX1_chance 5 = .ok (.iload_n 2, 1) := dk_28 (dk_at dksX1_chance_0 5 rfl rfl)
theorem dX1_chance_6 : decode cX1_chance 6 = .ok (.i2l, 1) := dk_133 (dk_at dksX1_chance_0 6 rfl rfl)
theorem dX1_chance_7 : decode cX1_chance 7 = .ok (.lconst 1, 1) := dk_10 (dk_at dksX1_chance_0 7 rfl rfl)
theorem dX1_chance_8 : decode cX1_chance 8 = .ok (.ldc2_w 449, 3) := dk_20 1 193 (dk_at dksX1_chance_0 8 rfl rfl)
theorem dX1_chance_11 : decode cX1_chance 11 = .ok (.invokestatic 74, 3) := dk_184 0 74 (dk_at dksX1_chance_0 11 rfl rfl)
theorem dX1_chance_14 : decode cX1_chance 14 = .ok (.ifCond .eq 32, 3) := dk_153 0 32 (dk_at dksX1_chance_0 14 rfl rfl)
theorem dX1_chance_17 : decode cX1_chance 17 = .ok (.iconst 0, 1) := dk_3 (dk_at dksX1_chance_0 17 rfl rfl)
theorem dX1_chance_18 : decode cX1_chance 18 = .ok (.bipush 100, 2) := dk_16 100 (dk_at dksX1_chance_0 18 rfl rfl)
theorem dX1_chance_20 : decode cX1_chance 20 = .ok (.iconst 1, 1) := dk_4 (dk_at dksX1_chance_0 20 rfl rfl)
theorem dX1_chance_21 : decode cX1_chance 21 = .ok (.newarray .int, 2) := dk_188_10 (dk_at dksX1_chance_0 21 rfl rfl)
theorem dX1_chance_23 : decode cX1_chance 23 = .ok (.dup, 1) := dk_89 (dk_at dksX1_chance_0 23 rfl rfl)
theorem dX1_chance_24 : decode cX1_chance 24 = .ok (.iconst 0, 1) := dk_3 (dk_at dksX1_chance_1 0 rfl rfl)
theorem dX1_chance_25 : decode cX1_chance 25 = .ok (.iload_n 3, 1) := dk_29 (dk_at dksX1_chance_1 1 rfl rfl)
theorem dX1_chance_26 : decode cX1_chance 26 = .ok (.iastore, 1) := dk_79 (dk_at dksX1_chance_1 2 rfl rfl)
theorem dX1_chance_27 : decode cX1_chance 27 = .ok (.invokestatic 293, 3) := dk_184 1 37 (dk_at dksX1_chance_1 3 rfl rfl)
theorem dX1_chance_30 : decode cX1_chance 30 = .ok (.ifCond .eq 16, 3) := dk_153 0 16 (dk_at dksX1_chance_1 6 rfl rfl)
theorem dX1_chance_33 : decode cX1_chance 33 = .ok (.iload 4, 2) := dk_21 4 (dk_at dksX1_chance_1 9 rfl rfl)
theorem dX1_chance_35 : decode cX1_chance 35 = .ok (.i2l, 1) := dk_133 (dk_at dksX1_chance_1 11 rfl rfl)
theorem dX1_chance_36 : decode cX1_chance 36 = .ok (.lconst 0, 1) := dk_9 (dk_at dksX1_chance_1 12 rfl rfl)
theorem dX1_chance_37 : decode cX1_chance 37 = .ok (.ldc2_w 451, 3) := dk_20 1 195 (dk_at dksX1_chance_1 13 rfl rfl)
theorem dX1_chance_40 : decode cX1_chance 40 = .ok (.invokestatic 74, 3) := dk_184 0 74 (dk_at dksX1_chance_1 16 rfl rfl)
theorem dX1_chance_43 : decode cX1_chance 43 = .ok (.ifCond .ne 5, 3) := dk_154 0 5 (dk_at dksX1_chance_1 19 rfl rfl)
theorem dX1_chance_46 : decode cX1_chance 46 = .ok (.iconst (-1), 1) := dk_2 (dk_at dksX1_chance_1 22 rfl rfl)
theorem dX1_chance_47 : decode cX1_chance 47 = .ok (.ireturn, 1) := dk_172 (dk_at dksX1_chance_1 23 rfl rfl)
theorem dX1_chance_48 : decode cX1_chance 48 = .ok (.aload_n 0, 1) := dk_42 (dk_at dksX1_chance_2 0 rfl rfl)
theorem dX1_chance_49 : decode cX1_chance 49 = .ok (.iload_n 1, 1) := dk_27 (dk_at dksX1_chance_2 1 rfl rfl)
theorem dX1_chance_50 : decode cX1_chance 50 = .ok (.ifCond .ge 14, 3) := dk_156 0 14 (dk_at dksX1_chance_2 2 rfl rfl)
theorem dX1_chance_53 : decode cX1_chance 53 = .ok (.aload_n 0, 1) := dk_42 (dk_at dksX1_chance_2 5 rfl rfl)
theorem dX1_chance_54 : decode cX1_chance 54 = .ok (.getfield 20, 3) := dk_180 0 20 (dk_at dksX1_chance_2 6 rfl rfl)
theorem dX1_chance_57 : decode cX1_chance 57 = .ok (.getfield 453, 3) := dk_180 1 197 (dk_at dksX1_chance_2 9 rfl rfl)
theorem dX1_chance_60 : decode cX1_chance 60 = .ok (.i2l, 1) := dk_133 (dk_at dksX1_chance_2 12 rfl rfl)
theorem dX1_chance_61 : decode cX1_chance 61 = .ok (.goto 5, 3) := dk_167 0 5 (dk_at dksX1_chance_2 13 rfl rfl)
theorem dX1_chance_64 : decode cX1_chance 64 = .ok (.iload_n 1, 1) := dk_27 (dk_at dksX1_chance_2 16 rfl rfl)
theorem dX1_chance_65 : decode cX1_chance 65 = .ok (.i2l, 1) := dk_133 (dk_at dksX1_chance_2 17 rfl rfl)
theorem dX1_chance_66 : decode cX1_chance 66 = .ok (.putfield 437, 3) := dk_181 1 181 (dk_at dksX1_chance_2 18 rfl rfl)
theorem dX1_chance_69 : decode cX1_chance 69 = .ok (.aload_n 0, 1) := dk_42 (dk_at dksX1_chance_2 21 rfl rfl)
theorem dX1_chance_70 : decode cX1_chance 70 = .ok (.iconst 0, 1) := dk_3 (dk_at dksX1_chance_2 22 rfl rfl)
theorem dX1_chance_71 : decode cX1_chance 71 = .ok (.invokevirtual 411, 3) := dk_182 1 155 (dk_at dksX1_chance_3 0 rfl rfl)
theorem dX1_chance_74 : decode cX1_chance 74 = .ok (.pop, 1) := dk_87 (dk_at dksX1_chance_3 3 rfl rfl)
theorem dX1_chance_75 : decode cX1_chance 75 = .ok (.iconst 0, 1) := dk_3 (dk_at dksX1_chance_3 4 rfl rfl)
theorem dX1_chance_76 : decode cX1_chance 76 = .ok (.istore 5, 2) := dk_54 5 (dk_at dksX1_chance_3 5 rfl rfl)
theorem dX1_chance_78 : decode cX1_chance 78 = .ok (.iconst 0, 1) := dk_3 (dk_at dksX1_chance_3 7 rfl rfl)
theorem dX1_chance_79 : decode cX1_chance 79 = .ok (.istore 6, 2) := dk_54 6 (dk_at dksX1_chance_3 8 rfl rfl)
theorem dX1_chance_81 : decode cX1_chance 81 = .ok (.iload 6, 2) := dk_21 6 (dk_at dksX1_chance_3 10 rfl rfl)
theorem dX1_chance_83 : decode cX1_chance 83 = .ok (.iload_n 2, 1) := dk_28 (dk_at dksX1_chance_3 12 rfl rfl)
theorem dX1_chance_84 : decode cX1_chance 84 = .ok (.if_icmp .ge 99, 3) := dk_162 0 99 (dk_at dksX1_chance_3 13 rfl rfl)
theorem dX1_chance_87 : decode cX1_chance 87 = .ok (.aload_n 0, 1) := dk_42 (dk_at dksX1_chance_3 16 rfl rfl)
theorem dX1_chance_88 : decode cX1_chance 88 = .ok (.getfield 20, 3) := dk_180 0 20 (dk_at dksX1_chance_3 17 rfl rfl)
theorem dX1_chance_91 : decode cX1_chance 91 = .ok (.getfield 111, 3) := dk_180 0 111 (dk_at dksX1_chance_3 20 rfl rfl)
theorem dX1_chance_94 : decode cX1_chance 94 = .ok (.ifCond .le 52, 3) := dk_158 0 52 (dk_at dksX1_chance_4 0 rfl rfl)
theorem dX1_chance_97 : decode cX1_chance 97 = .ok (.aload_n 0, 1) := dk_42 (dk_at dksX1_chance_4 3 rfl rfl)
theorem dX1_chance_98 : decode cX1_chance 98 = .ok (.getfield 58, 3) := dk_180 0 58 (dk_at dksX1_chance_4 4 rfl rfl)
theorem dX1_chance_101 : decode cX1_chance 101 = .ok (.getfield 114, 3) := dk_180 0 114 (dk_at dksX1_chance_4 7 rfl rfl)
theorem dX1_chance_104 : decode cX1_chance 104 = .ok (.aload_n 0, 1) := dk_42 (dk_at dksX1_chance_4 10 rfl rfl)
theorem dX1_chance_105 : decode cX1_chance 105 = .ok (.aload_n 0, 1) := dk_42 (dk_at dksX1_chance_4 11 rfl rfl)
theorem dX1_chance_106 : decode cX1_chance 106 = .ok (.getfield 20, 3) := dk_180 0 20 (dk_at dksX1_chance_4 12 rfl rfl)
theorem dX1_chance_109 : decode cX1_chance 109 = .ok (.getfield 111, 3) := dk_180 0 111 (dk_at dksX1_chance_4 15 rfl rfl)
theorem dX1_chance_112 : decode cX1_chance 112 = .ok (.invokevirtual 456, 3) := dk_182 1 200 (dk_at dksX1_chance_4 18 rfl rfl)
theorem dX1_chance_115 : decode cX1_chance 115 = .ok (.aaload, 1) := dk_50 (dk_at dksX1_chance_4 21 rfl rfl)
theorem dX1_chance_116 : decode cX1_chance 116 = .ok (.astore 7, 2) := dk_58 7 (dk_at dksX1_chance_4 22 rfl rfl)
theorem dX1_chance_118 : decode cX1_chance 118 = .ok (.aload_n 0, 1) := dk_42 (dk_at dksX1_chance_5 0 rfl rfl)
theorem dX1_chance_119 : decode cX1_chance 119 = .ok (.bipush 100, 2) := dk_16 100 (dk_at dksX1_chance_5 1 rfl rfl)
theorem dX1_chance_121 : decode cX1_chance 121 = .ok (.invokevirtual 456, 3) := dk_182 1 200 (dk_at dksX1_chance_5 3 rfl rfl)
theorem dX1_chance_124 : decode cX1_chance 124 = .ok (.iload_n 3, 1) := dk_29 (dk_at dksX1_chance_5 6 rfl rfl)
theorem dX1_chance_125 : decode cX1_chance 125 = .ok (.if_icmp .ge 21, 3) := dk_162 0 21 (dk_at dksX1_chance_5 7 rfl rfl)
theorem dX1_chance_128 : decode cX1_chance 128 = .ok (.aload 7, 2) := dk_25 7 (dk_at dksX1_chance_5 10 rfl rfl)
theorem dX1_chance_130 : decode cX1_chance 130 = .ok (.aload 7, 2) := dk_25 7 (dk_at dksX1_chance_5 12 rfl rfl)
theorem dX1_chance_132 : decode cX1_chance 132 = .ok (.getfield 122, 3) := dk_180 0 122 (dk_at dksX1_chance_5 14 rfl rfl)
theorem dX1_chance_135 : decode cX1_chance 135 = .ok (.ifCond .ne 7, 3) := dk_154 0 7 (dk_at dksX1_chance_5 17 rfl rfl)
theorem dX1_chance_138 : decode cX1_chance 138 = .ok (.iconst 1, 1) := dk_4 (dk_at dksX1_chance_5 20 rfl rfl)
theorem dX1_chance_139 : decode cX1_chance 139 = .ok (.goto 4, 3) := dk_167 0 4 (dk_at dksX1_chance_5 21 rfl rfl)
theorem dX1_chance_142 : decode cX1_chance 142 = .ok (.iconst 0, 1) := dk_3 (dk_at dksX1_chance_6 0 rfl rfl)
theorem dX1_chance_143 : decode cX1_chance 143 = .ok (.putfield 122, 3) := dk_181 0 122 (dk_at dksX1_chance_6 1 rfl rfl)
theorem dX1_chance_146 : decode cX1_chance 146 = .ok (.aload_n 0, 1) := dk_42 (dk_at dksX1_chance_6 4 rfl rfl)
theorem dX1_chance_147 : decode cX1_chance 147 = .ok (.aload_n 0, 1) := dk_42 (dk_at dksX1_chance_6 5 rfl rfl)
theorem dX1_chance_148 : decode cX1_chance 148 = .ok (.getfield 58, 3) := dk_180 0 58 (dk_at dksX1_chance_6 6 rfl rfl)
theorem dX1_chance_151 : decode cX1_chance 151 = .ok (.invokevirtual 290, 3) := dk_182 1 34 (dk_at dksX1_chance_6 9 rfl rfl)
theorem dX1_chance_154 : decode cX1_chance 154 = .ok (.iload 4, 2) := dk_21 4 (dk_at dksX1_chance_6 12 rfl rfl)
theorem dX1_chance_156 : decode cX1_chance 156 = .ok (.iconst 2, 1) := dk_5 (dk_at dksX1_chance_6 14 rfl rfl)
theorem dX1_chance_157 : decode cX1_chance 157 = .ok (.if_icmp .ne 20, 3) := dk_160 0 20 (dk_at dksX1_chance_6 15 rfl rfl)
theorem dX1_chance_160 : decode cX1_chance 160 = .ok (.aload_n 0, 1) := dk_42 (dk_at dksX1_chance_6 18 rfl rfl)
theorem dX1_chance_161 : decode cX1_chance 161 = .ok (.aload_n 0, 1) := dk_42 (dk_at dksX1_chance_6 19 rfl rfl)
theorem dX1_chance_162 : decode cX1_chance 162 = .ok (.getfield 58, 3) := dk_180 0 58 (dk_at dksX1_chance_6 20 rfl rfl)
theorem dX1_chance_165 : decode cX1_chance 165 = .ok (.invokevirtual 362, 3) := dk_182 1 106 (dk_at dksX1_chance_7 0 rfl rfl)
theorem dX1_chance_168 : decode cX1_chance 168 = .ok (.invokevirtual 380, 3) := dk_182 1 124 (dk_at dksX1_chance_7 3 rfl rfl)
theorem dX1_chance_171 : decode cX1_chance 171 = .ok (.ifCond .eq 6, 3) := dk_153 0 6 (dk_at dksX1_chance_7 6 rfl rfl)
theorem dX1_chance_174 : decode cX1_chance 174 = .ok (.iinc 5 1, 3) := dk_132 5 1 (dk_at dksX1_chance_7 9 rfl rfl)
theorem dX1_chance_177 : decode cX1_chance 177 = .ok (.iinc 6 1, 3) := dk_132 6 1 (dk_at dksX1_chance_7 12 rfl rfl)
theorem dX1_chance_180 : decode cX1_chance 180 = .ok (.goto (-99), 3) := dk_167 255 157 (dk_at dksX1_chance_7 15 rfl rfl)
theorem dX1_chance_183 : decode cX1_chance 183 = .ok (.iload 4, 2) := dk_21 4 (dk_at dksX1_chance_7 18 rfl rfl)
theorem dX1_chance_185 : decode cX1_chance 185 = .ok (.iconst 2, 1) := dk_5 (dk_at dksX1_chance_7 20 rfl rfl)
theorem dX1_chance_186 : decode cX1_chance 186 = .ok (.if_icmp .ne 8, 3) := dk_160 0 8 (dk_at dksX1_chance_7 21 rfl rfl)
theorem dX1_chance_189 : decode cX1_chance 189 = .ok (.iload 5, 2) := dk_21 5 (dk_at dksX1_chance_8 0 rfl rfl)
theorem dX1_chance_191 : decode cX1_chance 191 = .ok (.goto 52, 3) := dk_167 0 52 (dk_at dksX1_chance_8 2 rfl rfl)
theorem dX1_chance_194 : decode cX1_chance 194 = .ok (.iload 4, 2) := dk_21 4 (dk_at dksX1_chance_8 5 rfl rfl)
theorem dX1_chance_196 : decode cX1_chance 196 = .ok (.iconst 3, 1) := dk_6 (dk_at dksX1_chance_8 7 rfl rfl)
theorem dX1_chance_197 : decode cX1_chance 197 = .ok (.if_icmp .ne 23, 3) := dk_160 0 23 (dk_at dksX1_chance_8 8 rfl rfl)
theorem dX1_chance_200 : decode cX1_chance 200 = .ok (.aload_n 0, 1) := dk_42 (dk_at dksX1_chance_8 11 rfl rfl)
theorem dX1_chance_201 : decode cX1_chance 201 = .ok (.getfield 58, 3) := dk_180 0 58 (dk_at dksX1_chance_8 12 rfl rfl)
theorem dX1_chance_204 : decode cX1_chance 204 = .ok (.iconst 3, 1) := dk_6 (dk_at dksX1_chance_8 15 rfl rfl)
theorem dX1_chance_205 : decode cX1_chance 205 = .ok (.invokevirtual 432, 3) := dk_182 1 176 (dk_at dksX1_chance_8 16 rfl rfl)
theorem dX1_chance_208 : decode cX1_chance 208 = .ok (.aload_n 0, 1) := dk_42 (dk_at dksX1_chance_8 19 rfl rfl)
theorem dX1_chance_209 : decode cX1_chance 209 = .ok (.getfield 51, 3) := dk_180 0 51 (dk_at dksX1_chance_8 20 rfl rfl)
theorem dX1_chance_212 : decode cX1_chance 212 = .ok (.iconst 3, 1) := dk_6 (dk_at dksX1_chance_8 23 rfl rfl)
theorem dX1_chance_213 : decode cX1_chance 213 = .ok (.invokevirtual 432, 3) := dk_182 1 176 (dk_at dksX1_chance_9 0 rfl rfl)
theorem dX1_chance_216 : decode cX1_chance 216 = .ok (.isub, 1) := dk_100 (dk_at dksX1_chance_9 3 rfl rfl)
theorem dX1_chance_217 : decode cX1_chance 217 = .ok (.goto 26, 3) := dk_167 0 26 (dk_at dksX1_chance_9 4 rfl rfl)
theorem dX1_chance_220 : decode cX1_chance 220 = .ok (.aload_n 0, 1) := dk_42 (dk_at dksX1_chance_9 7 rfl rfl)
theorem dX1_chance_221 : decode cX1_chance 221 = .ok (.getfield 58, 3) := dk_180 0 58 (dk_at dksX1_chance_9 8 rfl rfl)
theorem dX1_chance_224 : decode cX1_chance 224 = .ok (.iconst 1, 1) := dk_4 (dk_at dksX1_chance_9 11 rfl rfl)
theorem dX1_chance_225 : decode cX1_chance 225 = .ok (.iload 4, 2) := dk_21 4 (dk_at dksX1_chance_9 12 rfl rfl)
theorem dX1_chance_227 : decode cX1_chance 227 = .ok (.iadd, 1) := dk_96 (dk_at dksX1_chance_9 14 rfl rfl)
theorem dX1_chance_228 : decode cX1_chance 228 = .ok (.invokevirtual 432, 3) := dk_182 1 176 (dk_at dksX1_chance_9 15 rfl rfl)
theorem dX1_chance_231 : decode cX1_chance 231 = .ok (.aload_n 0, 1) := dk_42 (dk_at dksX1_chance_9 18 rfl rfl)
theorem dX1_chance_232 : decode cX1_chance 232 = .ok (.getfield 51, 3) := dk_180 0 51 (dk_at dksX1_chance_9 19 rfl rfl)
theorem dX1_chance_235 : decode cX1_chance 235 = .ok (.iconst 1, 1) := dk_4 (dk_at dksX1_chance_9 22 rfl rfl)
theorem dX1_chance_236 : decode cX1_chance 236 = .ok (.iload 4, 2) := dk_21 4 (dk_at dksX1_chance_10 0 rfl rfl)
theorem dX1_chance_238 : decode cX1_chance 238 = .ok (.iadd, 1) := dk_96 (dk_at dksX1_chance_10 2 rfl rfl)
theorem dX1_chance_239 : decode cX1_chance 239 = .ok (.invokevirtual 432, 3) := dk_182 1 176 (dk_at dksX1_chance_10 3 rfl rfl)
theorem dX1_chance_242 : decode cX1_chance 242 = .ok (.isub, 1) := dk_100 (dk_at dksX1_chance_10 6 rfl rfl)
theorem dX1_chance_243 : decode cX1_chance 243 = .ok (.ireturn, 1) := dk_172 (dk_at dksX1_chance_10 7 rfl rfl)
abbrev cX1_draw : ByteArray := prog_1_method_54_code
def yX1_draw : MethodName := ⟨RX1, "draw", "(I)I"⟩
def dkwX1_draw_1 : List UInt8 := [20, 1, 191, 109, 27, 133, 113, 136, 172]
abbrev dktX1_draw_1 : List UInt8 := dkwX1_draw_1 ++ []
def dkwX1_draw_0 : List UInt8 := [42, 42, 180, 1, 181, 20, 1, 185, 105, 20, 1, 187, 97, 20, 1, 189, 127, 181, 1, 181, 42, 180, 1, 181]
abbrev dktX1_draw_0 : List UInt8 := dkwX1_draw_0 ++ dktX1_draw_1
theorem dksX1_draw_0 : cX1_draw.data.toList.drop 0 = dktX1_draw_0 := by decide +kernel
theorem dksX1_draw_1 : cX1_draw.data.toList.drop 24 = dktX1_draw_1 := dk_seg dksX1_draw_0 24 rfl rfl
theorem dX1_draw_0 : decode cX1_draw 0 = .ok (.aload_n 0, 1) := dk_42 (dk_at dksX1_draw_0 0 rfl rfl)
theorem dX1_draw_1 : decode cX1_draw 1 = .ok (.aload_n 0, 1) := dk_42 (dk_at dksX1_draw_0 1 rfl rfl)
theorem dX1_draw_2 : decode cX1_draw 2 = .ok (.getfield 437, 3) := dk_180 1 181 (dk_at dksX1_draw_0 2 rfl rfl)
theorem dX1_draw_5 : decode cX1_draw 5 = .ok (.ldc2_w 441, 3) := dk_20 1 185 (dk_at dksX1_draw_0 5 rfl rfl)
theorem dX1_draw_8 : decode cX1_draw 8 = .ok (.lmul, 1) := dk_105 (dk_at dksX1_draw_0 8 rfl rfl)
theorem dX1_draw_9 : decode cX1_draw 9 = .ok (.ldc2_w 443, 3) := dk_20 1 187 (dk_at dksX1_draw_0 9 rfl rfl)
theorem dX1_draw_12 : decode cX1_draw 12 = .ok (.ladd, 1) := dk_97 (dk_at dksX1_draw_0 12 rfl rfl)
theorem dX1_draw_13 : decode cX1_draw 13 = .ok (.ldc2_w 445, 3) := dk_20 1 189 (dk_at dksX1_draw_0 13 rfl rfl)
theorem dX1_draw_16 : decode cX1_draw 16 = .ok (.land, 1) := dk_127 (dk_at dksX1_draw_0 16 rfl rfl)
theorem dX1_draw_17 : decode cX1_draw 17 = .ok (.putfield 437, 3) := dk_181 1 181 (dk_at dksX1_draw_0 17 rfl rfl)
theorem dX1_draw_20 : decode cX1_draw 20 = .ok (.aload_n 0, 1) := dk_42 (dk_at dksX1_draw_0 20 rfl rfl)
theorem dX1_draw_21 : decode cX1_draw 21 = .ok (.getfield 437, 3) := dk_180 1 181 (dk_at dksX1_draw_0 21 rfl rfl)
theorem dX1_draw_24 : decode cX1_draw 24 = .ok (.ldc2_w 447, 3) := dk_20 1 191 (dk_at dksX1_draw_1 0 rfl rfl)
theorem dX1_draw_27 : decode cX1_draw 27 = .ok (.ldiv, 1) := dk_109 (dk_at dksX1_draw_1 3 rfl rfl)
theorem dX1_draw_28 : decode cX1_draw 28 = .ok (.iload_n 1, 1) := dk_27 (dk_at dksX1_draw_1 4 rfl rfl)
theorem dX1_draw_29 : decode cX1_draw 29 = .ok (.i2l, 1) := dk_133 (dk_at dksX1_draw_1 5 rfl rfl)
theorem dX1_draw_30 : decode cX1_draw 30 = .ok (.lrem, 1) := dk_113 (dk_at dksX1_draw_1 6 rfl rfl)
theorem dX1_draw_31 : decode cX1_draw 31 = .ok (.l2i, 1) := dk_136 (dk_at dksX1_draw_1 7 rfl rfl)
theorem dX1_draw_32 : decode cX1_draw 32 = .ok (.ireturn, 1) := dk_172 (dk_at dksX1_draw_1 8 rfl rfl)
abbrev cX1_count : ByteArray := prog_1_method_56_code
def yX1_count : MethodName := ⟨RX1, "count", "(I)I"⟩
def dkwX1_count_7 : List UInt8 := [167, 255, 219, 28, 172, 42, 180, 1, 13, 172, 42, 180, 0, 71, 172, 2, 172]
abbrev dktX1_count_7 : List UInt8 := dkwX1_count_7 ++ []
def dkwX1_count_6 : List UInt8 := [180, 0, 51, 180, 0, 150, 29, 50, 182, 1, 203, 153, 0, 7, 4, 167, 0, 4, 3, 96, 61, 132, 3, 1]
abbrev dktX1_count_6 : List UInt8 := dkwX1_count_6 ++ dktX1_count_7
def dkwX1_count_5 : List UInt8 := [132, 3, 1, 167, 255, 219, 28, 172, 3, 62, 29, 42, 180, 0, 20, 180, 0, 138, 162, 0, 32, 28, 42]
abbrev dktX1_count_5 : List UInt8 := dkwX1_count_5 ++ dktX1_count_6
def dkwX1_count_4 : List UInt8 := [28, 42, 180, 0, 51, 180, 0, 114, 29, 50, 180, 0, 122, 153, 0, 7, 4, 167, 0, 4, 3, 96, 61]
abbrev dktX1_count_4 : List UInt8 := dkwX1_count_4 ++ dktX1_count_5
def dkwX1_count_3 : List UInt8 := [42, 180, 0, 51, 27, 6, 100, 182, 1, 176, 172, 3, 62, 29, 42, 180, 0, 20, 180, 0, 111, 162, 0, 32]
abbrev dktX1_count_3 : List UInt8 := dkwX1_count_3 ++ dktX1_count_4
def dkwX1_count_2 : List UInt8 := [42, 180, 0, 20, 180, 0, 138, 172, 42, 180, 0, 20, 180, 0, 111, 172, 42, 180, 0, 51, 180, 0, 108, 172]
abbrev dktX1_count_2 : List UInt8 := dkwX1_count_2 ++ dktX1_count_3
def dkwX1_count_1 : List UInt8 := [170, 0, 0, 0, 190, 0, 0, 0, 0, 0, 0, 0, 10, 0, 0, 0, 57, 0, 0, 0, 65, 0, 0, 0, 73, 0, 0, 0, 81, 0, 0, 0, 81, 0, 0, 0, 81, 0, 0, 0, 81, 0, 0, 0, 92, 0, 0, 0, 136, 0, 0, 0, 180, 0, 0, 0, 185]
abbrev dktX1_count_1 : List UInt8 := dkwX1_count_1 ++ dktX1_count_2
def dkwX1_count_0 : List UInt8 := [3, 61, 27]
abbrev dktX1_count_0 : List UInt8 := dkwX1_count_0 ++ dktX1_count_1
theorem dksX1_count_0 : cX1_count.data.toList.drop 0 = dktX1_count_0 := by decide +kernel
theorem dksX1_count_1 : cX1_count.data.toList.drop 3 = dktX1_count_1 := dk_seg dksX1_count_0 3 rfl rfl
theorem dksX1_count_2 : cX1_count.data.toList.drop 60 = dktX1_count_2 := dk_seg dksX1_count_1 57 rfl rfl
theorem dksX1_count_3 : cX1_count.data.toList.drop 84 = dktX1_count_3 := dk_seg dksX1_count_2 24 rfl rfl
theorem dksX1_count_4 : cX1_count.data.toList.drop 108 = dktX1_count_4 := dk_seg dksX1_count_3 24 rfl rfl
theorem dksX1_count_5 : cX1_count.data.toList.drop 131 = dktX1_count_5 := dk_seg dksX1_count_4 23 rfl rfl
theorem dksX1_count_6 : cX1_count.data.toList.drop 154 = dktX1_count_6 := dk_seg dksX1_count_5 23 rfl rfl
theorem dksX1_count_7 : cX1_count.data.toList.drop 178 = dktX1_count_7 := dk_seg dksX1_count_6 24 rfl rfl
theorem dX1_count_0 : decode cX1_count 0 = .ok (.iconst 0, 1) := dk_3 (dk_at dksX1_count_0 0 rfl rfl)
theorem dX1_count_1 : decode cX1_count 1 = .ok (.istore_n 2, 1) := dk_61 (dk_at dksX1_count_0 1 rfl rfl)
theorem dX1_count_2 : decode cX1_count 2 = .ok (.iload_n 1, 1) := dk_27 (dk_at dksX1_count_0 2 rfl rfl)
theorem dX1_count_3 : decode cX1_count 3 = .ok (.tableswitch 190 0 10 #[57, 65, 73, 81, 81, 81, 81, 92, 136, 180, 185], 57) := by decide +kernel
theorem dX1_count_60 : decode cX1_count 60 = .ok (.aload_n 0, 1) := dk_42 (dk_at dksX1_count_2 0 rfl rfl)
theorem dX1_count_61 : decode cX1_count 61 = .ok (.getfield 20, 3) := dk_180 0 20 (dk_at dksX1_count_2 1 rfl rfl)
theorem dX1_count_64 : decode cX1_count 64 = .ok (.getfield 138, 3) := dk_180 0 138 (dk_at dksX1_count_2 4 rfl rfl)
theorem dX1_count_67 : decode cX1_count 67 = .ok (.ireturn, 1) := dk_172 (dk_at dksX1_count_2 7 rfl rfl)
theorem dX1_count_68 : decode cX1_count 68 = .ok (.aload_n 0, 1) := dk_42 (dk_at dksX1_count_2 8 rfl rfl)
theorem dX1_count_69 : decode cX1_count 69 = .ok (.getfield 20, 3) := dk_180 0 20 (dk_at dksX1_count_2 9 rfl rfl)
theorem dX1_count_72 : decode cX1_count 72 = .ok (.getfield 111, 3) := dk_180 0 111 (dk_at dksX1_count_2 12 rfl rfl)
theorem dX1_count_75 : decode cX1_count 75 = .ok (.ireturn, 1) := dk_172 (dk_at dksX1_count_2 15 rfl rfl)
theorem dX1_count_76 : decode cX1_count 76 = .ok (.aload_n 0, 1) := dk_42 (dk_at dksX1_count_2 16 rfl rfl)
theorem dX1_count_77 : decode cX1_count 77 = .ok (.getfield 51, 3) := dk_180 0 51 (dk_at dksX1_count_2 17 rfl rfl)
theorem dX1_count_80 : decode cX1_count 80 = .ok (.getfield 108, 3) := dk_180 0 108 (dk_at dksX1_count_2 20 rfl rfl)
theorem dX1_count_83 : decode cX1_count 83 = .ok (.ireturn, 1) := dk_172 (dk_at dksX1_count_2 23 rfl rfl)
theorem dX1_count_84 : decode cX1_count 84 = .ok (.aload_n 0, 1) := dk_42 (dk_at dksX1_count_3 0 rfl rfl)
theorem dX1_count_85 : decode cX1_count 85 = .ok (.getfield 51, 3) := dk_180 0 51 (dk_at dksX1_count_3 1 rfl rfl)
theorem dX1_count_88 : decode cX1_count 88 = .ok (.iload_n 1, 1) := dk_27 (dk_at dksX1_count_3 4 rfl rfl)
theorem dX1_count_89 : decode cX1_count 89 = .ok (.iconst 3, 1) := dk_6 (dk_at dksX1_count_3 5 rfl rfl)
theorem dX1_count_90 : decode cX1_count 90 = .ok (.isub, 1) := dk_100 (dk_at dksX1_count_3 6 rfl rfl)
theorem dX1_count_91 : decode cX1_count 91 = .ok (.invokevirtual 432, 3) := dk_182 1 176 (dk_at dksX1_count_3 7 rfl rfl)
theorem dX1_count_94 : decode cX1_count 94 = .ok (.ireturn, 1) := dk_172 (dk_at dksX1_count_3 10 rfl rfl)
theorem dX1_count_95 : decode cX1_count 95 = .ok (.iconst 0, 1) := dk_3 (dk_at dksX1_count_3 11 rfl rfl)
theorem dX1_count_96 : decode cX1_count 96 = .ok (.istore_n 3, 1) := dk_62 (dk_at dksX1_count_3 12 rfl rfl)
theorem dX1_count_97 : decode cX1_count 97 = .ok (.iload_n 3, 1) := dk_29 (dk_at dksX1_count_3 13 rfl rfl)
theorem dX1_count_98 : decode cX1_count 98 = .ok (.aload_n 0, 1) := dk_42 (dk_at dksX1_count_3 14 rfl rfl)
theorem dX1_count_99 : decode cX1_count 99 = .ok (.getfield 20, 3) := dk_180 0 20 (dk_at dksX1_count_3 15 rfl rfl)
theorem dX1_count_102 : decode cX1_count 102 = .ok (.getfield 111, 3) := dk_180 0 111 (dk_at dksX1_count_3 18 rfl rfl)
theorem dX1_count_105 : decode cX1_count 105 = .ok (.if_icmp .ge 32, 3) := dk_162 0 32 (dk_at dksX1_count_3 21 rfl rfl)
theorem dX1_count_108 : decode cX1_count 108 = .ok (.iload_n 2, 1) := dk_28 (dk_at dksX1_count_4 0 rfl rfl)
theorem dX1_count_109 : decode cX1_count 109 = .ok (.aload_n 0, 1) := dk_42 (dk_at dksX1_count_4 1 rfl rfl)
theorem dX1_count_110 : decode cX1_count 110 = .ok (.getfield 51, 3) := dk_180 0 51 (dk_at dksX1_count_4 2 rfl rfl)
theorem dX1_count_113 : decode cX1_count 113 = .ok (.getfield 114, 3) := dk_180 0 114 (dk_at dksX1_count_4 5 rfl rfl)
theorem dX1_count_116 : decode cX1_count 116 = .ok (.iload_n 3, 1) := dk_29 (dk_at dksX1_count_4 8 rfl rfl)
theorem dX1_count_117 : decode cX1_count 117 = .ok (.aaload, 1) := dk_50 (dk_at dksX1_count_4 9 rfl rfl)
theorem dX1_count_118 : decode cX1_count 118 = .ok (.getfield 122, 3) := dk_180 0 122 (dk_at dksX1_count_4 10 rfl rfl)
theorem dX1_count_121 : decode cX1_count 121 = .ok (.ifCond .eq 7, 3) := dk_153 0 7 (dk_at dksX1_count_4 13 rfl rfl)
theorem dX1_count_124 : decode cX1_count 124 = .ok (.iconst 1, 1) := dk_4 (dk_at dksX1_count_4 16 rfl rfl)
theorem dX1_count_125 : decode cX1_count 125 = .ok (.goto 4, 3) := dk_167 0 4 (dk_at dksX1_count_4 17 rfl rfl)
theorem dX1_count_128 : decode cX1_count 128 = .ok (.iconst 0, 1) := dk_3 (dk_at dksX1_count_4 20 rfl rfl)
theorem dX1_count_129 : decode cX1_count 129 = .ok (.iadd, 1) := dk_96 (dk_at dksX1_count_4 21 rfl rfl)
theorem dX1_count_130 : decode cX1_count 130 = .ok (.istore_n 2, 1) := dk_61 (dk_at dksX1_count_4 22 rfl rfl)
theorem dX1_count_131 : decode cX1_count 131 = .ok (.iinc 3 1, 3) := dk_132 3 1 (dk_at dksX1_count_5 0 rfl rfl)
theorem dX1_count_134 : decode cX1_count 134 = .ok (.goto (-37), 3) := dk_167 255 219 (dk_at dksX1_count_5 3 rfl rfl)
theorem dX1_count_137 : decode cX1_count 137 = .ok (.iload_n 2, 1) := dk_28 (dk_at dksX1_count_5 6 rfl rfl)
theorem dX1_count_138 : decode cX1_count 138 = .ok (.ireturn, 1) := dk_172 (dk_at dksX1_count_5 7 rfl rfl)
theorem dX1_count_139 : decode cX1_count 139 = .ok (.iconst 0, 1) := dk_3 (dk_at dksX1_count_5 8 rfl rfl)
theorem dX1_count_140 : decode cX1_count 140 = .ok (.istore_n 3, 1) := dk_62 (dk_at dksX1_count_5 9 rfl rfl)
theorem dX1_count_141 : decode cX1_count 141 = .ok (.iload_n 3, 1) := dk_29 (dk_at dksX1_count_5 10 rfl rfl)
theorem dX1_count_142 : decode cX1_count 142 = .ok (.aload_n 0, 1) := dk_42 (dk_at dksX1_count_5 11 rfl rfl)
theorem dX1_count_143 : decode cX1_count 143 = .ok (.getfield 20, 3) := dk_180 0 20 (dk_at dksX1_count_5 12 rfl rfl)
theorem dX1_count_146 : decode cX1_count 146 = .ok (.getfield 138, 3) := dk_180 0 138 (dk_at dksX1_count_5 15 rfl rfl)
theorem dX1_count_149 : decode cX1_count 149 = .ok (.if_icmp .ge 32, 3) := dk_162 0 32 (dk_at dksX1_count_5 18 rfl rfl)
theorem dX1_count_152 : decode cX1_count 152 = .ok (.iload_n 2, 1) := dk_28 (dk_at dksX1_count_5 21 rfl rfl)
theorem dX1_count_153 : decode cX1_count 153 = .ok (.aload_n 0, 1) := dk_42 (dk_at dksX1_count_5 22 rfl rfl)
theorem dX1_count_154 : decode cX1_count 154 = .ok (.getfield 51, 3) := dk_180 0 51 (dk_at dksX1_count_6 0 rfl rfl)
theorem dX1_count_157 : decode cX1_count 157 = .ok (.getfield 150, 3) := dk_180 0 150 (dk_at dksX1_count_6 3 rfl rfl)
theorem dX1_count_160 : decode cX1_count 160 = .ok (.iload_n 3, 1) := dk_29 (dk_at dksX1_count_6 6 rfl rfl)
theorem dX1_count_161 : decode cX1_count 161 = .ok (.aaload, 1) := dk_50 (dk_at dksX1_count_6 7 rfl rfl)
theorem dX1_count_162 : decode cX1_count 162 = .ok (.invokevirtual 459, 3) := dk_182 1 203 (dk_at dksX1_count_6 8 rfl rfl)
theorem dX1_count_165 : decode cX1_count 165 = .ok (.ifCond .eq 7, 3) := dk_153 0 7 (dk_at dksX1_count_6 11 rfl rfl)
theorem dX1_count_168 : decode cX1_count 168 = .ok (.iconst 1, 1) := dk_4 (dk_at dksX1_count_6 14 rfl rfl)
theorem dX1_count_169 : decode cX1_count 169 = .ok (.goto 4, 3) := dk_167 0 4 (dk_at dksX1_count_6 15 rfl rfl)
theorem dX1_count_172 : decode cX1_count 172 = .ok (.iconst 0, 1) := dk_3 (dk_at dksX1_count_6 18 rfl rfl)
theorem dX1_count_173 : decode cX1_count 173 = .ok (.iadd, 1) := dk_96 (dk_at dksX1_count_6 19 rfl rfl)
theorem dX1_count_174 : decode cX1_count 174 = .ok (.istore_n 2, 1) := dk_61 (dk_at dksX1_count_6 20 rfl rfl)
theorem dX1_count_175 : decode cX1_count 175 = .ok (.iinc 3 1, 3) := dk_132 3 1 (dk_at dksX1_count_6 21 rfl rfl)
theorem dX1_count_178 : decode cX1_count 178 = .ok (.goto (-37), 3) := dk_167 255 219 (dk_at dksX1_count_7 0 rfl rfl)
theorem dX1_count_181 : decode cX1_count 181 = .ok (.iload_n 2, 1) := dk_28 (dk_at dksX1_count_7 3 rfl rfl)
theorem dX1_count_182 : decode cX1_count 182 = .ok (.ireturn, 1) := dk_172 (dk_at dksX1_count_7 4 rfl rfl)
theorem dX1_count_183 : decode cX1_count 183 = .ok (.aload_n 0, 1) := dk_42 (dk_at dksX1_count_7 5 rfl rfl)
theorem dX1_count_184 : decode cX1_count 184 = .ok (.getfield 269, 3) := dk_180 1 13 (dk_at dksX1_count_7 6 rfl rfl)
theorem dX1_count_187 : decode cX1_count 187 = .ok (.ireturn, 1) := dk_172 (dk_at dksX1_count_7 9 rfl rfl)
theorem dX1_count_188 : decode cX1_count 188 = .ok (.aload_n 0, 1) := dk_42 (dk_at dksX1_count_7 10 rfl rfl)
theorem dX1_count_189 : decode cX1_count 189 = .ok (.getfield 71, 3) := dk_180 0 71 (dk_at dksX1_count_7 11 rfl rfl)
theorem dX1_count_192 : decode cX1_count 192 = .ok (.ireturn, 1) := dk_172 (dk_at dksX1_count_7 14 rfl rfl)
theorem dX1_count_193 : decode cX1_count 193 = .ok (.iconst (-1), 1) := dk_2 (dk_at dksX1_count_7 15 rfl rfl)
theorem dX1_count_194 : decode cX1_count 194 = .ok (.ireturn, 1) := dk_172 (dk_at dksX1_count_7 16 rfl rfl)
abbrev cX1_link : ByteArray := prog_1_method_27_code
def yX1_link : MethodName := ⟨RX1, "link", "(II)I"⟩
def dkwX1_link_7 : List UInt8 := [172, 45, 180, 0, 240, 172, 187, 1, 70, 89, 183, 1, 72, 191]
abbrev dktX1_link_7 : List UInt8 := dkwX1_link_7 ++ []
def dkwX1_link_6 : List UInt8 := [45, 180, 0, 233, 172, 45, 180, 0, 237, 172, 45, 180, 0, 246, 172, 45, 180, 1, 1, 172, 45, 180, 0, 192]
abbrev dktX1_link_6 : List UInt8 := dkwX1_link_6 ++ dktX1_link_7
def dkwX1_link_5 : List UInt8 := [45, 180, 1, 68, 4, 126, 172, 42, 180, 0, 51, 27, 182, 0, 179, 153, 0, 7, 4, 167, 0, 4, 3, 172]
abbrev dktX1_link_5 : List UInt8 := dkwX1_link_5 ++ dktX1_link_6
def dkwX1_link_4 : List UInt8 := [180, 1, 65, 172, 45, 180, 1, 54, 172, 45, 180, 1, 57, 172, 45, 180, 0, 223, 172, 45, 182, 0, 226, 172]
abbrev dktX1_link_4 : List UInt8 := dkwX1_link_4 ++ dktX1_link_5
def dkwX1_link_3 : List UInt8 := [42, 180, 0, 20, 180, 0, 183, 27, 50, 180, 0, 187, 172, 42, 180, 0, 20, 180, 0, 183, 27, 50]
abbrev dktX1_link_3 : List UInt8 := dkwX1_link_3 ++ dktX1_link_4
def dkwX1_link_2 : List UInt8 := [170, 0, 0, 0, 169, 0, 0, 0, 0, 0, 0, 0, 13, 0, 0, 0, 69, 0, 0, 0, 82, 0, 0, 0, 95, 0, 0, 0, 100, 0, 0, 0, 105, 0, 0, 0, 110, 0, 0, 0, 115, 0, 0, 0, 122, 0, 0, 0, 139, 0, 0, 0, 144, 0, 0, 0, 149, 0, 0, 0, 154, 0, 0, 0, 159, 0, 0, 0, 164]
abbrev dktX1_link_2 : List UInt8 := dkwX1_link_2 ++ dktX1_link_3
def dkwX1_link_1 : List UInt8 := [50, 78, 28]
abbrev dktX1_link_1 : List UInt8 := dkwX1_link_1 ++ dktX1_link_2
def dkwX1_link_0 : List UInt8 := [42, 27, 182, 1, 49, 154, 0, 11, 187, 1, 62, 89, 183, 1, 64, 191, 42, 180, 0, 51, 180, 0, 150, 27]
abbrev dktX1_link_0 : List UInt8 := dkwX1_link_0 ++ dktX1_link_1
theorem dksX1_link_0 : cX1_link.data.toList.drop 0 = dktX1_link_0 := by decide +kernel
theorem dksX1_link_1 : cX1_link.data.toList.drop 24 = dktX1_link_1 := dk_seg dksX1_link_0 24 rfl rfl
theorem dksX1_link_2 : cX1_link.data.toList.drop 27 = dktX1_link_2 := dk_seg dksX1_link_1 3 rfl rfl
theorem dksX1_link_3 : cX1_link.data.toList.drop 96 = dktX1_link_3 := dk_seg dksX1_link_2 69 rfl rfl
theorem dksX1_link_4 : cX1_link.data.toList.drop 118 = dktX1_link_4 := dk_seg dksX1_link_3 22 rfl rfl
theorem dksX1_link_5 : cX1_link.data.toList.drop 142 = dktX1_link_5 := dk_seg dksX1_link_4 24 rfl rfl
theorem dksX1_link_6 : cX1_link.data.toList.drop 166 = dktX1_link_6 := dk_seg dksX1_link_5 24 rfl rfl
theorem dksX1_link_7 : cX1_link.data.toList.drop 190 = dktX1_link_7 := dk_seg dksX1_link_6 24 rfl rfl
theorem dX1_link_0 : decode cX1_link 0 = .ok (.aload_n 0, 1) := dk_42 (dk_at dksX1_link_0 0 rfl rfl)
theorem dX1_link_1 : decode cX1_link 1 = .ok (.iload_n 1, 1) := dk_27 (dk_at dksX1_link_0 1 rfl rfl)
theorem dX1_link_2 : decode cX1_link 2 = .ok (.invokevirtual 305, 3) := dk_182 1 49 (dk_at dksX1_link_0 2 rfl rfl)
theorem dX1_link_5 : decode cX1_link 5 = .ok (.ifCond .ne 11, 3) := dk_154 0 11 (dk_at dksX1_link_0 5 rfl rfl)
theorem dX1_link_8 : decode cX1_link 8 = .ok (.new 318, 3) := dk_187 1 62 (dk_at dksX1_link_0 8 rfl rfl)
theorem dX1_link_11 : decode cX1_link 11 = .ok (.dup, 1) := dk_89 (dk_at dksX1_link_0 11 rfl rfl)
theorem dX1_link_12 : decode cX1_link 12 = .ok (.invokespecial 320, 3) := dk_183 1 64 (dk_at dksX1_link_0 12 rfl rfl)
theorem dX1_link_15 : decode cX1_link 15 = .ok (.athrow, 1) := dk_191 (dk_at dksX1_link_0 15 rfl rfl)
theorem dX1_link_16 : decode cX1_link 16 = .ok (.aload_n 0, 1) := dk_42 (dk_at dksX1_link_0 16 rfl rfl)
theorem dX1_link_17 : decode cX1_link 17 = .ok (.getfield 51, 3) := dk_180 0 51 (dk_at dksX1_link_0 17 rfl rfl)
theorem dX1_link_20 : decode cX1_link 20 = .ok (.getfield 150, 3) := dk_180 0 150 (dk_at dksX1_link_0 20 rfl rfl)
theorem dX1_link_23 : decode cX1_link 23 = .ok (.iload_n 1, 1) := dk_27 (dk_at dksX1_link_0 23 rfl rfl)
theorem dX1_link_24 : decode cX1_link 24 = .ok (.aaload, 1) := dk_50 (dk_at dksX1_link_1 0 rfl rfl)
theorem dX1_link_25 : decode cX1_link 25 = .ok (.astore_n 3, 1) := dk_78 (dk_at dksX1_link_1 1 rfl rfl)
theorem dX1_link_26 : decode cX1_link 26 = .ok (.iload_n 2, 1) := dk_28 (dk_at dksX1_link_1 2 rfl rfl)
theorem dX1_link_27 : decode cX1_link 27 = .ok (.tableswitch 169 0 13 #[69, 82, 95, 100, 105, 110, 115, 122, 139, 144, 149, 154, 159, 164], 69) := by decide +kernel
theorem dX1_link_96 : decode cX1_link 96 = .ok (.aload_n 0, 1) := dk_42 (dk_at dksX1_link_3 0 rfl rfl)
theorem dX1_link_97 : decode cX1_link 97 = .ok (.getfield 20, 3) := dk_180 0 20 (dk_at dksX1_link_3 1 rfl rfl)
theorem dX1_link_100 : decode cX1_link 100 = .ok (.getfield 183, 3) := dk_180 0 183 (dk_at dksX1_link_3 4 rfl rfl)
theorem dX1_link_103 : decode cX1_link 103 = .ok (.iload_n 1, 1) := dk_27 (dk_at dksX1_link_3 7 rfl rfl)
theorem dX1_link_104 : decode cX1_link 104 = .ok (.aaload, 1) := dk_50 (dk_at dksX1_link_3 8 rfl rfl)
theorem dX1_link_105 : decode cX1_link 105 = .ok (.getfield 187, 3) := dk_180 0 187 (dk_at dksX1_link_3 9 rfl rfl)
theorem dX1_link_108 : decode cX1_link 108 = .ok (.ireturn, 1) := dk_172 (dk_at dksX1_link_3 12 rfl rfl)
theorem dX1_link_109 : decode cX1_link 109 = .ok (.aload_n 0, 1) := dk_42 (dk_at dksX1_link_3 13 rfl rfl)
theorem dX1_link_110 : decode cX1_link 110 = .ok (.getfield 20, 3) := dk_180 0 20 (dk_at dksX1_link_3 14 rfl rfl)
theorem dX1_link_113 : decode cX1_link 113 = .ok (.getfield 183, 3) := dk_180 0 183 (dk_at dksX1_link_3 17 rfl rfl)
theorem dX1_link_116 : decode cX1_link 116 = .ok (.iload_n 1, 1) := dk_27 (dk_at dksX1_link_3 20 rfl rfl)
theorem dX1_link_117 : decode cX1_link 117 = .ok (.aaload, 1) := dk_50 (dk_at dksX1_link_3 21 rfl rfl)
theorem dX1_link_118 : decode cX1_link 118 = .ok (.getfield 321, 3) := dk_180 1 65 (dk_at dksX1_link_4 0 rfl rfl)
theorem dX1_link_121 : decode cX1_link 121 = .ok (.ireturn, 1) := dk_172 (dk_at dksX1_link_4 3 rfl rfl)
theorem dX1_link_122 : decode cX1_link 122 = .ok (.aload_n 3, 1) := dk_45 (dk_at dksX1_link_4 4 rfl rfl)
theorem dX1_link_123 : decode cX1_link 123 = .ok (.getfield 310, 3) := dk_180 1 54 (dk_at dksX1_link_4 5 rfl rfl)
theorem dX1_link_126 : decode cX1_link 126 = .ok (.ireturn, 1) := dk_172 (dk_at dksX1_link_4 8 rfl rfl)
theorem dX1_link_127 : decode cX1_link 127 = .ok (.aload_n 3, 1) := dk_45 (dk_at dksX1_link_4 9 rfl rfl)
theorem dX1_link_128 : decode cX1_link 128 = .ok (.getfield 313, 3) := dk_180 1 57 (dk_at dksX1_link_4 10 rfl rfl)
theorem dX1_link_131 : decode cX1_link 131 = .ok (.ireturn, 1) := dk_172 (dk_at dksX1_link_4 13 rfl rfl)
theorem dX1_link_132 : decode cX1_link 132 = .ok (.aload_n 3, 1) := dk_45 (dk_at dksX1_link_4 14 rfl rfl)
theorem dX1_link_133 : decode cX1_link 133 = .ok (.getfield 223, 3) := dk_180 0 223 (dk_at dksX1_link_4 15 rfl rfl)
theorem dX1_link_136 : decode cX1_link 136 = .ok (.ireturn, 1) := dk_172 (dk_at dksX1_link_4 18 rfl rfl)
theorem dX1_link_137 : decode cX1_link 137 = .ok (.aload_n 3, 1) := dk_45 (dk_at dksX1_link_4 19 rfl rfl)
theorem dX1_link_138 : decode cX1_link 138 = .ok (.invokevirtual 226, 3) := dk_182 0 226 (dk_at dksX1_link_4 20 rfl rfl)
theorem dX1_link_141 : decode cX1_link 141 = .ok (.ireturn, 1) := dk_172 (dk_at dksX1_link_4 23 rfl rfl)
theorem dX1_link_142 : decode cX1_link 142 = .ok (.aload_n 3, 1) := dk_45 (dk_at dksX1_link_5 0 rfl rfl)
theorem dX1_link_143 : decode cX1_link 143 = .ok (.getfield 324, 3) := dk_180 1 68 (dk_at dksX1_link_5 1 rfl rfl)
theorem dX1_link_146 : decode cX1_link 146 = .ok (.iconst 1, 1) := dk_4 (dk_at dksX1_link_5 4 rfl rfl)
theorem dX1_link_147 : decode cX1_link 147 = .ok (.iand, 1) := dk_126 (dk_at dksX1_link_5 5 rfl rfl)
theorem dX1_link_148 : decode cX1_link 148 = .ok (.ireturn, 1) := dk_172 (dk_at dksX1_link_5 6 rfl rfl)
theorem dX1_link_149 : decode cX1_link 149 = .ok (.aload_n 0, 1) := dk_42 (dk_at dksX1_link_5 7 rfl rfl)
theorem dX1_link_150 : decode cX1_link 150 = .ok (.getfield 51, 3) := dk_180 0 51 (dk_at dksX1_link_5 8 rfl rfl)
theorem dX1_link_153 : decode cX1_link 153 = .ok (.iload_n 1, 1) := dk_27 (dk_at dksX1_link_5 11 rfl rfl)
theorem dX1_link_154 : decode cX1_link 154 = .ok (.invokevirtual 179, 3) := dk_182 0 179 (dk_at dksX1_link_5 12 rfl rfl)
theorem dX1_link_157 : decode cX1_link 157 = .ok (.ifCond .eq 7, 3) := dk_153 0 7 (dk_at dksX1_link_5 15 rfl rfl)
theorem dX1_link_160 : decode cX1_link 160 = .ok (.iconst 1, 1) := dk_4 (dk_at dksX1_link_5 18 rfl rfl)
theorem dX1_link_161 : decode cX1_link 161 = .ok (.goto 4, 3) := dk_167 0 4 (dk_at dksX1_link_5 19 rfl rfl)
theorem dX1_link_164 : decode cX1_link 164 = .ok (.iconst 0, 1) := dk_3 (dk_at dksX1_link_5 22 rfl rfl)
theorem dX1_link_165 : decode cX1_link 165 = .ok (.ireturn, 1) := dk_172 (dk_at dksX1_link_5 23 rfl rfl)
theorem dX1_link_166 : decode cX1_link 166 = .ok (.aload_n 3, 1) := dk_45 (dk_at dksX1_link_6 0 rfl rfl)
theorem dX1_link_167 : decode cX1_link 167 = .ok (.getfield 233, 3) := dk_180 0 233 (dk_at dksX1_link_6 1 rfl rfl)
theorem dX1_link_170 : decode cX1_link 170 = .ok (.ireturn, 1) := dk_172 (dk_at dksX1_link_6 4 rfl rfl)
theorem dX1_link_171 : decode cX1_link 171 = .ok (.aload_n 3, 1) := dk_45 (dk_at dksX1_link_6 5 rfl rfl)
theorem dX1_link_172 : decode cX1_link 172 = .ok (.getfield 237, 3) := dk_180 0 237 (dk_at dksX1_link_6 6 rfl rfl)
theorem dX1_link_175 : decode cX1_link 175 = .ok (.ireturn, 1) := dk_172 (dk_at dksX1_link_6 9 rfl rfl)
theorem dX1_link_176 : decode cX1_link 176 = .ok (.aload_n 3, 1) := dk_45 (dk_at dksX1_link_6 10 rfl rfl)
theorem dX1_link_177 : decode cX1_link 177 = .ok (.getfield 246, 3) := dk_180 0 246 (dk_at dksX1_link_6 11 rfl rfl)
theorem dX1_link_180 : decode cX1_link 180 = .ok (.ireturn, 1) := dk_172 (dk_at dksX1_link_6 14 rfl rfl)
theorem dX1_link_181 : decode cX1_link 181 = .ok (.aload_n 3, 1) := dk_45 (dk_at dksX1_link_6 15 rfl rfl)
theorem dX1_link_182 : decode cX1_link 182 = .ok (.getfield 257, 3) := dk_180 1 1 (dk_at dksX1_link_6 16 rfl rfl)
theorem dX1_link_185 : decode cX1_link 185 = .ok (.ireturn, 1) := dk_172 (dk_at dksX1_link_6 19 rfl rfl)
theorem dX1_link_186 : decode cX1_link 186 = .ok (.aload_n 3, 1) := dk_45 (dk_at dksX1_link_6 20 rfl rfl)
theorem dX1_link_187 : decode cX1_link 187 = .ok (.getfield 192, 3) := dk_180 0 192 (dk_at dksX1_link_6 21 rfl rfl)
theorem dX1_link_190 : decode cX1_link 190 = .ok (.ireturn, 1) := dk_172 (dk_at dksX1_link_7 0 rfl rfl)
theorem dX1_link_191 : decode cX1_link 191 = .ok (.aload_n 3, 1) := dk_45 (dk_at dksX1_link_7 1 rfl rfl)
theorem dX1_link_192 : decode cX1_link 192 = .ok (.getfield 240, 3) := dk_180 0 240 (dk_at dksX1_link_7 2 rfl rfl)
theorem dX1_link_195 : decode cX1_link 195 = .ok (.ireturn, 1) := dk_172 (dk_at dksX1_link_7 5 rfl rfl)
theorem dX1_link_196 : decode cX1_link 196 = .ok (.new 326, 3) := dk_187 1 70 (dk_at dksX1_link_7 6 rfl rfl)
theorem dX1_link_199 : decode cX1_link 199 = .ok (.dup, 1) := dk_89 (dk_at dksX1_link_7 9 rfl rfl)
theorem dX1_link_200 : decode cX1_link 200 = .ok (.invokespecial 328, 3) := dk_183 1 72 (dk_at dksX1_link_7 10 rfl rfl)
theorem dX1_link_203 : decode cX1_link 203 = .ok (.athrow, 1) := dk_191 (dk_at dksX1_link_7 13 rfl rfl)
theorem q101 : (Jvm.Cond.initialized "LosslessFabric") ∈ lw_all := lw_g (lw_at lw_m1 1 rfl) rfl
theorem q129 : (Jvm.Cond.instantiable "LosslessFabric" (18 : Nat)) ∈ lw_all := lw_g (lw_at lw_m1 29 rfl) rfl
theorem q131 : (Jvm.Cond.instanceMethod ({ cls := "LosslessFabric", name := "<init>", desc := "()V" } : Jvm.MethodName)) ∈ lw_all := lw_g (lw_at lw_m1 31 rfl) rfl
theorem q132 : (Jvm.Cond.code ({ cls := "LosslessFabric", name := "<init>", desc := "()V" } : Jvm.MethodName) prog_1_method_1_code (1 : Nat) (Option.none : Option Jvm.ClassFile.FieldType)) ∈ lw_all := lw_g (lw_at lw_m1 32 rfl) rfl
theorem q133 : (Jvm.Cond.methodLink "LosslessFabric" (1 : Nat) ({ cls := "java/lang/Object", name := "<init>", desc := "()V" } : Jvm.MethodName)) ∈ lw_all := lw_g (lw_at lw_m1 33 rfl) rfl
theorem q136 : (Jvm.Cond.classLink "LosslessFabric" (17 : Nat) "LosslessFabric$Told") ∈ lw_all := lw_g (lw_at lw_m1 36 rfl) rfl
theorem q138 : (Jvm.Cond.methodLinkNest "LosslessFabric" (19 : Nat) ({ cls := "LosslessFabric$Told", name := "<init>", desc := "()V" } : Jvm.MethodName) "LosslessFabric") ∈ lw_tbl := lw_at lw_m1 38 rfl
theorem q149 : (Jvm.Cond.fieldLinkNest "LosslessFabric" (183 : Nat) "LosslessFabric$Told" "links" "[LLosslessFabric$Link;" "LosslessFabric") ∈ lw_tbl := lw_at lw_m1 49 rfl
theorem q154 : (Jvm.Cond.fieldLinkNest "LosslessFabric" (199 : Nat) "LosslessFabric$Told" "flows" "[LLosslessFabric$Flow;" "LosslessFabric") ∈ lw_tbl := lw_at lw_m1 54 rfl
theorem q160 : (Jvm.Cond.fieldLinkNest "LosslessFabric" (138 : Nat) "LosslessFabric$Told" "linkMany" "I" "LosslessFabric") ∈ lw_tbl := lw_at lw_m1 60 rfl
theorem q165 : (Jvm.Cond.fieldLinkNest "LosslessFabric" (111 : Nat) "LosslessFabric$Told" "flowMany" "I" "LosslessFabric") ∈ lw_tbl := lw_at lw_m1 65 rfl
theorem q169 : (Jvm.Cond.fieldLinkNest "LosslessFabric" (243 : Nat) "LosslessFabric$Told" "each" "I" "LosslessFabric") ∈ lw_tbl := lw_at lw_m1 69 rfl
theorem q184 : (Jvm.Cond.fieldLinkNest "LosslessFabric" (473 : Nat) "LosslessFabric$Told" "more" "I" "LosslessFabric") ∈ lw_tbl := lw_at lw_m1 84 rfl
theorem q186 : (Jvm.Cond.fieldLinkNest "LosslessFabric" (453 : Nat) "LosslessFabric$Told" "seed" "I" "LosslessFabric") ∈ lw_tbl := lw_at lw_m1 86 rfl
theorem q187 : (Jvm.Cond.fieldLinkNest "LosslessFabric" (98 : Nat) "LosslessFabric$Told" "lines" "I" "LosslessFabric") ∈ lw_tbl := lw_at lw_m1 87 rfl
theorem q218 : (Jvm.Cond.classLink "LosslessFabric" (34 : Nat) "LosslessFabric$Notice") ∈ lw_all := lw_g (lw_at lw_m1 118 rfl) rfl
theorem q220 : (Jvm.Cond.privateMethod ({ cls := "LosslessFabric", name := "lambda$new$0", desc := "(II)I" } : Jvm.MethodName)) ∈ lw_tbl := lw_at lw_m1 120 rfl
theorem q221 : (Jvm.Cond.instanceMethod ({ cls := "LosslessFabric", name := "lambda$new$0", desc := "(II)I" } : Jvm.MethodName)) ∈ lw_all := lw_g (lw_at lw_m1 121 rfl) rfl
theorem q222 : (Jvm.Cond.code ({ cls := "LosslessFabric", name := "lambda$new$0", desc := "(II)I" } : Jvm.MethodName) prog_1_method_62_code (3 : Nat) (Option.some Jvm.ClassFile.FieldType.int)) ∈ lw_all := lw_g (lw_at lw_m1 122 rfl) rfl
theorem q223 : (Jvm.Cond.classLink "LosslessFabric" (48 : Nat) "LosslessFabric$State") ∈ lw_all := lw_g (lw_at lw_m1 123 rfl) rfl
theorem q225 : (Jvm.Cond.methodLinkNest "LosslessFabric" (50 : Nat) ({ cls := "LosslessFabric$State", name := "<init>", desc := "()V" } : Jvm.MethodName) "LosslessFabric") ∈ lw_tbl := lw_at lw_m1 125 rfl
theorem q240 : (Jvm.Cond.fieldLinkNest "LosslessFabric" (211 : Nat) "LosslessFabric$End" "cells" "[I" "LosslessFabric") ∈ lw_tbl := lw_at lw_m1 140 rfl
theorem q242 : (Jvm.Cond.fieldLinkNest "LosslessFabric" (310 : Nat) "LosslessFabric$End" "xoff" "I" "LosslessFabric") ∈ lw_tbl := lw_at lw_m1 142 rfl
theorem q244 : (Jvm.Cond.fieldLinkNest "LosslessFabric" (313 : Nat) "LosslessFabric$End" "xon" "I" "LosslessFabric") ∈ lw_tbl := lw_at lw_m1 144 rfl
theorem q246 : (Jvm.Cond.fieldLinkNest "LosslessFabric" (223 : Nat) "LosslessFabric$End" "size" "I" "LosslessFabric") ∈ lw_tbl := lw_at lw_m1 146 rfl
theorem q249 : (Jvm.Cond.fieldLinkNest "LosslessFabric" (324 : Nat) "LosslessFabric$End" "asks" "I" "LosslessFabric") ∈ lw_tbl := lw_at lw_m1 149 rfl
theorem q251 : (Jvm.Cond.fieldLinkNest "LosslessFabric" (233 : Nat) "LosslessFabric$End" "lost" "I" "LosslessFabric") ∈ lw_tbl := lw_at lw_m1 151 rfl
theorem q253 : (Jvm.Cond.fieldLinkNest "LosslessFabric" (237 : Nat) "LosslessFabric$End" "peak" "I" "LosslessFabric") ∈ lw_tbl := lw_at lw_m1 153 rfl
theorem q255 : (Jvm.Cond.fieldLinkNest "LosslessFabric" (246 : Nat) "LosslessFabric$End" "samples" "I" "LosslessFabric") ∈ lw_tbl := lw_at lw_m1 155 rfl
theorem q257 : (Jvm.Cond.fieldLinkNest "LosslessFabric" (257 : Nat) "LosslessFabric$End" "notices" "I" "LosslessFabric") ∈ lw_tbl := lw_at lw_m1 157 rfl
theorem q259 : (Jvm.Cond.fieldLinkNest "LosslessFabric" (192 : Nat) "LosslessFabric$End" "carried" "I" "LosslessFabric") ∈ lw_tbl := lw_at lw_m1 159 rfl
theorem q261 : (Jvm.Cond.fieldLinkNest "LosslessFabric" (240 : Nat) "LosslessFabric$End" "counted" "I" "LosslessFabric") ∈ lw_tbl := lw_at lw_m1 161 rfl
theorem q264 : (Jvm.Cond.fieldLinkNest "LosslessFabric" (254 : Nat) "LosslessFabric$End" "old" "I" "LosslessFabric") ∈ lw_tbl := lw_at lw_m1 164 rfl
theorem q297 : (Jvm.Cond.fieldLinkNest "LosslessFabric" (129 : Nat) "LosslessFabric$Sender" "rate" "I" "LosslessFabric") ∈ lw_tbl := lw_at lw_m1 197 rfl
theorem q299 : (Jvm.Cond.fieldLinkNest "LosslessFabric" (302 : Nat) "LosslessFabric$Sender" "target" "I" "LosslessFabric") ∈ lw_tbl := lw_at lw_m1 199 rfl
theorem q302 : (Jvm.Cond.fieldLinkNest "LosslessFabric" (214 : Nat) "LosslessFabric$Sender" "sent" "I" "LosslessFabric") ∈ lw_tbl := lw_at lw_m1 202 rfl
theorem q305 : (Jvm.Cond.fieldLinkNest "LosslessFabric" (220 : Nat) "LosslessFabric$Sender" "delivered" "I" "LosslessFabric") ∈ lw_tbl := lw_at lw_m1 205 rfl
theorem q308 : (Jvm.Cond.fieldLinkNest "LosslessFabric" (332 : Nat) "LosslessFabric$Sender" "notices" "I" "LosslessFabric") ∈ lw_tbl := lw_at lw_m1 208 rfl
theorem q311 : (Jvm.Cond.fieldLinkNest "LosslessFabric" (236 : Nat) "LosslessFabric$Sender" "lost" "I" "LosslessFabric") ∈ lw_tbl := lw_at lw_m1 211 rfl
theorem q314 : (Jvm.Cond.fieldLinkNest "LosslessFabric" (126 : Nat) "LosslessFabric$Sender" "credit" "I" "LosslessFabric") ∈ lw_tbl := lw_at lw_m1 214 rfl
theorem q316 : (Jvm.Cond.fieldLinkNest "LosslessFabric" (336 : Nat) "LosslessFabric$Sender" "cells" "I" "LosslessFabric") ∈ lw_tbl := lw_at lw_m1 216 rfl
theorem q318 : (Jvm.Cond.fieldLinkNest "LosslessFabric" (338 : Nat) "LosslessFabric$Sender" "ticks" "I" "LosslessFabric") ∈ lw_tbl := lw_at lw_m1 218 rfl
theorem q320 : (Jvm.Cond.fieldLinkNest "LosslessFabric" (118 : Nat) "LosslessFabric$Sender" "now" "I" "LosslessFabric") ∈ lw_tbl := lw_at lw_m1 220 rfl
theorem q322 : (Jvm.Cond.fieldLinkNest "LosslessFabric" (329 : Nat) "LosslessFabric$Sender" "stages" "[I" "LosslessFabric") ∈ lw_tbl := lw_at lw_m1 222 rfl
theorem q325 : (Jvm.Cond.fieldLinkNest "LosslessFabric" (122 : Nat) "LosslessFabric$Sender" "isOn" "Z" "LosslessFabric") ∈ lw_tbl := lw_at lw_m1 225 rfl
theorem q353 : (Jvm.Cond.fieldLinkNest "LosslessFabric" (108 : Nat) "LosslessFabric$State" "tick" "I" "LosslessFabric") ∈ lw_tbl := lw_at lw_m2 13 rfl
theorem q355 : (Jvm.Cond.fieldLinkNest "LosslessFabric" (150 : Nat) "LosslessFabric$State" "ends" "[LLosslessFabric$End;" "LosslessFabric") ∈ lw_tbl := lw_at lw_m2 15 rfl
theorem q358 : (Jvm.Cond.fieldLinkNest "LosslessFabric" (114 : Nat) "LosslessFabric$State" "senders" "[LLosslessFabric$Sender;" "LosslessFabric") ∈ lw_tbl := lw_at lw_m2 18 rfl
theorem q369 : (Jvm.Cond.methodLink "LosslessFabric" (65 : Nat) ({ cls := "LosslessFabric", name := "begin", desc := "()V" } : Jvm.MethodName)) ∈ lw_all := lw_g (lw_at lw_m2 29 rfl) rfl
theorem q370 : (Jvm.Cond.privateMethod ({ cls := "LosslessFabric", name := "begin", desc := "()V" } : Jvm.MethodName)) ∈ lw_tbl := lw_at lw_m2 30 rfl
theorem q371 : (Jvm.Cond.instanceMethod ({ cls := "LosslessFabric", name := "begin", desc := "()V" } : Jvm.MethodName)) ∈ lw_all := lw_g (lw_at lw_m2 31 rfl) rfl
theorem q372 : (Jvm.Cond.code ({ cls := "LosslessFabric", name := "begin", desc := "()V" } : Jvm.MethodName) prog_1_method_15_code (1 : Nat) (Option.none : Option Jvm.ClassFile.FieldType)) ∈ lw_all := lw_g (lw_at lw_m2 32 rfl) rfl
theorem q373 : (Jvm.Cond.methodLink "LosslessFabric" (265 : Nat) ({ cls := "LosslessFabric$State", name := "fresh", desc := "(LLosslessFabric$Told;)V" } : Jvm.MethodName)) ∈ lw_all := lw_g (lw_at lw_m2 33 rfl) rfl
theorem q389 : (Jvm.Cond.fieldLink "LosslessFabric" (9 : Nat) "LosslessFabric" "tape" "[B") ∈ lw_all := lw_g (lw_at lw_m2 49 rfl) rfl
theorem q391 : (Jvm.Cond.fieldLink "LosslessFabric" (71 : Nat) "LosslessFabric" "taped" "I") ∈ lw_all := lw_g (lw_at lw_m2 51 rfl) rfl
theorem q392 : (Jvm.Cond.fieldLink "LosslessFabric" (78 : Nat) "LosslessFabric" "fault" "I") ∈ lw_all := lw_g (lw_at lw_m2 52 rfl) rfl
theorem q393 : (Jvm.Cond.fieldLink "LosslessFabric" (13 : Nat) "LosslessFabric" "faultPlace" "I") ∈ lw_all := lw_g (lw_at lw_m2 53 rfl) rfl
theorem q394 : (Jvm.Cond.fieldLink "LosslessFabric" (20 : Nat) "LosslessFabric" "told" "LLosslessFabric$Told;") ∈ lw_all := lw_g (lw_at lw_m2 54 rfl) rfl
theorem q397 : (Jvm.Cond.fieldLink "LosslessFabric" (24 : Nat) "LosslessFabric" "ready" "[I") ∈ lw_all := lw_g (lw_at lw_m2 57 rfl) rfl
theorem q398 : (Jvm.Cond.fieldLink "LosslessFabric" (28 : Nat) "LosslessFabric" "gives" "[I") ∈ lw_all := lw_g (lw_at lw_m2 58 rfl) rfl
theorem q399 : (Jvm.Cond.fieldLink "LosslessFabric" (31 : Nat) "LosslessFabric" "comes" "[I") ∈ lw_all := lw_g (lw_at lw_m2 59 rfl) rfl
theorem q400 : (Jvm.Cond.fieldLink "LosslessFabric" (36 : Nat) "LosslessFabric" "notices" "[LLosslessFabric$Notice;") ∈ lw_all := lw_g (lw_at lw_m2 60 rfl) rfl
theorem q401 : (Jvm.Cond.fieldLink "LosslessFabric" (159 : Nat) "LosslessFabric" "noticeMany" "I") ∈ lw_all := lw_g (lw_at lw_m2 61 rfl) rfl
theorem q402 : (Jvm.Cond.fieldLink "LosslessFabric" (44 : Nat) "LosslessFabric" "climb" "LLosslessFabric$Climb;") ∈ lw_all := lw_g (lw_at lw_m2 62 rfl) rfl
theorem q404 : (Jvm.Cond.fieldLink "LosslessFabric" (51 : Nat) "LosslessFabric" "now" "LLosslessFabric$State;") ∈ lw_all := lw_g (lw_at lw_m2 64 rfl) rfl
theorem q405 : (Jvm.Cond.fieldLink "LosslessFabric" (55 : Nat) "LosslessFabric" "image" "LLosslessFabric$State;") ∈ lw_all := lw_g (lw_at lw_m2 65 rfl) rfl
theorem q406 : (Jvm.Cond.fieldLink "LosslessFabric" (58 : Nat) "LosslessFabric" "trial" "LLosslessFabric$State;") ∈ lw_all := lw_g (lw_at lw_m2 66 rfl) rfl
theorem q407 : (Jvm.Cond.fieldLink "LosslessFabric" (61 : Nat) "LosslessFabric" "kept" "[LLosslessFabric$State;") ∈ lw_all := lw_g (lw_at lw_m2 67 rfl) rfl
theorem q408 : (Jvm.Cond.fieldLink "LosslessFabric" (269 : Nat) "LosslessFabric" "acts" "I") ∈ lw_all := lw_g (lw_at lw_m2 68 rfl) rfl
theorem q409 : (Jvm.Cond.fieldLink "LosslessFabric" (272 : Nat) "LosslessFabric" "hasImage" "Z") ∈ lw_all := lw_g (lw_at lw_m2 69 rfl) rfl
theorem q410 : (Jvm.Cond.fieldLink "LosslessFabric" (437 : Nat) "LosslessFabric" "drawn" "J") ∈ lw_all := lw_g (lw_at lw_m2 70 rfl) rfl
theorem q411 : (Jvm.Cond.laysFinal "LosslessFabric" "LosslessFabric" "tape" "[B") ∈ lw_all := lw_g (lw_at lw_m2 71 rfl) rfl
theorem q412 : (Jvm.Cond.soleField "LosslessFabric" "tape") ∈ lw_all := lw_g (lw_at lw_m2 72 rfl) rfl
theorem q413 : (Jvm.Cond.lays "LosslessFabric" "LosslessFabric" "taped" "I") ∈ lw_all := lw_g (lw_at lw_m2 73 rfl) rfl
theorem q414 : (Jvm.Cond.soleField "LosslessFabric" "taped") ∈ lw_all := lw_g (lw_at lw_m2 74 rfl) rfl
theorem q415 : (Jvm.Cond.lays "LosslessFabric" "LosslessFabric" "fault" "I") ∈ lw_all := lw_g (lw_at lw_m2 75 rfl) rfl
theorem q416 : (Jvm.Cond.soleField "LosslessFabric" "fault") ∈ lw_all := lw_g (lw_at lw_m2 76 rfl) rfl
theorem q417 : (Jvm.Cond.lays "LosslessFabric" "LosslessFabric" "faultPlace" "I") ∈ lw_all := lw_g (lw_at lw_m2 77 rfl) rfl
theorem q418 : (Jvm.Cond.soleField "LosslessFabric" "faultPlace") ∈ lw_all := lw_g (lw_at lw_m2 78 rfl) rfl
theorem q419 : (Jvm.Cond.lays "LosslessFabric" "LosslessFabric" "told" "LLosslessFabric$Told;") ∈ lw_all := lw_g (lw_at lw_m2 79 rfl) rfl
theorem q420 : (Jvm.Cond.soleField "LosslessFabric" "told") ∈ lw_all := lw_g (lw_at lw_m2 80 rfl) rfl
theorem q421 : (Jvm.Cond.laysFinal "LosslessFabric" "LosslessFabric" "ready" "[I") ∈ lw_all := lw_g (lw_at lw_m2 81 rfl) rfl
theorem q422 : (Jvm.Cond.soleField "LosslessFabric" "ready") ∈ lw_all := lw_g (lw_at lw_m2 82 rfl) rfl
theorem q423 : (Jvm.Cond.laysFinal "LosslessFabric" "LosslessFabric" "gives" "[I") ∈ lw_all := lw_g (lw_at lw_m2 83 rfl) rfl
theorem q424 : (Jvm.Cond.soleField "LosslessFabric" "gives") ∈ lw_all := lw_g (lw_at lw_m2 84 rfl) rfl
theorem q425 : (Jvm.Cond.laysFinal "LosslessFabric" "LosslessFabric" "comes" "[I") ∈ lw_all := lw_g (lw_at lw_m2 85 rfl) rfl
theorem q426 : (Jvm.Cond.soleField "LosslessFabric" "comes") ∈ lw_all := lw_g (lw_at lw_m2 86 rfl) rfl
theorem q427 : (Jvm.Cond.laysFinal "LosslessFabric" "LosslessFabric" "notices" "[LLosslessFabric$Notice;") ∈ lw_all := lw_g (lw_at lw_m2 87 rfl) rfl
theorem q428 : (Jvm.Cond.soleField "LosslessFabric" "notices") ∈ lw_all := lw_g (lw_at lw_m2 88 rfl) rfl
theorem q429 : (Jvm.Cond.lays "LosslessFabric" "LosslessFabric" "noticeMany" "I") ∈ lw_all := lw_g (lw_at lw_m2 89 rfl) rfl
theorem q430 : (Jvm.Cond.soleField "LosslessFabric" "noticeMany") ∈ lw_all := lw_g (lw_at lw_m2 90 rfl) rfl
theorem q431 : (Jvm.Cond.laysFinal "LosslessFabric" "LosslessFabric" "climb" "LLosslessFabric$Climb;") ∈ lw_all := lw_g (lw_at lw_m2 91 rfl) rfl
theorem q432 : (Jvm.Cond.soleField "LosslessFabric" "climb") ∈ lw_all := lw_g (lw_at lw_m2 92 rfl) rfl
theorem q433 : (Jvm.Cond.laysFinal "LosslessFabric" "LosslessFabric" "now" "LLosslessFabric$State;") ∈ lw_all := lw_g (lw_at lw_m2 93 rfl) rfl
theorem q434 : (Jvm.Cond.soleField "LosslessFabric" "now") ∈ lw_all := lw_g (lw_at lw_m2 94 rfl) rfl
theorem q435 : (Jvm.Cond.laysFinal "LosslessFabric" "LosslessFabric" "image" "LLosslessFabric$State;") ∈ lw_all := lw_g (lw_at lw_m2 95 rfl) rfl
theorem q436 : (Jvm.Cond.soleField "LosslessFabric" "image") ∈ lw_all := lw_g (lw_at lw_m2 96 rfl) rfl
theorem q437 : (Jvm.Cond.laysFinal "LosslessFabric" "LosslessFabric" "trial" "LLosslessFabric$State;") ∈ lw_all := lw_g (lw_at lw_m2 97 rfl) rfl
theorem q438 : (Jvm.Cond.soleField "LosslessFabric" "trial") ∈ lw_all := lw_g (lw_at lw_m2 98 rfl) rfl
theorem q439 : (Jvm.Cond.laysFinal "LosslessFabric" "LosslessFabric" "kept" "[LLosslessFabric$State;") ∈ lw_all := lw_g (lw_at lw_m2 99 rfl) rfl
theorem q440 : (Jvm.Cond.soleField "LosslessFabric" "kept") ∈ lw_all := lw_g (lw_at lw_m2 100 rfl) rfl
theorem q441 : (Jvm.Cond.lays "LosslessFabric" "LosslessFabric" "acts" "I") ∈ lw_all := lw_g (lw_at lw_m2 101 rfl) rfl
theorem q442 : (Jvm.Cond.soleField "LosslessFabric" "acts") ∈ lw_all := lw_g (lw_at lw_m2 102 rfl) rfl
theorem q443 : (Jvm.Cond.lays "LosslessFabric" "LosslessFabric" "hasImage" "Z") ∈ lw_all := lw_g (lw_at lw_m2 103 rfl) rfl
theorem q444 : (Jvm.Cond.soleField "LosslessFabric" "hasImage") ∈ lw_all := lw_g (lw_at lw_m2 104 rfl) rfl
theorem q445 : (Jvm.Cond.lays "LosslessFabric" "LosslessFabric" "drawn" "J") ∈ lw_all := lw_g (lw_at lw_m2 105 rfl) rfl
theorem q446 : (Jvm.Cond.soleField "LosslessFabric" "drawn") ∈ lw_all := lw_g (lw_at lw_m2 106 rfl) rfl
theorem q447 : (Jvm.Cond.superclass "LosslessFabric" "java/lang/Object") ∈ lw_all := lw_g (lw_at lw_m2 107 rfl) rfl
theorem q449 : (Jvm.Cond.instanceMethod ({ cls := "LosslessFabric", name := "feed", desc := "(IIIII)I" } : Jvm.MethodName)) ∈ lw_all := lw_g (lw_at lw_m2 109 rfl) rfl
theorem q450 : (Jvm.Cond.selects "LosslessFabric" ({ cls := "LosslessFabric", name := "feed", desc := "(IIIII)I" } : Jvm.MethodName) ({ cls := "LosslessFabric", name := "feed", desc := "(IIIII)I" } : Jvm.MethodName)) ∈ lw_all := lw_g (lw_at lw_m2 110 rfl) rfl
theorem q451 : (Jvm.Cond.code ({ cls := "LosslessFabric", name := "feed", desc := "(IIIII)I" } : Jvm.MethodName) prog_1_method_6_code (8 : Nat) (Option.some Jvm.ClassFile.FieldType.int)) ∈ lw_all := lw_g (lw_at lw_m2 111 rfl) rfl
theorem q453 : (Jvm.Cond.instanceMethod ({ cls := "LosslessFabric", name := "text", desc := "(I)I" } : Jvm.MethodName)) ∈ lw_all := lw_g (lw_at lw_m2 113 rfl) rfl
theorem q454 : (Jvm.Cond.selects "LosslessFabric" ({ cls := "LosslessFabric", name := "text", desc := "(I)I" } : Jvm.MethodName) ({ cls := "LosslessFabric", name := "text", desc := "(I)I" } : Jvm.MethodName)) ∈ lw_all := lw_g (lw_at lw_m2 114 rfl) rfl
theorem q455 : (Jvm.Cond.codeWith ({ cls := "LosslessFabric", name := "text", desc := "(I)I" } : Jvm.MethodName) prog_1_method_7_code (3 : Nat) (Option.some Jvm.ClassFile.FieldType.int) [((32 : Nat), (48 : Nat), (51 : Nat), (90 : Nat))]) ∈ lw_all := lw_g (lw_at lw_m2 115 rfl) rfl
theorem q456 : (Jvm.Cond.classLink "LosslessFabric" (90 : Nat) "LosslessFabric$Fault") ∈ lw_all := lw_g (lw_at lw_m2 116 rfl) rfl
theorem q457 : (Jvm.Cond.methodLink "LosslessFabric" (74 : Nat) ({ cls := "LosslessFabric", name := "isIn", desc := "(JJJ)Z" } : Jvm.MethodName)) ∈ lw_all := lw_g (lw_at lw_m2 117 rfl) rfl
theorem q458 : (Jvm.Cond.static ({ cls := "LosslessFabric", name := "isIn", desc := "(JJJ)Z" } : Jvm.MethodName)) ∈ lw_all := lw_g (lw_at lw_m2 118 rfl) rfl
theorem q459 : (Jvm.Cond.code ({ cls := "LosslessFabric", name := "isIn", desc := "(JJJ)Z" } : Jvm.MethodName) prog_1_method_2_code (6 : Nat) (Option.some Jvm.ClassFile.FieldType.boolean)) ∈ lw_all := lw_g (lw_at lw_m2 119 rfl) rfl
theorem q460 : (Jvm.Cond.classLink "LosslessFabric" (81 : Nat) "LosslessFabric$Reader") ∈ lw_all := lw_g (lw_at lw_m2 120 rfl) rfl
theorem q462 : (Jvm.Cond.methodLink "LosslessFabric" (83 : Nat) ({ cls := "LosslessFabric$Reader", name := "<init>", desc := "(LLosslessFabric;I)V" } : Jvm.MethodName)) ∈ lw_all := lw_g (lw_at lw_m2 122 rfl) rfl
theorem q628 : (Jvm.Cond.methodLink "LosslessFabric" (86 : Nat) ({ cls := "LosslessFabric$Reader", name := "text", desc := "()LLosslessFabric$Told;" } : Jvm.MethodName)) ∈ lw_all := lw_g (lw_at lw_m3 48 rfl) rfl
theorem q686 : (Jvm.Cond.fieldLinkNest "LosslessFabric" (92 : Nat) "LosslessFabric$Fault" "kind" "I" "LosslessFabric") ∈ lw_tbl := lw_at lw_m3 106 rfl
theorem q688 : (Jvm.Cond.fieldLinkNest "LosslessFabric" (95 : Nat) "LosslessFabric$Fault" "place" "I" "LosslessFabric") ∈ lw_tbl := lw_at lw_m3 108 rfl
theorem q732 : (Jvm.Cond.fieldLinkNest "LosslessFabric" (187 : Nat) "LosslessFabric$Link" "cap" "I" "LosslessFabric") ∈ lw_tbl := lw_at lw_m3 152 rfl
theorem q735 : (Jvm.Cond.fieldLinkNest "LosslessFabric" (321 : Nat) "LosslessFabric$Link" "delay" "I" "LosslessFabric") ∈ lw_tbl := lw_at lw_m3 155 rfl
theorem q778 : (Jvm.Cond.fieldLinkNest "LosslessFabric" (208 : Nat) "LosslessFabric$Flow" "path" "[I" "LosslessFabric") ∈ lw_tbl := lw_at lw_m3 198 rfl
theorem q782 : (Jvm.Cond.fieldLinkNest "LosslessFabric" (333 : Nat) "LosslessFabric$Flow" "many" "I" "LosslessFabric") ∈ lw_tbl := lw_at lw_m3 202 rfl
theorem q806 : (Jvm.Cond.instanceMethod ({ cls := "LosslessFabric", name := "fault", desc := "(I)I" } : Jvm.MethodName)) ∈ lw_all := lw_g (lw_at lw_m3 226 rfl) rfl
theorem q807 : (Jvm.Cond.selects "LosslessFabric" ({ cls := "LosslessFabric", name := "fault", desc := "(I)I" } : Jvm.MethodName) ({ cls := "LosslessFabric", name := "fault", desc := "(I)I" } : Jvm.MethodName)) ∈ lw_all := lw_g (lw_at lw_m3 227 rfl) rfl
theorem q808 : (Jvm.Cond.code ({ cls := "LosslessFabric", name := "fault", desc := "(I)I" } : Jvm.MethodName) prog_1_method_8_code (2 : Nat) (Option.some Jvm.ClassFile.FieldType.int)) ∈ lw_all := lw_g (lw_at lw_m3 228 rfl) rfl
theorem q810 : (Jvm.Cond.instanceMethod ({ cls := "LosslessFabric", name := "named", desc := "(II)I" } : Jvm.MethodName)) ∈ lw_all := lw_g (lw_at lw_m3 230 rfl) rfl
theorem q811 : (Jvm.Cond.selects "LosslessFabric" ({ cls := "LosslessFabric", name := "named", desc := "(II)I" } : Jvm.MethodName) ({ cls := "LosslessFabric", name := "named", desc := "(II)I" } : Jvm.MethodName)) ∈ lw_all := lw_g (lw_at lw_m3 231 rfl) rfl
theorem q812 : (Jvm.Cond.code ({ cls := "LosslessFabric", name := "named", desc := "(II)I" } : Jvm.MethodName) prog_1_method_9_code (3 : Nat) (Option.some Jvm.ClassFile.FieldType.int)) ∈ lw_all := lw_g (lw_at lw_m3 232 rfl) rfl
theorem q813 : (Jvm.Cond.methodLink "LosslessFabric" (101 : Nat) ({ cls := "LosslessFabric$Told", name := "link", desc := "(I)I" } : Jvm.MethodName)) ∈ lw_all := lw_g (lw_at lw_m3 233 rfl) rfl
theorem q814 : (Jvm.Cond.methodLink "LosslessFabric" (105 : Nat) ({ cls := "LosslessFabric$Told", name := "flow", desc := "(I)I" } : Jvm.MethodName)) ∈ lw_all := lw_g (lw_at lw_m3 234 rfl) rfl
theorem q816 : (Jvm.Cond.instanceMethod ({ cls := "LosslessFabric", name := "undo", desc := "()I" } : Jvm.MethodName)) ∈ lw_all := lw_g (lw_at lw_m3 236 rfl) rfl
theorem q817 : (Jvm.Cond.selects "LosslessFabric" ({ cls := "LosslessFabric", name := "undo", desc := "()I" } : Jvm.MethodName) ({ cls := "LosslessFabric", name := "undo", desc := "()I" } : Jvm.MethodName)) ∈ lw_all := lw_g (lw_at lw_m3 237 rfl) rfl
theorem q818 : (Jvm.Cond.code ({ cls := "LosslessFabric", name := "undo", desc := "()I" } : Jvm.MethodName) prog_1_method_17_code (1 : Nat) (Option.some Jvm.ClassFile.FieldType.int)) ∈ lw_all := lw_g (lw_at lw_m3 238 rfl) rfl
theorem q819 : (Jvm.Cond.methodLink "LosslessFabric" (281 : Nat) ({ cls := "LosslessFabric$State", name := "like", desc := "(LLosslessFabric$State;)LLosslessFabric$State;" } : Jvm.MethodName)) ∈ lw_all := lw_g (lw_at lw_m3 239 rfl) rfl
theorem q835 : (Jvm.Cond.instanceMethod ({ cls := "LosslessFabric", name := "keep", desc := "()I" } : Jvm.MethodName)) ∈ lw_all := lw_g (lw_at lw_m4 15 rfl) rfl
theorem q836 : (Jvm.Cond.selects "LosslessFabric" ({ cls := "LosslessFabric", name := "keep", desc := "()I" } : Jvm.MethodName) ({ cls := "LosslessFabric", name := "keep", desc := "()I" } : Jvm.MethodName)) ∈ lw_all := lw_g (lw_at lw_m4 16 rfl) rfl
theorem q837 : (Jvm.Cond.code ({ cls := "LosslessFabric", name := "keep", desc := "()I" } : Jvm.MethodName) prog_1_method_18_code (1 : Nat) (Option.some Jvm.ClassFile.FieldType.int)) ∈ lw_all := lw_g (lw_at lw_m4 17 rfl) rfl
theorem q839 : (Jvm.Cond.instanceMethod ({ cls := "LosslessFabric", name := "back", desc := "()I" } : Jvm.MethodName)) ∈ lw_all := lw_g (lw_at lw_m4 19 rfl) rfl
theorem q840 : (Jvm.Cond.selects "LosslessFabric" ({ cls := "LosslessFabric", name := "back", desc := "()I" } : Jvm.MethodName) ({ cls := "LosslessFabric", name := "back", desc := "()I" } : Jvm.MethodName)) ∈ lw_all := lw_g (lw_at lw_m4 20 rfl) rfl
theorem q841 : (Jvm.Cond.code ({ cls := "LosslessFabric", name := "back", desc := "()I" } : Jvm.MethodName) prog_1_method_19_code (1 : Nat) (Option.some Jvm.ClassFile.FieldType.int)) ∈ lw_all := lw_g (lw_at lw_m4 21 rfl) rfl
theorem q843 : (Jvm.Cond.instanceMethod ({ cls := "LosslessFabric", name := "tick", desc := "(I)I" } : Jvm.MethodName)) ∈ lw_all := lw_g (lw_at lw_m4 23 rfl) rfl
theorem q844 : (Jvm.Cond.selects "LosslessFabric" ({ cls := "LosslessFabric", name := "tick", desc := "(I)I" } : Jvm.MethodName) ({ cls := "LosslessFabric", name := "tick", desc := "(I)I" } : Jvm.MethodName)) ∈ lw_all := lw_g (lw_at lw_m4 24 rfl) rfl
theorem q845 : (Jvm.Cond.code ({ cls := "LosslessFabric", name := "tick", desc := "(I)I" } : Jvm.MethodName) prog_1_method_20_code (3 : Nat) (Option.some Jvm.ClassFile.FieldType.int)) ∈ lw_all := lw_g (lw_at lw_m4 25 rfl) rfl
theorem q846 : (Jvm.Cond.constantLong "LosslessFabric" (285 : Nat) (50 : Int64)) ∈ lw_all := lw_g (lw_at lw_m4 26 rfl) rfl
theorem q847 : (Jvm.Cond.methodLink "LosslessFabric" (287 : Nat) ({ cls := "LosslessFabric", name := "canUndo", desc := "()V" } : Jvm.MethodName)) ∈ lw_all := lw_g (lw_at lw_m4 27 rfl) rfl
theorem q848 : (Jvm.Cond.privateMethod ({ cls := "LosslessFabric", name := "canUndo", desc := "()V" } : Jvm.MethodName)) ∈ lw_tbl := lw_at lw_m4 28 rfl
theorem q849 : (Jvm.Cond.instanceMethod ({ cls := "LosslessFabric", name := "canUndo", desc := "()V" } : Jvm.MethodName)) ∈ lw_all := lw_g (lw_at lw_m4 29 rfl) rfl
theorem q850 : (Jvm.Cond.code ({ cls := "LosslessFabric", name := "canUndo", desc := "()V" } : Jvm.MethodName) prog_1_method_16_code (2 : Nat) (Option.none : Option Jvm.ClassFile.FieldType)) ∈ lw_all := lw_g (lw_at lw_m4 30 rfl) rfl
theorem q851 : (Jvm.Cond.methodLink "LosslessFabric" (275 : Nat) ({ cls := "java/lang/System", name := "arraycopy", desc := "(Ljava/lang/Object;ILjava/lang/Object;II)V" } : Jvm.MethodName)) ∈ lw_all := lw_g (lw_at lw_m4 31 rfl) rfl
theorem q852 : (Jvm.Cond.methodLink "LosslessFabric" (290 : Nat) ({ cls := "LosslessFabric", name := "ticks", desc := "(LLosslessFabric$State;)V" } : Jvm.MethodName)) ∈ lw_all := lw_g (lw_at lw_m4 32 rfl) rfl
theorem q853 : (Jvm.Cond.privateMethod ({ cls := "LosslessFabric", name := "ticks", desc := "(LLosslessFabric$State;)V" } : Jvm.MethodName)) ∈ lw_tbl := lw_at lw_m4 33 rfl
theorem q854 : (Jvm.Cond.instanceMethod ({ cls := "LosslessFabric", name := "ticks", desc := "(LLosslessFabric$State;)V" } : Jvm.MethodName)) ∈ lw_all := lw_g (lw_at lw_m4 34 rfl) rfl
theorem q855 : (Jvm.Cond.code ({ cls := "LosslessFabric", name := "ticks", desc := "(LLosslessFabric$State;)V" } : Jvm.MethodName) prog_1_method_10_code (4 : Nat) (Option.none : Option Jvm.ClassFile.FieldType)) ∈ lw_all := lw_g (lw_at lw_m4 35 rfl) rfl
theorem q856 : (Jvm.Cond.methodLink "LosslessFabric" (132 : Nat) ({ cls := "java/lang/Math", name := "min", desc := "(II)I" } : Jvm.MethodName)) ∈ lw_all := lw_g (lw_at lw_m4 36 rfl) rfl
theorem q857 : (Jvm.Cond.methodLink "LosslessFabric" (141 : Nat) ({ cls := "LosslessFabric$State", name := "ready", desc := "(II)I" } : Jvm.MethodName)) ∈ lw_all := lw_g (lw_at lw_m4 37 rfl) rfl
theorem q862 : (Jvm.Cond.methodLink "LosslessFabric" (143 : Nat) ({ cls := "LosslessFabric", name := "carries", desc := "(LLosslessFabric$State;I)V" } : Jvm.MethodName)) ∈ lw_all := lw_g (lw_at lw_m4 42 rfl) rfl
theorem q863 : (Jvm.Cond.privateMethod ({ cls := "LosslessFabric", name := "carries", desc := "(LLosslessFabric$State;I)V" } : Jvm.MethodName)) ∈ lw_tbl := lw_at lw_m4 43 rfl
theorem q864 : (Jvm.Cond.instanceMethod ({ cls := "LosslessFabric", name := "carries", desc := "(LLosslessFabric$State;I)V" } : Jvm.MethodName)) ∈ lw_all := lw_g (lw_at lw_m4 44 rfl) rfl
theorem q865 : (Jvm.Cond.code ({ cls := "LosslessFabric", name := "carries", desc := "(LLosslessFabric$State;I)V" } : Jvm.MethodName) prog_1_method_11_code (7 : Nat) (Option.none : Option Jvm.ClassFile.FieldType)) ∈ lw_all := lw_g (lw_at lw_m4 45 rfl) rfl
theorem q866 : (Jvm.Cond.methodLink "LosslessFabric" (179 : Nat) ({ cls := "LosslessFabric$State", name := "isPaused", desc := "(I)Z" } : Jvm.MethodName)) ∈ lw_all := lw_g (lw_at lw_m4 46 rfl) rfl
theorem q870 : (Jvm.Cond.methodLink "LosslessFabric" (195 : Nat) ({ cls := "LosslessFabric", name := "leaves", desc := "(LLosslessFabric$State;III)V" } : Jvm.MethodName)) ∈ lw_all := lw_g (lw_at lw_m4 50 rfl) rfl
theorem q871 : (Jvm.Cond.privateMethod ({ cls := "LosslessFabric", name := "leaves", desc := "(LLosslessFabric$State;III)V" } : Jvm.MethodName)) ∈ lw_tbl := lw_at lw_m4 51 rfl
theorem q872 : (Jvm.Cond.instanceMethod ({ cls := "LosslessFabric", name := "leaves", desc := "(LLosslessFabric$State;III)V" } : Jvm.MethodName)) ∈ lw_all := lw_g (lw_at lw_m4 52 rfl) rfl
theorem q873 : (Jvm.Cond.code ({ cls := "LosslessFabric", name := "leaves", desc := "(LLosslessFabric$State;III)V" } : Jvm.MethodName) prog_1_method_12_code (8 : Nat) (Option.none : Option Jvm.ClassFile.FieldType)) ∈ lw_all := lw_g (lw_at lw_m4 53 rfl) rfl
theorem q874 : (Jvm.Cond.methodLink "LosslessFabric" (203 : Nat) ({ cls := "LosslessFabric$Flow", name := "at", desc := "(I)I" } : Jvm.MethodName)) ∈ lw_all := lw_g (lw_at lw_m4 54 rfl) rfl
theorem q875 : (Jvm.Cond.methodLink "LosslessFabric" (147 : Nat) ({ cls := "LosslessFabric", name := "arrives", desc := "(LLosslessFabric$State;I)V" } : Jvm.MethodName)) ∈ lw_all := lw_g (lw_at lw_m4 55 rfl) rfl
theorem q876 : (Jvm.Cond.privateMethod ({ cls := "LosslessFabric", name := "arrives", desc := "(LLosslessFabric$State;I)V" } : Jvm.MethodName)) ∈ lw_tbl := lw_at lw_m4 56 rfl
theorem q877 : (Jvm.Cond.instanceMethod ({ cls := "LosslessFabric", name := "arrives", desc := "(LLosslessFabric$State;I)V" } : Jvm.MethodName)) ∈ lw_all := lw_g (lw_at lw_m4 57 rfl) rfl
theorem q878 : (Jvm.Cond.code ({ cls := "LosslessFabric", name := "arrives", desc := "(LLosslessFabric$State;I)V" } : Jvm.MethodName) prog_1_method_13_code (6 : Nat) (Option.none : Option Jvm.ClassFile.FieldType)) ∈ lw_all := lw_g (lw_at lw_m4 58 rfl) rfl
theorem q879 : (Jvm.Cond.methodLink "LosslessFabric" (217 : Nat) ({ cls := "LosslessFabric$Flow", name := "isLast", desc := "(I)Z" } : Jvm.MethodName)) ∈ lw_all := lw_g (lw_at lw_m4 59 rfl) rfl
theorem q883 : (Jvm.Cond.methodLink "LosslessFabric" (226 : Nat) ({ cls := "LosslessFabric$End", name := "queue", desc := "()I" } : Jvm.MethodName)) ∈ lw_all := lw_g (lw_at lw_m4 63 rfl) rfl
theorem q887 : (Jvm.Cond.methodLink "LosslessFabric" (230 : Nat) ({ cls := "java/lang/Math", name := "max", desc := "(II)I" } : Jvm.MethodName)) ∈ lw_all := lw_g (lw_at lw_m4 67 rfl) rfl
theorem q888 : (Jvm.Cond.methodLink "LosslessFabric" (154 : Nat) ({ cls := "LosslessFabric$End", name := "asks", desc := "()V" } : Jvm.MethodName)) ∈ lw_all := lw_g (lw_at lw_m4 68 rfl) rfl
theorem q893 : (Jvm.Cond.methodLink "LosslessFabric" (162 : Nat) ({ cls := "LosslessFabric", name := "samples", desc := "(LLosslessFabric$State;I)V" } : Jvm.MethodName)) ∈ lw_all := lw_g (lw_at lw_m4 73 rfl) rfl
theorem q894 : (Jvm.Cond.privateMethod ({ cls := "LosslessFabric", name := "samples", desc := "(LLosslessFabric$State;I)V" } : Jvm.MethodName)) ∈ lw_tbl := lw_at lw_m4 74 rfl
theorem q895 : (Jvm.Cond.instanceMethod ({ cls := "LosslessFabric", name := "samples", desc := "(LLosslessFabric$State;I)V" } : Jvm.MethodName)) ∈ lw_all := lw_g (lw_at lw_m4 75 rfl) rfl
theorem q896 : (Jvm.Cond.code ({ cls := "LosslessFabric", name := "samples", desc := "(LLosslessFabric$State;I)V" } : Jvm.MethodName) prog_1_method_14_code (7 : Nat) (Option.none : Option Jvm.ClassFile.FieldType)) ∈ lw_all := lw_g (lw_at lw_m4 76 rfl) rfl
theorem q897 : (Jvm.Cond.methodLink "LosslessFabric" (248 : Nat) ({ cls := "LosslessFabric$State", name := "feedback", desc := "(I)I" } : Jvm.MethodName)) ∈ lw_all := lw_g (lw_at lw_m4 77 rfl) rfl
theorem q902 : (Jvm.Cond.methodLink "LosslessFabric" (251 : Nat) ({ cls := "LosslessFabric$State", name := "noticeOf", desc := "(I)I" } : Jvm.MethodName)) ∈ lw_all := lw_g (lw_at lw_m4 82 rfl) rfl
theorem q915 : (Jvm.Cond.static ({ cls := "LosslessFabric", name := "lambda$samples$1", desc := "(IILLosslessFabric$State;)V" } : Jvm.MethodName)) ∈ lw_all := lw_g (lw_at lw_m4 95 rfl) rfl
theorem q916 : (Jvm.Cond.code ({ cls := "LosslessFabric", name := "lambda$samples$1", desc := "(IILLosslessFabric$State;)V" } : Jvm.MethodName) prog_1_method_61_code (3 : Nat) (Option.none : Option Jvm.ClassFile.FieldType)) ∈ lw_all := lw_g (lw_at lw_m4 96 rfl) rfl
theorem q917 : (Jvm.Cond.methodLink "LosslessFabric" (469 : Nat) ({ cls := "LosslessFabric$Sender", name := "cuts", desc := "(I)V" } : Jvm.MethodName)) ∈ lw_all := lw_g (lw_at lw_m4 97 rfl) rfl
theorem q922 : (Jvm.Cond.methodLink "LosslessFabric" (262 : Nat) ({ cls := "LosslessFabric$Notice", name := "<init>", desc := "(LLosslessFabric$Deed;)V" } : Jvm.MethodName)) ∈ lw_all := lw_g (lw_at lw_m4 102 rfl) rfl
theorem q927 : (Jvm.Cond.fieldLinkNest "LosslessFabric" (165 : Nat) "LosslessFabric$Notice" "deed" "LLosslessFabric$Deed;" "LosslessFabric") ∈ lw_tbl := lw_at lw_m4 107 rfl
theorem q931 : (Jvm.Cond.interfaceEntry "LosslessFabric" (169 : Nat)) ∈ lw_tbl := lw_at lw_m4 111 rfl
theorem q932 : (Jvm.Cond.methodLink "LosslessFabric" (169 : Nat) ({ cls := "LosslessFabric$Deed", name := "does", desc := "(LLosslessFabric$State;)V" } : Jvm.MethodName)) ∈ lw_all := lw_g (lw_at lw_m4 112 rfl) rfl
theorem q935 : (Jvm.Cond.methodLink "LosslessFabric" (175 : Nat) ({ cls := "LosslessFabric$Sender", name := "recovers", desc := "(LLosslessFabric$Told;LLosslessFabric$Climb;)V" } : Jvm.MethodName)) ∈ lw_all := lw_g (lw_at lw_m4 115 rfl) rfl
theorem q949 : (Jvm.Cond.instanceMethod ({ cls := "LosslessFabric", name := "rate", desc := "(II)I" } : Jvm.MethodName)) ∈ lw_all := lw_g (lw_at lw_m4 129 rfl) rfl
theorem q950 : (Jvm.Cond.selects "LosslessFabric" ({ cls := "LosslessFabric", name := "rate", desc := "(II)I" } : Jvm.MethodName) ({ cls := "LosslessFabric", name := "rate", desc := "(II)I" } : Jvm.MethodName)) ∈ lw_all := lw_g (lw_at lw_m4 130 rfl) rfl
theorem q951 : (Jvm.Cond.code ({ cls := "LosslessFabric", name := "rate", desc := "(II)I" } : Jvm.MethodName) prog_1_method_23_code (5 : Nat) (Option.some Jvm.ClassFile.FieldType.int)) ∈ lw_all := lw_g (lw_at lw_m4 131 rfl) rfl
theorem q952 : (Jvm.Cond.methodLink "LosslessFabric" (297 : Nat) ({ cls := "LosslessFabric", name := "isFlow", desc := "(I)Z" } : Jvm.MethodName)) ∈ lw_all := lw_g (lw_at lw_m4 132 rfl) rfl
theorem q953 : (Jvm.Cond.privateMethod ({ cls := "LosslessFabric", name := "isFlow", desc := "(I)Z" } : Jvm.MethodName)) ∈ lw_tbl := lw_at lw_m4 133 rfl
theorem q954 : (Jvm.Cond.instanceMethod ({ cls := "LosslessFabric", name := "isFlow", desc := "(I)Z" } : Jvm.MethodName)) ∈ lw_all := lw_g (lw_at lw_m4 134 rfl) rfl
theorem q955 : (Jvm.Cond.code ({ cls := "LosslessFabric", name := "isFlow", desc := "(I)Z" } : Jvm.MethodName) prog_1_method_22_code (2 : Nat) (Option.some Jvm.ClassFile.FieldType.boolean)) ∈ lw_all := lw_g (lw_at lw_m4 135 rfl) rfl
theorem q956 : (Jvm.Cond.methodLink "LosslessFabric" (293 : Nat) ({ cls := "LosslessFabric", name := "areIn", desc := "(II[I)Z" } : Jvm.MethodName)) ∈ lw_all := lw_g (lw_at lw_m4 136 rfl) rfl
theorem q957 : (Jvm.Cond.static ({ cls := "LosslessFabric", name := "areIn", desc := "(II[I)Z" } : Jvm.MethodName)) ∈ lw_all := lw_g (lw_at lw_m4 137 rfl) rfl
theorem q958 : (Jvm.Cond.code ({ cls := "LosslessFabric", name := "areIn", desc := "(II[I)Z" } : Jvm.MethodName) prog_1_method_3_code (8 : Nat) (Option.some Jvm.ClassFile.FieldType.boolean)) ∈ lw_all := lw_g (lw_at lw_m4 138 rfl) rfl
theorem q959 : (Jvm.Cond.constantLong "LosslessFabric" (300 : Nat) (1024 : Int64)) ∈ lw_all := lw_g (lw_at lw_m4 139 rfl) rfl
theorem q961 : (Jvm.Cond.instanceMethod ({ cls := "LosslessFabric", name := "turn", desc := "(I)I" } : Jvm.MethodName)) ∈ lw_all := lw_g (lw_at lw_m4 141 rfl) rfl
theorem q962 : (Jvm.Cond.selects "LosslessFabric" ({ cls := "LosslessFabric", name := "turn", desc := "(I)I" } : Jvm.MethodName) ({ cls := "LosslessFabric", name := "turn", desc := "(I)I" } : Jvm.MethodName)) ∈ lw_all := lw_g (lw_at lw_m4 142 rfl) rfl
theorem q963 : (Jvm.Cond.code ({ cls := "LosslessFabric", name := "turn", desc := "(I)I" } : Jvm.MethodName) prog_1_method_24_code (2 : Nat) (Option.some Jvm.ClassFile.FieldType.int)) ∈ lw_all := lw_g (lw_at lw_m4 143 rfl) rfl
theorem q965 : (Jvm.Cond.instanceMethod ({ cls := "LosslessFabric", name := "bounds", desc := "(III)Z" } : Jvm.MethodName)) ∈ lw_all := lw_g (lw_at lw_m4 145 rfl) rfl
theorem q966 : (Jvm.Cond.selects "LosslessFabric" ({ cls := "LosslessFabric", name := "bounds", desc := "(III)Z" } : Jvm.MethodName) ({ cls := "LosslessFabric", name := "bounds", desc := "(III)Z" } : Jvm.MethodName)) ∈ lw_all := lw_g (lw_at lw_m4 146 rfl) rfl
theorem q967 : (Jvm.Cond.code ({ cls := "LosslessFabric", name := "bounds", desc := "(III)Z" } : Jvm.MethodName) prog_1_method_25_code (4 : Nat) (Option.some Jvm.ClassFile.FieldType.boolean)) ∈ lw_all := lw_g (lw_at lw_m4 147 rfl) rfl
theorem q968 : (Jvm.Cond.methodLink "LosslessFabric" (305 : Nat) ({ cls := "LosslessFabric", name := "isLink", desc := "(I)Z" } : Jvm.MethodName)) ∈ lw_all := lw_g (lw_at lw_m4 148 rfl) rfl
theorem q969 : (Jvm.Cond.privateMethod ({ cls := "LosslessFabric", name := "isLink", desc := "(I)Z" } : Jvm.MethodName)) ∈ lw_tbl := lw_at lw_m4 149 rfl
theorem q970 : (Jvm.Cond.instanceMethod ({ cls := "LosslessFabric", name := "isLink", desc := "(I)Z" } : Jvm.MethodName)) ∈ lw_all := lw_g (lw_at lw_m4 150 rfl) rfl
theorem q971 : (Jvm.Cond.code ({ cls := "LosslessFabric", name := "isLink", desc := "(I)Z" } : Jvm.MethodName) prog_1_method_21_code (2 : Nat) (Option.some Jvm.ClassFile.FieldType.boolean)) ∈ lw_all := lw_g (lw_at lw_m4 151 rfl) rfl
theorem q972 : (Jvm.Cond.constantLong "LosslessFabric" (308 : Nat) (999 : Int64)) ∈ lw_all := lw_g (lw_at lw_m4 152 rfl) rfl
theorem q974 : (Jvm.Cond.instanceMethod ({ cls := "LosslessFabric", name := "size", desc := "(II)I" } : Jvm.MethodName)) ∈ lw_all := lw_g (lw_at lw_m4 154 rfl) rfl
theorem q975 : (Jvm.Cond.selects "LosslessFabric" ({ cls := "LosslessFabric", name := "size", desc := "(II)I" } : Jvm.MethodName) ({ cls := "LosslessFabric", name := "size", desc := "(II)I" } : Jvm.MethodName)) ∈ lw_all := lw_g (lw_at lw_m4 155 rfl) rfl
theorem q976 : (Jvm.Cond.code ({ cls := "LosslessFabric", name := "size", desc := "(II)I" } : Jvm.MethodName) prog_1_method_26_code (4 : Nat) (Option.some Jvm.ClassFile.FieldType.int)) ∈ lw_all := lw_g (lw_at lw_m4 156 rfl) rfl
theorem q977 : (Jvm.Cond.constantLong "LosslessFabric" (316 : Nat) (1999 : Int64)) ∈ lw_all := lw_g (lw_at lw_m4 157 rfl) rfl
theorem q979 : (Jvm.Cond.instanceMethod ({ cls := "LosslessFabric", name := "queue", desc := "(II)I" } : Jvm.MethodName)) ∈ lw_all := lw_g (lw_at lw_m4 159 rfl) rfl
theorem q980 : (Jvm.Cond.selects "LosslessFabric" ({ cls := "LosslessFabric", name := "queue", desc := "(II)I" } : Jvm.MethodName) ({ cls := "LosslessFabric", name := "queue", desc := "(II)I" } : Jvm.MethodName)) ∈ lw_all := lw_g (lw_at lw_m4 160 rfl) rfl
theorem q981 : (Jvm.Cond.code ({ cls := "LosslessFabric", name := "queue", desc := "(II)I" } : Jvm.MethodName) prog_1_method_28_code (3 : Nat) (Option.some Jvm.ClassFile.FieldType.int)) ∈ lw_all := lw_g (lw_at lw_m4 161 rfl) rfl
theorem q983 : (Jvm.Cond.instanceMethod ({ cls := "LosslessFabric", name := "flow", desc := "(II)I" } : Jvm.MethodName)) ∈ lw_all := lw_g (lw_at lw_m4 163 rfl) rfl
theorem q984 : (Jvm.Cond.selects "LosslessFabric" ({ cls := "LosslessFabric", name := "flow", desc := "(II)I" } : Jvm.MethodName) ({ cls := "LosslessFabric", name := "flow", desc := "(II)I" } : Jvm.MethodName)) ∈ lw_all := lw_g (lw_at lw_m4 164 rfl) rfl
theorem q985 : (Jvm.Cond.code ({ cls := "LosslessFabric", name := "flow", desc := "(II)I" } : Jvm.MethodName) prog_1_method_29_code (4 : Nat) (Option.some Jvm.ClassFile.FieldType.int)) ∈ lw_all := lw_g (lw_at lw_m4 165 rfl) rfl
theorem q987 : (Jvm.Cond.instanceMethod ({ cls := "LosslessFabric", name := "path", desc := "(II)I" } : Jvm.MethodName)) ∈ lw_all := lw_g (lw_at lw_m4 167 rfl) rfl
theorem q988 : (Jvm.Cond.selects "LosslessFabric" ({ cls := "LosslessFabric", name := "path", desc := "(II)I" } : Jvm.MethodName) ({ cls := "LosslessFabric", name := "path", desc := "(II)I" } : Jvm.MethodName)) ∈ lw_all := lw_g (lw_at lw_m4 168 rfl) rfl
theorem q989 : (Jvm.Cond.code ({ cls := "LosslessFabric", name := "path", desc := "(II)I" } : Jvm.MethodName) prog_1_method_30_code (3 : Nat) (Option.some Jvm.ClassFile.FieldType.int)) ∈ lw_all := lw_g (lw_at lw_m4 169 rfl) rfl
theorem q991 : (Jvm.Cond.instanceMethod ({ cls := "LosslessFabric", name := "onWay", desc := "(I)I" } : Jvm.MethodName)) ∈ lw_all := lw_g (lw_at lw_m4 171 rfl) rfl
theorem q992 : (Jvm.Cond.selects "LosslessFabric" ({ cls := "LosslessFabric", name := "onWay", desc := "(I)I" } : Jvm.MethodName) ({ cls := "LosslessFabric", name := "onWay", desc := "(I)I" } : Jvm.MethodName)) ∈ lw_all := lw_g (lw_at lw_m4 172 rfl) rfl
theorem q993 : (Jvm.Cond.code ({ cls := "LosslessFabric", name := "onWay", desc := "(I)I" } : Jvm.MethodName) prog_1_method_31_code (3 : Nat) (Option.some Jvm.ClassFile.FieldType.int)) ∈ lw_all := lw_g (lw_at lw_m4 173 rfl) rfl
theorem q995 : (Jvm.Cond.instanceMethod ({ cls := "LosslessFabric", name := "feedback", desc := "(I)I" } : Jvm.MethodName)) ∈ lw_all := lw_g (lw_at lw_m4 175 rfl) rfl
theorem q996 : (Jvm.Cond.selects "LosslessFabric" ({ cls := "LosslessFabric", name := "feedback", desc := "(I)I" } : Jvm.MethodName) ({ cls := "LosslessFabric", name := "feedback", desc := "(I)I" } : Jvm.MethodName)) ∈ lw_all := lw_g (lw_at lw_m4 176 rfl) rfl
theorem q997 : (Jvm.Cond.code ({ cls := "LosslessFabric", name := "feedback", desc := "(I)I" } : Jvm.MethodName) prog_1_method_32_code (2 : Nat) (Option.some Jvm.ClassFile.FieldType.int)) ∈ lw_all := lw_g (lw_at lw_m4 177 rfl) rfl
theorem q998 : (Jvm.Cond.constant "LosslessFabric" (342 : Nat) (-2147483648 : Int32)) ∈ lw_all := lw_g (lw_at lw_m4 178 rfl) rfl
theorem q1000 : (Jvm.Cond.instanceMethod ({ cls := "LosslessFabric", name := "notice", desc := "(I)I" } : Jvm.MethodName)) ∈ lw_all := lw_g (lw_at lw_m4 180 rfl) rfl
theorem q1001 : (Jvm.Cond.selects "LosslessFabric" ({ cls := "LosslessFabric", name := "notice", desc := "(I)I" } : Jvm.MethodName) ({ cls := "LosslessFabric", name := "notice", desc := "(I)I" } : Jvm.MethodName)) ∈ lw_all := lw_g (lw_at lw_m4 181 rfl) rfl
theorem q1002 : (Jvm.Cond.code ({ cls := "LosslessFabric", name := "notice", desc := "(I)I" } : Jvm.MethodName) prog_1_method_33_code (2 : Nat) (Option.some Jvm.ClassFile.FieldType.int)) ∈ lw_all := lw_g (lw_at lw_m4 182 rfl) rfl
theorem q1004 : (Jvm.Cond.instanceMethod ({ cls := "LosslessFabric", name := "headroom", desc := "(I)I" } : Jvm.MethodName)) ∈ lw_all := lw_g (lw_at lw_m4 184 rfl) rfl
theorem q1005 : (Jvm.Cond.selects "LosslessFabric" ({ cls := "LosslessFabric", name := "headroom", desc := "(I)I" } : Jvm.MethodName) ({ cls := "LosslessFabric", name := "headroom", desc := "(I)I" } : Jvm.MethodName)) ∈ lw_all := lw_g (lw_at lw_m4 185 rfl) rfl
theorem q1006 : (Jvm.Cond.code ({ cls := "LosslessFabric", name := "headroom", desc := "(I)I" } : Jvm.MethodName) prog_1_method_35_code (2 : Nat) (Option.some Jvm.ClassFile.FieldType.int)) ∈ lw_all := lw_g (lw_at lw_m4 186 rfl) rfl
theorem q1007 : (Jvm.Cond.methodLink "LosslessFabric" (343 : Nat) ({ cls := "LosslessFabric", name := "headroomOf", desc := "(I)I" } : Jvm.MethodName)) ∈ lw_all := lw_g (lw_at lw_m4 187 rfl) rfl
theorem q1008 : (Jvm.Cond.privateMethod ({ cls := "LosslessFabric", name := "headroomOf", desc := "(I)I" } : Jvm.MethodName)) ∈ lw_tbl := lw_at lw_m4 188 rfl
theorem q1009 : (Jvm.Cond.instanceMethod ({ cls := "LosslessFabric", name := "headroomOf", desc := "(I)I" } : Jvm.MethodName)) ∈ lw_all := lw_g (lw_at lw_m4 189 rfl) rfl
theorem q1010 : (Jvm.Cond.code ({ cls := "LosslessFabric", name := "headroomOf", desc := "(I)I" } : Jvm.MethodName) prog_1_method_34_code (2 : Nat) (Option.some Jvm.ClassFile.FieldType.int)) ∈ lw_all := lw_g (lw_at lw_m4 190 rfl) rfl
theorem q1012 : (Jvm.Cond.instanceMethod ({ cls := "LosslessFabric", name := "safe", desc := "()I" } : Jvm.MethodName)) ∈ lw_all := lw_g (lw_at lw_m4 192 rfl) rfl
theorem q1013 : (Jvm.Cond.selects "LosslessFabric" ({ cls := "LosslessFabric", name := "safe", desc := "()I" } : Jvm.MethodName) ({ cls := "LosslessFabric", name := "safe", desc := "()I" } : Jvm.MethodName)) ∈ lw_all := lw_g (lw_at lw_m4 193 rfl) rfl
theorem q1014 : (Jvm.Cond.code ({ cls := "LosslessFabric", name := "safe", desc := "()I" } : Jvm.MethodName) prog_1_method_36_code (3 : Nat) (Option.some Jvm.ClassFile.FieldType.int)) ∈ lw_all := lw_g (lw_at lw_m4 194 rfl) rfl
theorem q1015 : (Jvm.Cond.fieldLink "LosslessFabric" (68 : Nat) "LosslessFabric" "BITS" "[I") ∈ lw_all := lw_g (lw_at lw_m4 195 rfl) rfl
theorem q1016 : (Jvm.Cond.laysStatic "LosslessFabric" "BITS" "[I") ∈ lw_tbl := lw_at lw_m4 196 rfl
theorem q1018 : (Jvm.Cond.instanceMethod ({ cls := "LosslessFabric", name := "waits", desc := "(I)I" } : Jvm.MethodName)) ∈ lw_all := lw_g (lw_at lw_m4 198 rfl) rfl
theorem q1019 : (Jvm.Cond.selects "LosslessFabric" ({ cls := "LosslessFabric", name := "waits", desc := "(I)I" } : Jvm.MethodName) ({ cls := "LosslessFabric", name := "waits", desc := "(I)I" } : Jvm.MethodName)) ∈ lw_all := lw_g (lw_at lw_m4 199 rfl) rfl
theorem q1020 : (Jvm.Cond.code ({ cls := "LosslessFabric", name := "waits", desc := "(I)I" } : Jvm.MethodName) prog_1_method_39_code (4 : Nat) (Option.some Jvm.ClassFile.FieldType.int)) ∈ lw_all := lw_g (lw_at lw_m4 200 rfl) rfl
theorem q1021 : (Jvm.Cond.methodLink "LosslessFabric" (358 : Nat) ({ cls := "LosslessFabric$State", name := "waits", desc := "(II)Z" } : Jvm.MethodName)) ∈ lw_all := lw_g (lw_at lw_m4 201 rfl) rfl
theorem q1039 : (Jvm.Cond.instanceMethod ({ cls := "LosslessFabric", name := "cycle", desc := "(I)I" } : Jvm.MethodName)) ∈ lw_all := lw_g (lw_at lw_m4 219 rfl) rfl
theorem q1040 : (Jvm.Cond.selects "LosslessFabric" ({ cls := "LosslessFabric", name := "cycle", desc := "(I)I" } : Jvm.MethodName) ({ cls := "LosslessFabric", name := "cycle", desc := "(I)I" } : Jvm.MethodName)) ∈ lw_all := lw_g (lw_at lw_m4 220 rfl) rfl
theorem q1041 : (Jvm.Cond.code ({ cls := "LosslessFabric", name := "cycle", desc := "(I)I" } : Jvm.MethodName) prog_1_method_40_code (3 : Nat) (Option.some Jvm.ClassFile.FieldType.int)) ∈ lw_all := lw_g (lw_at lw_m4 221 rfl) rfl
theorem q1042 : (Jvm.Cond.methodLink "LosslessFabric" (362 : Nat) ({ cls := "LosslessFabric", name := "paused", desc := "(LLosslessFabric$State;)LLosslessFabric$Cycle;" } : Jvm.MethodName)) ∈ lw_all := lw_g (lw_at lw_m4 222 rfl) rfl
theorem q1043 : (Jvm.Cond.privateMethod ({ cls := "LosslessFabric", name := "paused", desc := "(LLosslessFabric$State;)LLosslessFabric$Cycle;" } : Jvm.MethodName)) ∈ lw_tbl := lw_at lw_m4 223 rfl
theorem q1044 : (Jvm.Cond.instanceMethod ({ cls := "LosslessFabric", name := "paused", desc := "(LLosslessFabric$State;)LLosslessFabric$Cycle;" } : Jvm.MethodName)) ∈ lw_all := lw_g (lw_at lw_m4 224 rfl) rfl
theorem q1045 : (Jvm.Cond.code ({ cls := "LosslessFabric", name := "paused", desc := "(LLosslessFabric$State;)LLosslessFabric$Cycle;" } : Jvm.MethodName) prog_1_method_38_code (2 : Nat) (Option.some (Jvm.ClassFile.FieldType.object "LosslessFabric$Cycle"))) ∈ lw_all := lw_g (lw_at lw_m4 225 rfl) rfl
theorem q1046 : (Jvm.Cond.classLink "LosslessFabric" (349 : Nat) "LosslessFabric$Cycle") ∈ lw_all := lw_g (lw_at lw_m4 226 rfl) rfl
theorem q1048 : (Jvm.Cond.static ({ cls := "LosslessFabric", name := "lambda$paused$2", desc := "(LLosslessFabric$State;II)Z" } : Jvm.MethodName)) ∈ lw_all := lw_g (lw_at lw_m4 228 rfl) rfl
theorem q1049 : (Jvm.Cond.code ({ cls := "LosslessFabric", name := "lambda$paused$2", desc := "(LLosslessFabric$State;II)Z" } : Jvm.MethodName) prog_1_method_60_code (3 : Nat) (Option.some Jvm.ClassFile.FieldType.boolean)) ∈ lw_all := lw_g (lw_at lw_m4 229 rfl) rfl
theorem q1050 : (Jvm.Cond.methodLink "LosslessFabric" (355 : Nat) ({ cls := "LosslessFabric$Cycle", name := "<init>", desc := "(LLosslessFabric;LLosslessFabric$Edge;)V" } : Jvm.MethodName)) ∈ lw_all := lw_g (lw_at lw_m4 230 rfl) rfl
theorem q1057 : (Jvm.Cond.fieldLinkNest "LosslessFabric" (371 : Nat) "LosslessFabric$Cycle" "row" "[I" "LosslessFabric") ∈ lw_tbl := lw_at lw_m4 237 rfl
theorem q1059 : (Jvm.Cond.fieldLinkNest "LosslessFabric" (370 : Nat) "LosslessFabric$Cycle" "many" "I" "LosslessFabric") ∈ lw_tbl := lw_at lw_m4 239 rfl
theorem q1072 : (Jvm.Cond.methodLink "LosslessFabric" (366 : Nat) ({ cls := "LosslessFabric$Cycle", name := "first", desc := "()LLosslessFabric$Cycle;" } : Jvm.MethodName)) ∈ lw_all := lw_g (lw_at lw_m5 12 rfl) rfl
theorem q1102 : (Jvm.Cond.instanceMethod ({ cls := "LosslessFabric", name := "witness", desc := "(I)I" } : Jvm.MethodName)) ∈ lw_all := lw_g (lw_at lw_m5 42 rfl) rfl
theorem q1103 : (Jvm.Cond.selects "LosslessFabric" ({ cls := "LosslessFabric", name := "witness", desc := "(I)I" } : Jvm.MethodName) ({ cls := "LosslessFabric", name := "witness", desc := "(I)I" } : Jvm.MethodName)) ∈ lw_all := lw_g (lw_at lw_m5 43 rfl) rfl
theorem q1104 : (Jvm.Cond.code ({ cls := "LosslessFabric", name := "witness", desc := "(I)I" } : Jvm.MethodName) prog_1_method_41_code (3 : Nat) (Option.some Jvm.ClassFile.FieldType.int)) ∈ lw_all := lw_g (lw_at lw_m5 44 rfl) rfl
theorem q1105 : (Jvm.Cond.methodLink "LosslessFabric" (374 : Nat) ({ cls := "LosslessFabric$State", name := "waitsBy", desc := "(II)I" } : Jvm.MethodName)) ∈ lw_all := lw_g (lw_at lw_m5 45 rfl) rfl
theorem q1107 : (Jvm.Cond.instanceMethod ({ cls := "LosslessFabric", name := "inCycles", desc := "(I)I" } : Jvm.MethodName)) ∈ lw_all := lw_g (lw_at lw_m5 47 rfl) rfl
theorem q1108 : (Jvm.Cond.selects "LosslessFabric" ({ cls := "LosslessFabric", name := "inCycles", desc := "(I)I" } : Jvm.MethodName) ({ cls := "LosslessFabric", name := "inCycles", desc := "(I)I" } : Jvm.MethodName)) ∈ lw_all := lw_g (lw_at lw_m5 48 rfl) rfl
theorem q1109 : (Jvm.Cond.code ({ cls := "LosslessFabric", name := "inCycles", desc := "(I)I" } : Jvm.MethodName) prog_1_method_42_code (3 : Nat) (Option.some Jvm.ClassFile.FieldType.int)) ∈ lw_all := lw_g (lw_at lw_m5 49 rfl) rfl
theorem q1110 : (Jvm.Cond.privateMethod ({ cls := "LosslessFabric", name := "lambda$inCycles$3", desc := "(II)Z" } : Jvm.MethodName)) ∈ lw_tbl := lw_at lw_m5 50 rfl
theorem q1111 : (Jvm.Cond.instanceMethod ({ cls := "LosslessFabric", name := "lambda$inCycles$3", desc := "(II)Z" } : Jvm.MethodName)) ∈ lw_all := lw_g (lw_at lw_m5 51 rfl) rfl
theorem q1112 : (Jvm.Cond.code ({ cls := "LosslessFabric", name := "lambda$inCycles$3", desc := "(II)Z" } : Jvm.MethodName) prog_1_method_59_code (3 : Nat) (Option.some Jvm.ClassFile.FieldType.boolean)) ∈ lw_all := lw_g (lw_at lw_m5 52 rfl) rfl
theorem q1113 : (Jvm.Cond.methodLink "LosslessFabric" (466 : Nat) ({ cls := "LosslessFabric", name := "mayWait", desc := "(II)Z" } : Jvm.MethodName)) ∈ lw_all := lw_g (lw_at lw_m5 53 rfl) rfl
theorem q1114 : (Jvm.Cond.privateMethod ({ cls := "LosslessFabric", name := "mayWait", desc := "(II)Z" } : Jvm.MethodName)) ∈ lw_tbl := lw_at lw_m5 54 rfl
theorem q1115 : (Jvm.Cond.instanceMethod ({ cls := "LosslessFabric", name := "mayWait", desc := "(II)Z" } : Jvm.MethodName)) ∈ lw_all := lw_g (lw_at lw_m5 55 rfl) rfl
theorem q1116 : (Jvm.Cond.code ({ cls := "LosslessFabric", name := "mayWait", desc := "(II)Z" } : Jvm.MethodName) prog_1_method_37_code (4 : Nat) (Option.some Jvm.ClassFile.FieldType.boolean)) ∈ lw_all := lw_g (lw_at lw_m5 56 rfl) rfl
theorem q1117 : (Jvm.Cond.methodLink "LosslessFabric" (346 : Nat) ({ cls := "LosslessFabric$Flow", name := "next", desc := "(I)I" } : Jvm.MethodName)) ∈ lw_all := lw_g (lw_at lw_m5 57 rfl) rfl
theorem q1118 : (Jvm.Cond.methodLink "LosslessFabric" (380 : Nat) ({ cls := "LosslessFabric$Cycle", name := "inAny", desc := "()I" } : Jvm.MethodName)) ∈ lw_all := lw_g (lw_at lw_m5 58 rfl) rfl
theorem q1120 : (Jvm.Cond.instanceMethod ({ cls := "LosslessFabric", name := "fair", desc := "(IZ)J" } : Jvm.MethodName)) ∈ lw_all := lw_g (lw_at lw_m5 60 rfl) rfl
theorem q1121 : (Jvm.Cond.selects "LosslessFabric" ({ cls := "LosslessFabric", name := "fair", desc := "(IZ)J" } : Jvm.MethodName) ({ cls := "LosslessFabric", name := "fair", desc := "(IZ)J" } : Jvm.MethodName)) ∈ lw_all := lw_g (lw_at lw_m5 61 rfl) rfl
theorem q1122 : (Jvm.Cond.code ({ cls := "LosslessFabric", name := "fair", desc := "(IZ)J" } : Jvm.MethodName) prog_1_method_43_code (4 : Nat) (Option.some Jvm.ClassFile.FieldType.long)) ∈ lw_all := lw_g (lw_at lw_m5 62 rfl) rfl
theorem q1123 : (Jvm.Cond.constantLong "LosslessFabric" (383 : Nat) (-1 : Int64)) ∈ lw_all := lw_g (lw_at lw_m5 63 rfl) rfl
theorem q1124 : (Jvm.Cond.classLink "LosslessFabric" (385 : Nat) "LosslessFabric$Fair") ∈ lw_all := lw_g (lw_at lw_m5 64 rfl) rfl
theorem q1126 : (Jvm.Cond.methodLink "LosslessFabric" (387 : Nat) ({ cls := "LosslessFabric$Fair", name := "<init>", desc := "(LLosslessFabric;)V" } : Jvm.MethodName)) ∈ lw_all := lw_g (lw_at lw_m5 66 rfl) rfl
theorem q1145 : (Jvm.Cond.static ({ cls := "LosslessFabric", name := "has", desc := "(II)Z" } : Jvm.MethodName)) ∈ lw_all := lw_g (lw_at lw_m5 85 rfl) rfl
theorem q1146 : (Jvm.Cond.code ({ cls := "LosslessFabric", name := "has", desc := "(II)Z" } : Jvm.MethodName) prog_1_method_4_code (2 : Nat) (Option.some Jvm.ClassFile.FieldType.boolean)) ∈ lw_all := lw_g (lw_at lw_m5 86 rfl) rfl
theorem q1152 : (Jvm.Cond.static ({ cls := "LosslessFabric", name := "common", desc := "(JJ)J" } : Jvm.MethodName)) ∈ lw_all := lw_g (lw_at lw_m5 92 rfl) rfl
theorem q1153 : (Jvm.Cond.code ({ cls := "LosslessFabric", name := "common", desc := "(JJ)J" } : Jvm.MethodName) prog_1_method_5_code (10 : Nat) (Option.some Jvm.ClassFile.FieldType.long)) ∈ lw_all := lw_g (lw_at lw_m5 93 rfl) rfl
theorem q1156 : (Jvm.Cond.fieldLinkNest "LosslessFabric" (394 : Nat) "LosslessFabric$Fair" "up" "[J" "LosslessFabric") ∈ lw_tbl := lw_at lw_m5 96 rfl
theorem q1158 : (Jvm.Cond.fieldLinkNest "LosslessFabric" (390 : Nat) "LosslessFabric$Fair" "down" "[J" "LosslessFabric") ∈ lw_tbl := lw_at lw_m5 98 rfl
theorem q1161 : (Jvm.Cond.fieldLinkNest "LosslessFabric" (401 : Nat) "LosslessFabric$Fair" "full" "I" "LosslessFabric") ∈ lw_tbl := lw_at lw_m5 101 rfl
theorem q1182 : (Jvm.Cond.instanceMethod ({ cls := "LosslessFabric", name := "full", desc := "()I" } : Jvm.MethodName)) ∈ lw_all := lw_g (lw_at lw_m5 122 rfl) rfl
theorem q1183 : (Jvm.Cond.selects "LosslessFabric" ({ cls := "LosslessFabric", name := "full", desc := "()I" } : Jvm.MethodName) ({ cls := "LosslessFabric", name := "full", desc := "()I" } : Jvm.MethodName)) ∈ lw_all := lw_g (lw_at lw_m5 123 rfl) rfl
theorem q1184 : (Jvm.Cond.code ({ cls := "LosslessFabric", name := "full", desc := "()I" } : Jvm.MethodName) prog_1_method_44_code (1 : Nat) (Option.some Jvm.ClassFile.FieldType.int)) ∈ lw_all := lw_g (lw_at lw_m5 124 rfl) rfl
theorem q1185 : (Jvm.Cond.methodLink "LosslessFabric" (397 : Nat) ({ cls := "LosslessFabric$Fair", name := "filled", desc := "()LLosslessFabric$Fair;" } : Jvm.MethodName)) ∈ lw_all := lw_g (lw_at lw_m5 125 rfl) rfl
theorem q1190 : (Jvm.Cond.instanceMethod ({ cls := "LosslessFabric", name := "ahead", desc := "(III)I" } : Jvm.MethodName)) ∈ lw_all := lw_g (lw_at lw_m5 130 rfl) rfl
theorem q1191 : (Jvm.Cond.selects "LosslessFabric" ({ cls := "LosslessFabric", name := "ahead", desc := "(III)I" } : Jvm.MethodName) ({ cls := "LosslessFabric", name := "ahead", desc := "(III)I" } : Jvm.MethodName)) ∈ lw_all := lw_g (lw_at lw_m5 131 rfl) rfl
theorem q1192 : (Jvm.Cond.code ({ cls := "LosslessFabric", name := "ahead", desc := "(III)I" } : Jvm.MethodName) prog_1_method_47_code (5 : Nat) (Option.some Jvm.ClassFile.FieldType.int)) ∈ lw_all := lw_g (lw_at lw_m5 132 rfl) rfl
theorem q1193 : (Jvm.Cond.methodLink "LosslessFabric" (406 : Nat) ({ cls := "LosslessFabric", name := "isAhead", desc := "(I)Z" } : Jvm.MethodName)) ∈ lw_all := lw_g (lw_at lw_m5 133 rfl) rfl
theorem q1194 : (Jvm.Cond.static ({ cls := "LosslessFabric", name := "isAhead", desc := "(I)Z" } : Jvm.MethodName)) ∈ lw_all := lw_g (lw_at lw_m5 134 rfl) rfl
theorem q1195 : (Jvm.Cond.code ({ cls := "LosslessFabric", name := "isAhead", desc := "(I)Z" } : Jvm.MethodName) prog_1_method_45_code (1 : Nat) (Option.some Jvm.ClassFile.FieldType.boolean)) ∈ lw_all := lw_g (lw_at lw_m5 135 rfl) rfl
theorem q1196 : (Jvm.Cond.constantLong "LosslessFabric" (404 : Nat) (300 : Int64)) ∈ lw_all := lw_g (lw_at lw_m5 136 rfl) rfl
theorem q1197 : (Jvm.Cond.constantLong "LosslessFabric" (409 : Nat) (2 : Int64)) ∈ lw_all := lw_g (lw_at lw_m5 137 rfl) rfl
theorem q1199 : (Jvm.Cond.instanceMethod ({ cls := "LosslessFabric", name := "flows", desc := "(III)I" } : Jvm.MethodName)) ∈ lw_all := lw_g (lw_at lw_m5 139 rfl) rfl
theorem q1200 : (Jvm.Cond.selects "LosslessFabric" ({ cls := "LosslessFabric", name := "flows", desc := "(III)I" } : Jvm.MethodName) ({ cls := "LosslessFabric", name := "flows", desc := "(III)I" } : Jvm.MethodName)) ∈ lw_all := lw_g (lw_at lw_m5 140 rfl) rfl
theorem q1201 : (Jvm.Cond.code ({ cls := "LosslessFabric", name := "flows", desc := "(III)I" } : Jvm.MethodName) prog_1_method_48_code (5 : Nat) (Option.some Jvm.ClassFile.FieldType.int)) ∈ lw_all := lw_g (lw_at lw_m5 141 rfl) rfl
theorem q1202 : (Jvm.Cond.methodLink "LosslessFabric" (411 : Nat) ({ cls := "LosslessFabric", name := "tried", desc := "(I)LLosslessFabric$State;" } : Jvm.MethodName)) ∈ lw_all := lw_g (lw_at lw_m5 142 rfl) rfl
theorem q1203 : (Jvm.Cond.privateMethod ({ cls := "LosslessFabric", name := "tried", desc := "(I)LLosslessFabric$State;" } : Jvm.MethodName)) ∈ lw_tbl := lw_at lw_m5 143 rfl
theorem q1204 : (Jvm.Cond.instanceMethod ({ cls := "LosslessFabric", name := "tried", desc := "(I)LLosslessFabric$State;" } : Jvm.MethodName)) ∈ lw_all := lw_g (lw_at lw_m5 144 rfl) rfl
theorem q1205 : (Jvm.Cond.code ({ cls := "LosslessFabric", name := "tried", desc := "(I)LLosslessFabric$State;" } : Jvm.MethodName) prog_1_method_46_code (3 : Nat) (Option.some (Jvm.ClassFile.FieldType.object "LosslessFabric$State"))) ∈ lw_all := lw_g (lw_at lw_m5 145 rfl) rfl
theorem q1207 : (Jvm.Cond.instanceMethod ({ cls := "LosslessFabric", name := "stalls", desc := "()I" } : Jvm.MethodName)) ∈ lw_all := lw_g (lw_at lw_m5 147 rfl) rfl
theorem q1208 : (Jvm.Cond.selects "LosslessFabric" ({ cls := "LosslessFabric", name := "stalls", desc := "()I" } : Jvm.MethodName) ({ cls := "LosslessFabric", name := "stalls", desc := "()I" } : Jvm.MethodName)) ∈ lw_all := lw_g (lw_at lw_m5 148 rfl) rfl
theorem q1209 : (Jvm.Cond.code ({ cls := "LosslessFabric", name := "stalls", desc := "()I" } : Jvm.MethodName) prog_1_method_50_code (1 : Nat) (Option.some Jvm.ClassFile.FieldType.int)) ∈ lw_all := lw_g (lw_at lw_m5 149 rfl) rfl
theorem q1210 : (Jvm.Cond.privateMethod ({ cls := "LosslessFabric", name := "lambda$stalls$4", desc := "(LLosslessFabric$State;)Z" } : Jvm.MethodName)) ∈ lw_tbl := lw_at lw_m5 150 rfl
theorem q1211 : (Jvm.Cond.instanceMethod ({ cls := "LosslessFabric", name := "lambda$stalls$4", desc := "(LLosslessFabric$State;)Z" } : Jvm.MethodName)) ∈ lw_all := lw_g (lw_at lw_m5 151 rfl) rfl
theorem q1212 : (Jvm.Cond.code ({ cls := "LosslessFabric", name := "lambda$stalls$4", desc := "(LLosslessFabric$State;)Z" } : Jvm.MethodName) prog_1_method_58_code (2 : Nat) (Option.some Jvm.ClassFile.FieldType.boolean)) ∈ lw_all := lw_g (lw_at lw_m5 152 rfl) rfl
theorem q1213 : (Jvm.Cond.methodLink "LosslessFabric" (423 : Nat) ({ cls := "LosslessFabric", name := "until", desc := "(LLosslessFabric$Goal;)I" } : Jvm.MethodName)) ∈ lw_all := lw_g (lw_at lw_m5 153 rfl) rfl
theorem q1214 : (Jvm.Cond.privateMethod ({ cls := "LosslessFabric", name := "until", desc := "(LLosslessFabric$Goal;)I" } : Jvm.MethodName)) ∈ lw_tbl := lw_at lw_m5 154 rfl
theorem q1215 : (Jvm.Cond.instanceMethod ({ cls := "LosslessFabric", name := "until", desc := "(LLosslessFabric$Goal;)I" } : Jvm.MethodName)) ∈ lw_all := lw_g (lw_at lw_m5 155 rfl) rfl
theorem q1216 : (Jvm.Cond.code ({ cls := "LosslessFabric", name := "until", desc := "(LLosslessFabric$Goal;)I" } : Jvm.MethodName) prog_1_method_49_code (3 : Nat) (Option.some Jvm.ClassFile.FieldType.int)) ∈ lw_all := lw_g (lw_at lw_m5 156 rfl) rfl
theorem q1217 : (Jvm.Cond.interfaceEntry "LosslessFabric" (415 : Nat)) ∈ lw_tbl := lw_at lw_m5 157 rfl
theorem q1218 : (Jvm.Cond.methodLink "LosslessFabric" (415 : Nat) ({ cls := "LosslessFabric$Goal", name := "is", desc := "(LLosslessFabric$State;)Z" } : Jvm.MethodName)) ∈ lw_all := lw_g (lw_at lw_m5 158 rfl) rfl
theorem q1222 : (Jvm.Cond.instanceMethod ({ cls := "LosslessFabric", name := "quiet", desc := "()I" } : Jvm.MethodName)) ∈ lw_all := lw_g (lw_at lw_m5 162 rfl) rfl
theorem q1223 : (Jvm.Cond.selects "LosslessFabric" ({ cls := "LosslessFabric", name := "quiet", desc := "()I" } : Jvm.MethodName) ({ cls := "LosslessFabric", name := "quiet", desc := "()I" } : Jvm.MethodName)) ∈ lw_all := lw_g (lw_at lw_m5 163 rfl) rfl
theorem q1224 : (Jvm.Cond.code ({ cls := "LosslessFabric", name := "quiet", desc := "()I" } : Jvm.MethodName) prog_1_method_51_code (2 : Nat) (Option.some Jvm.ClassFile.FieldType.int)) ∈ lw_all := lw_g (lw_at lw_m5 164 rfl) rfl
theorem q1225 : (Jvm.Cond.static ({ cls := "LosslessFabric", name := "lambda$quiet$5", desc := "(LLosslessFabric$State;)Z" } : Jvm.MethodName)) ∈ lw_all := lw_g (lw_at lw_m5 165 rfl) rfl
theorem q1226 : (Jvm.Cond.code ({ cls := "LosslessFabric", name := "lambda$quiet$5", desc := "(LLosslessFabric$State;)Z" } : Jvm.MethodName) prog_1_method_57_code (1 : Nat) (Option.some Jvm.ClassFile.FieldType.boolean)) ∈ lw_all := lw_g (lw_at lw_m5 166 rfl) rfl
theorem q1227 : (Jvm.Cond.methodLink "LosslessFabric" (463 : Nat) ({ cls := "LosslessFabric$State", name := "isEmpty", desc := "()Z" } : Jvm.MethodName)) ∈ lw_all := lw_g (lw_at lw_m5 167 rfl) rfl
theorem q1232 : (Jvm.Cond.instanceMethod ({ cls := "LosslessFabric", name := "worst", desc := "(I)I" } : Jvm.MethodName)) ∈ lw_all := lw_g (lw_at lw_m5 172 rfl) rfl
theorem q1233 : (Jvm.Cond.selects "LosslessFabric" ({ cls := "LosslessFabric", name := "worst", desc := "(I)I" } : Jvm.MethodName) ({ cls := "LosslessFabric", name := "worst", desc := "(I)I" } : Jvm.MethodName)) ∈ lw_all := lw_g (lw_at lw_m5 173 rfl) rfl
theorem q1234 : (Jvm.Cond.code ({ cls := "LosslessFabric", name := "worst", desc := "(I)I" } : Jvm.MethodName) prog_1_method_52_code (6 : Nat) (Option.some Jvm.ClassFile.FieldType.int)) ∈ lw_all := lw_g (lw_at lw_m5 174 rfl) rfl
theorem q1235 : (Jvm.Cond.constantLong "LosslessFabric" (430 : Nat) (40 : Int64)) ∈ lw_all := lw_g (lw_at lw_m5 175 rfl) rfl
theorem q1236 : (Jvm.Cond.methodLink "LosslessFabric" (432 : Nat) ({ cls := "LosslessFabric$State", name := "all", desc := "(I)I" } : Jvm.MethodName)) ∈ lw_all := lw_g (lw_at lw_m5 176 rfl) rfl
theorem q1241 : (Jvm.Cond.instanceMethod ({ cls := "LosslessFabric", name := "leastSize", desc := "(II)I" } : Jvm.MethodName)) ∈ lw_all := lw_g (lw_at lw_m5 181 rfl) rfl
theorem q1242 : (Jvm.Cond.selects "LosslessFabric" ({ cls := "LosslessFabric", name := "leastSize", desc := "(II)I" } : Jvm.MethodName) ({ cls := "LosslessFabric", name := "leastSize", desc := "(II)I" } : Jvm.MethodName)) ∈ lw_all := lw_g (lw_at lw_m5 182 rfl) rfl
theorem q1243 : (Jvm.Cond.code ({ cls := "LosslessFabric", name := "leastSize", desc := "(II)I" } : Jvm.MethodName) prog_1_method_53_code (8 : Nat) (Option.some Jvm.ClassFile.FieldType.int)) ∈ lw_all := lw_g (lw_at lw_m5 183 rfl) rfl
theorem q1244 : (Jvm.Cond.constantLong "LosslessFabric" (435 : Nat) (100 : Int64)) ∈ lw_all := lw_g (lw_at lw_m5 184 rfl) rfl
theorem q1246 : (Jvm.Cond.instanceMethod ({ cls := "LosslessFabric", name := "chance", desc := "(IIII)I" } : Jvm.MethodName)) ∈ lw_all := lw_g (lw_at lw_m5 186 rfl) rfl
theorem q1247 : (Jvm.Cond.selects "LosslessFabric" ({ cls := "LosslessFabric", name := "chance", desc := "(IIII)I" } : Jvm.MethodName) ({ cls := "LosslessFabric", name := "chance", desc := "(IIII)I" } : Jvm.MethodName)) ∈ lw_all := lw_g (lw_at lw_m5 187 rfl) rfl
theorem q1248 : (Jvm.Cond.code ({ cls := "LosslessFabric", name := "chance", desc := "(IIII)I" } : Jvm.MethodName) prog_1_method_55_code (8 : Nat) (Option.some Jvm.ClassFile.FieldType.int)) ∈ lw_all := lw_g (lw_at lw_m5 188 rfl) rfl
theorem q1249 : (Jvm.Cond.constantLong "LosslessFabric" (449 : Nat) (200 : Int64)) ∈ lw_all := lw_g (lw_at lw_m5 189 rfl) rfl
theorem q1250 : (Jvm.Cond.constantLong "LosslessFabric" (451 : Nat) (3 : Int64)) ∈ lw_all := lw_g (lw_at lw_m5 190 rfl) rfl
theorem q1251 : (Jvm.Cond.methodLink "LosslessFabric" (456 : Nat) ({ cls := "LosslessFabric", name := "draw", desc := "(I)I" } : Jvm.MethodName)) ∈ lw_all := lw_g (lw_at lw_m5 191 rfl) rfl
theorem q1252 : (Jvm.Cond.privateMethod ({ cls := "LosslessFabric", name := "draw", desc := "(I)I" } : Jvm.MethodName)) ∈ lw_tbl := lw_at lw_m5 192 rfl
theorem q1253 : (Jvm.Cond.instanceMethod ({ cls := "LosslessFabric", name := "draw", desc := "(I)I" } : Jvm.MethodName)) ∈ lw_all := lw_g (lw_at lw_m5 193 rfl) rfl
theorem q1254 : (Jvm.Cond.code ({ cls := "LosslessFabric", name := "draw", desc := "(I)I" } : Jvm.MethodName) prog_1_method_54_code (2 : Nat) (Option.some Jvm.ClassFile.FieldType.int)) ∈ lw_all := lw_g (lw_at lw_m5 194 rfl) rfl
theorem q1255 : (Jvm.Cond.constantLong "LosslessFabric" (441 : Nat) (1103515245 : Int64)) ∈ lw_all := lw_g (lw_at lw_m5 195 rfl) rfl
theorem q1256 : (Jvm.Cond.constantLong "LosslessFabric" (443 : Nat) (12345 : Int64)) ∈ lw_all := lw_g (lw_at lw_m5 196 rfl) rfl
theorem q1257 : (Jvm.Cond.constantLong "LosslessFabric" (445 : Nat) (2147483647 : Int64)) ∈ lw_all := lw_g (lw_at lw_m5 197 rfl) rfl
theorem q1258 : (Jvm.Cond.constantLong "LosslessFabric" (447 : Nat) (65536 : Int64)) ∈ lw_all := lw_g (lw_at lw_m5 198 rfl) rfl
theorem q1260 : (Jvm.Cond.instanceMethod ({ cls := "LosslessFabric", name := "count", desc := "(I)I" } : Jvm.MethodName)) ∈ lw_all := lw_g (lw_at lw_m5 200 rfl) rfl
theorem q1261 : (Jvm.Cond.selects "LosslessFabric" ({ cls := "LosslessFabric", name := "count", desc := "(I)I" } : Jvm.MethodName) ({ cls := "LosslessFabric", name := "count", desc := "(I)I" } : Jvm.MethodName)) ∈ lw_all := lw_g (lw_at lw_m5 201 rfl) rfl
theorem q1262 : (Jvm.Cond.code ({ cls := "LosslessFabric", name := "count", desc := "(I)I" } : Jvm.MethodName) prog_1_method_56_code (4 : Nat) (Option.some Jvm.ClassFile.FieldType.int)) ∈ lw_all := lw_g (lw_at lw_m5 202 rfl) rfl
theorem q1263 : (Jvm.Cond.methodLink "LosslessFabric" (459 : Nat) ({ cls := "LosslessFabric$End", name := "asksPause", desc := "()Z" } : Jvm.MethodName)) ∈ lw_all := lw_g (lw_at lw_m5 203 rfl) rfl
theorem q1303 : (Jvm.Cond.instanceMethod ({ cls := "LosslessFabric", name := "link", desc := "(II)I" } : Jvm.MethodName)) ∈ lw_all := lw_g (lw_at lw_m6 3 rfl) rfl
theorem q1304 : (Jvm.Cond.selects "LosslessFabric" ({ cls := "LosslessFabric", name := "link", desc := "(II)I" } : Jvm.MethodName) ({ cls := "LosslessFabric", name := "link", desc := "(II)I" } : Jvm.MethodName)) ∈ lw_all := lw_g (lw_at lw_m6 4 rfl) rfl
theorem q1305 : (Jvm.Cond.code ({ cls := "LosslessFabric", name := "link", desc := "(II)I" } : Jvm.MethodName) prog_1_method_27_code (4 : Nat) (Option.some Jvm.ClassFile.FieldType.int)) ∈ lw_all := lw_g (lw_at lw_m6 5 rfl) rfl
theorem q1306 : (Jvm.Cond.classLink "LosslessFabric" (318 : Nat) "java/lang/IndexOutOfBoundsException") ∈ lw_all := lw_g (lw_at lw_m6 6 rfl) rfl
theorem q1315 : (Jvm.Cond.methodLink "LosslessFabric" (320 : Nat) ({ cls := "java/lang/IndexOutOfBoundsException", name := "<init>", desc := "()V" } : Jvm.MethodName)) ∈ lw_all := lw_g (lw_at lw_m6 15 rfl) rfl
theorem q1327 : (Jvm.Cond.classLink "LosslessFabric" (326 : Nat) "java/util/NoSuchElementException") ∈ lw_all := lw_g (lw_at lw_m6 27 rfl) rfl
theorem q1336 : (Jvm.Cond.methodLink "LosslessFabric" (328 : Nat) ({ cls := "java/util/NoSuchElementException", name := "<init>", desc := "()V" } : Jvm.MethodName)) ∈ lw_all := lw_g (lw_at lw_m6 36 rfl) rfl
theorem q1923 : (Jvm.Cond.castable "LosslessFabric" "java/lang/Object") ∈ lw_tbl := lw_at lw_m8 143 rfl
theorem in_X1 : ∀ w ∈ wsX10, w ∈ lw_all := lw_in wsX10 [411, 413, 415, 417, 419, 421, 423, 425, 427, 429, 431, 433, 435, 437, 439, 441, 443, 445] (by decide +kernel) (by decide +kernel)
