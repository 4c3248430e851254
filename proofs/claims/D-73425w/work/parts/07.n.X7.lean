/-! LosslessFabric$Reader -/
set_option maxRecDepth 100000
def RX7 : String := "LosslessFabric$Reader"
def TX7 : u_T := fun k => match k with
  | 0 => ("LosslessFabric$Reader", "size", "I", true)
  | 1 => ("LosslessFabric$Reader", "v", "LLosslessFabric$Told;", true)
  | 2 => ("LosslessFabric$Reader", "at", "I", false)
  | 3 => ("LosslessFabric$Reader", "kind", "I", false)
  | 4 => ("LosslessFabric$Reader", "which", "I", false)
  | 5 => ("LosslessFabric$Reader", "place", "I", false)
  | _ => ("LosslessFabric$Reader", "this$0", "LLosslessFabric;", true)
def tyX7 : Nat → FieldType := fun k => match k with
  | 0 => .int
  | 1 => .object "LosslessFabric$Told"
  | 2 => .int
  | 3 => .int
  | 4 => .int
  | 5 => .int
  | _ => .object "LosslessFabric"
abbrev wsX70 : List Cond := u_ws RX7 TX7 7
theorem nmX7 : ∀ a, a < 7 → ∀ b, b < 7 → a ≠ b → (TX7 a).2.1 ≠ (TX7 b).2.1 := by decide +kernel
theorem tyX7_ok : ∀ k, k < 7 → parseFieldDescriptor (TX7 k).2.2.1 = some (tyX7 k) := by decide +kernel
abbrev cX7_init : ByteArray := prog_13_method_1_code
def yX7_init : MethodName := ⟨RX7, "<init>", "(LLosslessFabric;I)V"⟩
def dkwX7_init_0 : List UInt8 := [42, 43, 28, 187, 0, 3, 89, 183, 0, 5, 183, 0, 9, 177]
abbrev dktX7_init_0 : List UInt8 := dkwX7_init_0 ++ []
theorem dksX7_init_0 : cX7_init.data.toList.drop 0 = dktX7_init_0 := by decide +kernel
theorem dX7_init_0 : decode cX7_init 0 = .ok (.aload_n 0, 1) := dk_42 (dk_at dksX7_init_0 0 rfl rfl)
theorem dX7_init_1 : decode cX7_init 1 = .ok (.aload_n 1, 1) := dk_43 (dk_at dksX7_init_0 1 rfl rfl)
theorem dX7_init_2 : decode cX7_init 2 = .ok (.iload_n 2, 1) := dk_28 (dk_at dksX7_init_0 2 rfl rfl)
theorem dX7_init_3 : decode cX7_init 3 = .ok (.new 3, 3) := dk_187 0 3 (dk_at dksX7_init_0 3 rfl rfl)
theorem dX7_init_6 : decode cX7_init 6 = .ok (.dup, 1) := dk_89 (dk_at dksX7_init_0 6 rfl rfl)
theorem dX7_init_7 : decode cX7_init 7 = .ok (.invokespecial 5, 3) := dk_183 0 5 (dk_at dksX7_init_0 7 rfl rfl)
theorem dX7_init_10 : decode cX7_init 10 = .ok (.invokespecial 9, 3) := dk_183 0 9 (dk_at dksX7_init_0 10 rfl rfl)
theorem dX7_init_13 : decode cX7_init 13 = .ok (.return_, 1) := dk_177 (dk_at dksX7_init_0 13 rfl rfl)
abbrev cX7_init_2 : ByteArray := prog_13_method_2_code
def yX7_init_2 : MethodName := ⟨RX7, "<init>", "(LLosslessFabric;ILLosslessFabric$Told;)V"⟩
def dkwX7_init_2_0 : List UInt8 := [42, 43, 181, 0, 14, 42, 183, 0, 18, 42, 28, 181, 0, 21, 42, 45, 181, 0, 25, 42, 182, 0, 29, 177]
abbrev dktX7_init_2_0 : List UInt8 := dkwX7_init_2_0 ++ []
theorem dksX7_init_2_0 : cX7_init_2.data.toList.drop 0 = dktX7_init_2_0 := by decide +kernel
theorem dX7_init_2_0 : decode cX7_init_2 0 = .ok (.aload_n 0, 1) := dk_42 (dk_at dksX7_init_2_0 0 rfl rfl)
theorem dX7_init_2_1 : decode cX7_init_2 1 = .ok (.aload_n 1, 1) := dk_43 (dk_at dksX7_init_2_0 1 rfl rfl)
theorem dX7_init_2_2 : decode cX7_init_2 2 = .ok (.putfield 14, 3) := dk_181 0 14 (dk_at dksX7_init_2_0 2 rfl rfl)
theorem dX7_init_2_5 : decode cX7_init_2 5 = .ok (.aload_n 0, 1) := dk_42 (dk_at dksX7_init_2_0 5 rfl rfl)
theorem dX7_init_2_6 : decode cX7_init_2 6 = .ok (.invokespecial 18, 3) := dk_183 0 18 (dk_at dksX7_init_2_0 6 rfl rfl)
theorem dX7_init_2_9 : decode cX7_init_2 9 = .ok (.aload_n 0, 1) := dk_42 (dk_at dksX7_init_2_0 9 rfl rfl)
theorem dX7_init_2_10 : decode cX7_init_2 10 = .ok (.iload_n 2, 1) := dk_28 (dk_at dksX7_init_2_0 10 rfl rfl)
theorem dX7_init_2_11 : decode cX7_init_2 11 = .ok (.putfield 21, 3) := dk_181 0 21 (dk_at dksX7_init_2_0 11 rfl rfl)
theorem dX7_init_2_14 : decode cX7_init_2 14 = .ok (.aload_n 0, 1) := dk_42 (dk_at dksX7_init_2_0 14 rfl rfl)
theorem dX7_init_2_15 : decode cX7_init_2 15 = .ok (.aload_n 3, 1) := dk_45 (dk_at dksX7_init_2_0 15 rfl rfl)
theorem dX7_init_2_16 : decode cX7_init_2 16 = .ok (.putfield 25, 3) := dk_181 0 25 (dk_at dksX7_init_2_0 16 rfl rfl)
theorem dX7_init_2_19 : decode cX7_init_2 19 = .ok (.aload_n 0, 1) := dk_42 (dk_at dksX7_init_2_0 19 rfl rfl)
theorem dX7_init_2_20 : decode cX7_init_2 20 = .ok (.invokevirtual 29, 3) := dk_182 0 29 (dk_at dksX7_init_2_0 20 rfl rfl)
theorem dX7_init_2_23 : decode cX7_init_2 23 = .ok (.return_, 1) := dk_177 (dk_at dksX7_init_2_0 23 rfl rfl)
abbrev cX7_take : ByteArray := prog_13_method_6_code
def yX7_take : MethodName := ⟨RX7, "take", "()V"⟩
def dkwX7_take_8 : List UInt8 := [181, 0, 52, 177]
abbrev dktX7_take_8 : List UInt8 := dkwX7_take_8 ++ []
def dkwX7_take_7 : List UInt8 := [182, 0, 36, 16, 59, 160, 0, 7, 7, 167, 0, 4, 8, 181, 0, 58, 42, 89, 180, 0, 52, 4, 96]
abbrev dktX7_take_7 : List UInt8 := dkwX7_take_7 ++ dktX7_take_8
def dkwX7_take_6 : List UInt8 := [181, 0, 71, 42, 89, 180, 0, 52, 4, 96, 181, 0, 52, 167, 255, 207, 42, 42, 42, 180, 0, 52]
abbrev dktX7_take_6 : List UInt8 := dkwX7_take_6 ++ dktX7_take_7
def dkwX7_take_5 : List UInt8 := [42, 180, 0, 71, 104, 42, 42, 180, 0, 52, 182, 0, 36, 96, 16, 48, 100, 18, 74, 184, 0, 75]
abbrev dktX7_take_5 : List UInt8 := dkwX7_take_5 ++ dktX7_take_6
def dkwX7_take_4 : List UInt8 := [42, 6, 181, 0, 58, 42, 3, 181, 0, 71, 42, 42, 180, 0, 52, 182, 0, 68, 153, 0, 76, 42, 16, 10]
abbrev dktX7_take_4 : List UInt8 := dkwX7_take_4 ++ dktX7_take_5
def dkwX7_take_3 : List UInt8 := [182, 0, 61, 153, 0, 10, 42, 182, 0, 65, 167, 0, 108, 42, 42, 180, 0, 52, 182, 0, 68, 153, 0, 65]
abbrev dktX7_take_3 : List UInt8 := dkwX7_take_3 ++ dktX7_take_4
def dkwX7_take_2 : List UInt8 := [42, 180, 0, 52, 42, 180, 0, 21, 161, 0, 11, 42, 3, 181, 0, 58, 167, 0, 126, 42, 42, 180, 0, 52]
abbrev dktX7_take_2 : List UInt8 := dkwX7_take_2 ++ dktX7_take_3
def dkwX7_take_1 : List UInt8 := [160, 0, 16, 42, 89, 180, 0, 52, 4, 96, 181, 0, 52, 167, 255, 220, 42, 42, 180, 0, 52, 181, 0, 55]
abbrev dktX7_take_1 : List UInt8 := dkwX7_take_1 ++ dktX7_take_2
def dkwX7_take_0 : List UInt8 := [42, 42, 180, 0, 52, 182, 0, 36, 16, 10, 159, 0, 16, 42, 42, 180, 0, 52, 182, 0, 36, 16, 32]
abbrev dktX7_take_0 : List UInt8 := dkwX7_take_0 ++ dktX7_take_1
theorem dksX7_take_0 : cX7_take.data.toList.drop 0 = dktX7_take_0 := by decide +kernel
theorem dksX7_take_1 : cX7_take.data.toList.drop 23 = dktX7_take_1 := dk_seg dksX7_take_0 23 rfl rfl
theorem dksX7_take_2 : cX7_take.data.toList.drop 47 = dktX7_take_2 := dk_seg dksX7_take_1 24 rfl rfl
theorem dksX7_take_3 : cX7_take.data.toList.drop 71 = dktX7_take_3 := dk_seg dksX7_take_2 24 rfl rfl
theorem dksX7_take_4 : cX7_take.data.toList.drop 95 = dktX7_take_4 := dk_seg dksX7_take_3 24 rfl rfl
theorem dksX7_take_5 : cX7_take.data.toList.drop 119 = dktX7_take_5 := dk_seg dksX7_take_4 24 rfl rfl
theorem dksX7_take_6 : cX7_take.data.toList.drop 141 = dktX7_take_6 := dk_seg dksX7_take_5 22 rfl rfl
theorem dksX7_take_7 : cX7_take.data.toList.drop 163 = dktX7_take_7 := dk_seg dksX7_take_6 22 rfl rfl
theorem dksX7_take_8 : cX7_take.data.toList.drop 186 = dktX7_take_8 := dk_seg dksX7_take_7 23 rfl rfl
theorem dX7_take_0 : decode cX7_take 0 = .ok (.aload_n 0, 1) := dk_42 (dk_at dksX7_take_0 0 rfl rfl)
theorem dX7_take_1 : decode cX7_take 1 = .ok (.aload_n 0, 1) := dk_42 (dk_at dksX7_take_0 1 rfl rfl)
theorem dX7_take_2 : decode cX7_take 2 = .ok (.getfield 52, 3) := dk_180 0 52 (dk_at dksX7_take_0 2 rfl rfl)
theorem dX7_take_5 : decode cX7_take 5 = .ok (.invokevirtual 36, 3) := dk_182 0 36 (dk_at dksX7_take_0 5 rfl rfl)
theorem dX7_take_8 : decode cX7_take 8 = .ok (.bipush 10, 2) := dk_16 10 (dk_at dksX7_take_0 8 rfl rfl)
theorem dX7_take_10 : decode cX7_take 10 = .ok (.if_icmp .eq 16, 3) := dk_159 0 16 (dk_at dksX7_take_0 10 rfl rfl)
theorem dX7_take_13 : decode cX7_take 13 = .ok (.aload_n 0, 1) := dk_42 (dk_at dksX7_take_0 13 rfl rfl)
theorem dX7_take_14 : decode cX7_take 14 = .ok (.aload_n 0, 1) := dk_42 (dk_at dksX7_take_0 14 rfl rfl)
theorem dX7_take_15 : decode cX7_take 15 = .ok (.getfield 52, 3) := dk_180 0 52 (dk_at dksX7_take_0 15 rfl rfl)
theorem dX7_take_18 : decode cX7_take 18 = .ok (.invokevirtual 36, 3) := dk_182 0 36 (dk_at dksX7_take_0 18 rfl rfl)
theorem dX7_take_21 : decode cX7_take 21 = .ok (.bipush 32, 2) := dk_16 32 (dk_at dksX7_take_0 21 rfl rfl)
theorem dX7_take_23 : decode cX7_take 23 = .ok (.if_icmp .ne 16, 3) := dk_160 0 16 (dk_at dksX7_take_1 0 rfl rfl)
theorem dX7_take_26 : decode cX7_take 26 = .ok (.aload_n 0, 1) := dk_42 (dk_at dksX7_take_1 3 rfl rfl)
theorem dX7_take_27 : decode cX7_take 27 = .ok (.dup, 1) := dk_89 (dk_at dksX7_take_1 4 rfl rfl)
theorem dX7_take_28 : decode cX7_take 28 = .ok (.getfield 52, 3) := dk_180 0 52 (dk_at dksX7_take_1 5 rfl rfl)
theorem dX7_take_31 : decode cX7_take 31 = .ok (.iconst 1, 1) := dk_4 (dk_at dksX7_take_1 8 rfl rfl)
theorem dX7_take_32 : decode cX7_take 32 = .ok (.iadd, 1) := dk_96 (dk_at dksX7_take_1 9 rfl rfl)
theorem dX7_take_33 : decode cX7_take 33 = .ok (.putfield 52, 3) := dk_181 0 52 (dk_at dksX7_take_1 10 rfl rfl)
theorem dX7_take_36 : decode cX7_take 36 = .ok (.goto (-36), 3) := dk_167 255 220 (dk_at dksX7_take_1 13 rfl rfl)
theorem dX7_take_39 : decode cX7_take 39 = .ok (.aload_n 0, 1) := dk_42 (dk_at dksX7_take_1 16 rfl rfl)
theorem dX7_take_40 : decode cX7_take 40 = .ok (.aload_n 0, 1) := dk_42 (dk_at dksX7_take_1 17 rfl rfl)
theorem dX7_take_41 : decode cX7_take 41 = .ok (.getfield 52, 3) := dk_180 0 52 (dk_at dksX7_take_1 18 rfl rfl)
theorem dX7_take_44 : decode cX7_take 44 = .ok (.putfield 55, 3) := dk_181 0 55 (dk_at dksX7_take_1 21 rfl rfl)
theorem dX7_take_47 : decode cX7_take 47 = .ok (.aload_n 0, 1) := dk_42 (dk_at dksX7_take_2 0 rfl rfl)
theorem dX7_take_48 : decode cX7_take 48 = .ok (.getfield 52, 3) := dk_180 0 52 (dk_at dksX7_take_2 1 rfl rfl)
theorem dX7_take_51 : decode cX7_take 51 = .ok (.aload_n 0, 1) := dk_42 (dk_at dksX7_take_2 4 rfl rfl)
theorem dX7_take_52 : decode cX7_take 52 = .ok (.getfield 21, 3) := dk_180 0 21 (dk_at dksX7_take_2 5 rfl rfl)
theorem dX7_take_55 : decode cX7_take 55 = .ok (.if_icmp .lt 11, 3) := dk_161 0 11 (dk_at dksX7_take_2 8 rfl rfl)
theorem dX7_take_58 : decode cX7_take 58 = .ok (.aload_n 0, 1) := dk_42 (dk_at dksX7_take_2 11 rfl rfl)
theorem dX7_take_59 : decode cX7_take 59 = .ok (.iconst 0, 1) := dk_3 (dk_at dksX7_take_2 12 rfl rfl)
theorem dX7_take_60 : decode cX7_take 60 = .ok (.putfield 58, 3) := dk_181 0 58 (dk_at dksX7_take_2 13 rfl rfl)
theorem dX7_take_63 : decode cX7_take 63 = .ok (.goto 126, 3) := dk_167 0 126 (dk_at dksX7_take_2 16 rfl rfl)
theorem dX7_take_66 : decode cX7_take 66 = .ok (.aload_n 0, 1) := dk_42 (dk_at dksX7_take_2 19 rfl rfl)
theorem dX7_take_67 : decode cX7_take 67 = .ok (.aload_n 0, 1) := dk_42 (dk_at dksX7_take_2 20 rfl rfl)
theorem dX7_take_68 : decode cX7_take 68 = .ok (.getfield 52, 3) := dk_180 0 52 (dk_at dksX7_take_2 21 rfl rfl)
theorem dX7_take_71 : decode cX7_take 71 = .ok (.invokevirtual 61, 3) := dk_182 0 61 (dk_at dksX7_take_3 0 rfl rfl)
theorem dX7_take_74 : decode cX7_take 74 = .ok (.ifCond .eq 10, 3) := dk_153 0 10 (dk_at dksX7_take_3 3 rfl rfl)
theorem dX7_take_77 : decode cX7_take 77 = .ok (.aload_n 0, 1) := dk_42 (dk_at dksX7_take_3 6 rfl rfl)
theorem dX7_take_78 : decode cX7_take 78 = .ok (.invokevirtual 65, 3) := dk_182 0 65 (dk_at dksX7_take_3 7 rfl rfl)
theorem dX7_take_81 : decode cX7_take 81 = .ok (.goto 108, 3) := dk_167 0 108 (dk_at dksX7_take_3 10 rfl rfl)
theorem dX7_take_84 : decode cX7_take 84 = .ok (.aload_n 0, 1) := dk_42 (dk_at dksX7_take_3 13 rfl rfl)
theorem dX7_take_85 : decode cX7_take 85 = .ok (.aload_n 0, 1) := dk_42 (dk_at dksX7_take_3 14 rfl rfl)
theorem dX7_take_86 : decode cX7_take 86 = .ok (.getfield 52, 3) := dk_180 0 52 (dk_at dksX7_take_3 15 rfl rfl)
theorem dX7_take_89 : decode cX7_take 89 = .ok (.invokevirtual 68, 3) := dk_182 0 68 (dk_at dksX7_take_3 18 rfl rfl)
theorem dX7_take_92 : decode cX7_take 92 = .ok (.ifCond .eq 65, 3) := dk_153 0 65 (dk_at dksX7_take_3 21 rfl rfl)
theorem dX7_take_95 : decode cX7_take 95 = .ok (.aload_n 0, 1) := dk_42 (dk_at dksX7_take_4 0 rfl rfl)
theorem dX7_take_96 : decode cX7_take 96 = .ok (.iconst 3, 1) := dk_6 (dk_at dksX7_take_4 1 rfl rfl)
theorem dX7_take_97 : decode cX7_take 97 = .ok (.putfield 58, 3) := dk_181 0 58 (dk_at dksX7_take_4 2 rfl rfl)
theorem dX7_take_100 : decode cX7_take 100 = .ok (.aload_n 0, 1) := dk_42 (dk_at dksX7_take_4 5 rfl rfl)
theorem dX7_take_101 : decode cX7_take 101 = .ok (.iconst 0, 1) := dk_3 (dk_at dksX7_take_4 6 rfl rfl)
theorem dX7_take_102 : decode cX7_take 102 = .ok (.putfield 71, 3) := dk_181 0 71 (dk_at dksX7_take_4 7 rfl rfl)
theorem dX7_take_105 : decode cX7_take 105 = .ok (.aload_n 0, 1) := dk_42 (dk_at dksX7_take_4 10 rfl rfl)
theorem dX7_take_106 : decode cX7_take 106 = .ok (.aload_n 0, 1) := dk_42 (dk_at dksX7_take_4 11 rfl rfl)
theorem dX7_take_107 : decode cX7_take 107 = .ok (.getfield 52, 3) := dk_180 0 52 (dk_at dksX7_take_4 12 rfl rfl)
theorem dX7_take_110 : decode cX7_take 110 = .ok (.invokevirtual 68, 3) := dk_182 0 68 (dk_at dksX7_take_4 15 rfl rfl)
theorem dX7_take_113 : decode cX7_take 113 = .ok (.ifCond .eq 76, 3) := dk_153 0 76 (dk_at dksX7_take_4 18 rfl rfl)
theorem dX7_take_116 : decode cX7_take 116 = .ok (.aload_n 0, 1) := dk_42 (dk_at dksX7_take_4 21 rfl rfl)
theorem dX7_take_117 : decode cX7_take 117 = .ok (.bipush 10, 2) := dk_16 10 (dk_at dksX7_take_4 22 rfl rfl)
theorem dX7_take_119 : decode cX7_take 119 = .ok (.aload_n 0, 1) := dk_42 (dk_at dksX7_take_5 0 rfl rfl)
theorem dX7_take_120 : decode cX7_take 120 = .ok (.getfield 71, 3) := dk_180 0 71 (dk_at dksX7_take_5 1 rfl rfl)
theorem dX7_take_123 : decode cX7_take 123 = .ok (.imul, 1) := dk_104 (dk_at dksX7_take_5 4 rfl rfl)
theorem dX7_take_124 : decode cX7_take 124 = .ok (.aload_n 0, 1) := dk_42 (dk_at dksX7_take_5 5 rfl rfl)
theorem dX7_take_125 : decode cX7_take 125 = .ok (.aload_n 0, 1) := dk_42 (dk_at dksX7_take_5 6 rfl rfl)
theorem dX7_take_126 : decode cX7_take 126 = .ok (.getfield 52, 3) := dk_180 0 52 (dk_at dksX7_take_5 7 rfl rfl)
theorem dX7_take_129 : decode cX7_take 129 = .ok (.invokevirtual 36, 3) := dk_182 0 36 (dk_at dksX7_take_5 10 rfl rfl)
theorem dX7_take_132 : decode cX7_take 132 = .ok (.iadd, 1) := dk_96 (dk_at dksX7_take_5 13 rfl rfl)
theorem dX7_take_133 : decode cX7_take 133 = .ok (.bipush 48, 2) := dk_16 48 (dk_at dksX7_take_5 14 rfl rfl)
theorem dX7_take_135 : decode cX7_take 135 = .ok (.isub, 1) := dk_100 (dk_at dksX7_take_5 16 rfl rfl)
theorem dX7_take_136 : decode cX7_take 136 = .ok (.ldc 74, 2) := dk_18 74 (dk_at dksX7_take_5 17 rfl rfl)
theorem dX7_take_138 : decode cX7_take 138 = .ok (.invokestatic 75, 3) := dk_184 0 75 (dk_at dksX7_take_5 19 rfl rfl)
theorem dX7_take_141 : decode cX7_take 141 = .ok (.putfield 71, 3) := dk_181 0 71 (dk_at dksX7_take_6 0 rfl rfl)
theorem dX7_take_144 : decode cX7_take 144 = .ok (.aload_n 0, 1) := dk_42 (dk_at dksX7_take_6 3 rfl rfl)
theorem dX7_take_145 : decode cX7_take 145 = .ok (.dup, 1) := dk_89 (dk_at dksX7_take_6 4 rfl rfl)
theorem dX7_take_146 : decode cX7_take 146 = .ok (.getfield 52, 3) := dk_180 0 52 (dk_at dksX7_take_6 5 rfl rfl)
theorem dX7_take_149 : decode cX7_take 149 = .ok (.iconst 1, 1) := dk_4 (dk_at dksX7_take_6 8 rfl rfl)
theorem dX7_take_150 : decode cX7_take 150 = .ok (.iadd, 1) := dk_96 (dk_at dksX7_take_6 9 rfl rfl)
theorem dX7_take_151 : decode cX7_take 151 = .ok (.putfield 52, 3) := dk_181 0 52 (dk_at dksX7_take_6 10 rfl rfl)
theorem dX7_take_154 : decode cX7_take 154 = .ok (.goto (-49), 3) := dk_167 255 207 (dk_at dksX7_take_6 13 rfl rfl)
theorem dX7_take_157 : decode cX7_take 157 = .ok (.aload_n 0, 1) := dk_42 (dk_at dksX7_take_6 16 rfl rfl)
theorem dX7_take_158 : decode cX7_take 158 = .ok (.aload_n 0, 1) := dk_42 (dk_at dksX7_take_6 17 rfl rfl)
theorem dX7_take_159 : decode cX7_take 159 = .ok (.aload_n 0, 1) := dk_42 (dk_at dksX7_take_6 18 rfl rfl)
theorem dX7_take_160 : decode cX7_take 160 = .ok (.getfield 52, 3) := dk_180 0 52 (dk_at dksX7_take_6 19 rfl rfl)
theorem dX7_take_163 : decode cX7_take 163 = .ok (.invokevirtual 36, 3) := dk_182 0 36 (dk_at dksX7_take_7 0 rfl rfl)
theorem dX7_take_166 : decode cX7_take 166 = .ok (.bipush 59, 2) := dk_16 59 (dk_at dksX7_take_7 3 rfl rfl)
theorem dX7_take_168 : decode cX7_take 168 = .ok (.if_icmp .ne 7, 3) := dk_160 0 7 (dk_at dksX7_take_7 5 rfl rfl)
theorem dX7_take_171 : decode cX7_take 171 = .ok (.iconst 4, 1) := dk_7 (dk_at dksX7_take_7 8 rfl rfl)
theorem dX7_take_172 : decode cX7_take 172 = .ok (.goto 4, 3) := dk_167 0 4 (dk_at dksX7_take_7 9 rfl rfl)
theorem dX7_take_175 : decode cX7_take 175 = .ok (.iconst 5, 1) := dk_8 (dk_at dksX7_take_7 12 rfl rfl)
theorem dX7_take_176 : decode cX7_take 176 = .ok (.putfield 58, 3) := dk_181 0 58 (dk_at dksX7_take_7 13 rfl rfl)
theorem dX7_take_179 : decode cX7_take 179 = .ok (.aload_n 0, 1) := dk_42 (dk_at dksX7_take_7 16 rfl rfl)
theorem dX7_take_180 : decode cX7_take 180 = .ok (.dup, 1) := dk_89 (dk_at dksX7_take_7 17 rfl rfl)
theorem dX7_take_181 : decode cX7_take 181 = .ok (.getfield 52, 3) := dk_180 0 52 (dk_at dksX7_take_7 18 rfl rfl)
theorem dX7_take_184 : decode cX7_take 184 = .ok (.iconst 1, 1) := dk_4 (dk_at dksX7_take_7 21 rfl rfl)
theorem dX7_take_185 : decode cX7_take 185 = .ok (.iadd, 1) := dk_96 (dk_at dksX7_take_7 22 rfl rfl)
theorem dX7_take_186 : decode cX7_take 186 = .ok (.putfield 52, 3) := dk_181 0 52 (dk_at dksX7_take_8 0 rfl rfl)
theorem dX7_take_189 : decode cX7_take 189 = .ok (.return_, 1) := dk_177 (dk_at dksX7_take_8 3 rfl rfl)
abbrev cX7_see : ByteArray := prog_13_method_3_code
def yX7_see : MethodName := ⟨RX7, "see", "(I)I"⟩
def dkwX7_see_1 : List UInt8 := [2, 172]
abbrev dktX7_see_1 : List UInt8 := dkwX7_see_1 ++ []
def dkwX7_see_0 : List UInt8 := [27, 42, 180, 0, 21, 162, 0, 19, 42, 180, 0, 14, 180, 0, 32, 27, 51, 17, 0, 255, 126, 167, 0, 4]
abbrev dktX7_see_0 : List UInt8 := dkwX7_see_0 ++ dktX7_see_1
theorem dksX7_see_0 : cX7_see.data.toList.drop 0 = dktX7_see_0 := by decide +kernel
theorem dksX7_see_1 : cX7_see.data.toList.drop 24 = dktX7_see_1 := dk_seg dksX7_see_0 24 rfl rfl
theorem dX7_see_0 : decode cX7_see 0 = .ok (.iload_n 1, 1) := dk_27 (dk_at dksX7_see_0 0 rfl rfl)
theorem dX7_see_1 : decode cX7_see 1 = .ok (.aload_n 0, 1) := dk_42 (dk_at dksX7_see_0 1 rfl rfl)
theorem dX7_see_2 : decode cX7_see 2 = .ok (.getfield 21, 3) := dk_180 0 21 (dk_at dksX7_see_0 2 rfl rfl)
theorem dX7_see_5 : decode cX7_see 5 = .ok (.if_icmp .ge 19, 3) := dk_162 0 19 (dk_at dksX7_see_0 5 rfl rfl)
theorem dX7_see_8 : decode cX7_see 8 = .ok (.aload_n 0, 1) := dk_42 (dk_at dksX7_see_0 8 rfl rfl)
theorem dX7_see_9 : decode cX7_see 9 = .ok (.getfield 14, 3) := dk_180 0 14 (dk_at dksX7_see_0 9 rfl rfl)
theorem dX7_see_12 : decode cX7_see 12 = .ok (.getfield 32, 3) := dk_180 0 32 (dk_at dksX7_see_0 12 rfl rfl)
theorem dX7_see_15 : decode cX7_see 15 = .ok (.iload_n 1, 1) := dk_27 (dk_at dksX7_see_0 15 rfl rfl)
theorem dX7_see_16 : decode cX7_see 16 = .ok (.baload, 1) := dk_51 (dk_at dksX7_see_0 16 rfl rfl)
theorem dX7_see_17 : decode cX7_see 17 = .ok (.sipush 255, 3) := dk_17 0 255 (dk_at dksX7_see_0 17 rfl rfl)
theorem dX7_see_20 : decode cX7_see 20 = .ok (.iand, 1) := dk_126 (dk_at dksX7_see_0 20 rfl rfl)
theorem dX7_see_21 : decode cX7_see 21 = .ok (.goto 4, 3) := dk_167 0 4 (dk_at dksX7_see_0 21 rfl rfl)
theorem dX7_see_24 : decode cX7_see 24 = .ok (.iconst (-1), 1) := dk_2 (dk_at dksX7_see_1 0 rfl rfl)
theorem dX7_see_25 : decode cX7_see 25 = .ok (.ireturn, 1) := dk_172 (dk_at dksX7_see_1 1 rfl rfl)
abbrev cX7_isSmall : ByteArray := prog_13_method_4_code
def yX7_isSmall : MethodName := ⟨RX7, "isSmall", "(I)Z"⟩
def dkwX7_isSmall_0 : List UInt8 := [42, 27, 182, 0, 36, 133, 20, 0, 40, 20, 0, 42, 184, 0, 44, 172]
abbrev dktX7_isSmall_0 : List UInt8 := dkwX7_isSmall_0 ++ []
theorem dksX7_isSmall_0 : cX7_isSmall.data.toList.drop 0 = dktX7_isSmall_0 := by decide +kernel
theorem dX7_isSmall_0 : decode cX7_isSmall 0 = .ok (.aload_n 0, 1) := dk_42 (dk_at dksX7_isSmall_0 0 rfl rfl)
theorem dX7_isSmall_1 : decode cX7_isSmall 1 = .ok (.iload_n 1, 1) := dk_27 (dk_at dksX7_isSmall_0 1 rfl rfl)
theorem dX7_isSmall_2 : decode cX7_isSmall 2 = .ok (.invokevirtual 36, 3) := dk_182 0 36 (dk_at dksX7_isSmall_0 2 rfl rfl)
theorem dX7_isSmall_5 : decode cX7_isSmall 5 = .ok (.i2l, 1) := dk_133 (dk_at dksX7_isSmall_0 5 rfl rfl)
theorem dX7_isSmall_6 : decode cX7_isSmall 6 = .ok (.ldc2_w 40, 3) := dk_20 0 40 (dk_at dksX7_isSmall_0 6 rfl rfl)
theorem dX7_isSmall_9 : decode cX7_isSmall 9 = .ok (.ldc2_w 42, 3) := dk_20 0 42 (dk_at dksX7_isSmall_0 9 rfl rfl)
theorem dX7_isSmall_12 : decode cX7_isSmall 12 = .ok (.invokestatic 44, 3) := dk_184 0 44 (dk_at dksX7_isSmall_0 12 rfl rfl)
theorem dX7_isSmall_15 : decode cX7_isSmall 15 = .ok (.ireturn, 1) := dk_172 (dk_at dksX7_isSmall_0 15 rfl rfl)
abbrev cX7_takeWord : ByteArray := prog_13_method_7_code
def yX7_takeWord : MethodName := ⟨RX7, "takeWord", "()V"⟩
def dkwX7_takeWord_5 : List UInt8 := [16, 96, 100, 167, 0, 4, 3, 128, 181, 0, 71, 132, 1, 1, 167, 255, 211, 177]
abbrev dktX7_takeWord_5 : List UInt8 := dkwX7_takeWord_5 ++ []
def dkwX7_takeWord_4 : List UInt8 := [162, 0, 40, 42, 42, 180, 0, 71, 8, 120, 27, 42, 180, 0, 52, 162, 0, 14, 42, 27, 182, 0, 36]
abbrev dktX7_takeWord_4 : List UInt8 := dkwX7_takeWord_4 ++ dktX7_takeWord_5
def dkwX7_takeWord_3 : List UInt8 := [159, 0, 4, 177, 42, 3, 181, 0, 71, 42, 180, 0, 55, 60, 27, 42, 180, 0, 55, 16, 6, 96]
abbrev dktX7_takeWord_3 : List UInt8 := dkwX7_takeWord_3 ++ dktX7_takeWord_4
def dkwX7_takeWord_2 : List UInt8 := [42, 180, 0, 55, 100, 16, 6, 164, 0, 7, 8, 167, 0, 4, 5, 181, 0, 58, 42, 180, 0, 58, 5]
abbrev dktX7_takeWord_2 : List UInt8 := dkwX7_takeWord_2 ++ dktX7_takeWord_3
def dkwX7_takeWord_1 : List UInt8 := [42, 42, 182, 0, 81, 181, 0, 71, 42, 42, 180, 0, 71, 155, 0, 7, 4, 167, 0, 22, 42, 180, 0, 52]
abbrev dktX7_takeWord_1 : List UInt8 := dkwX7_takeWord_1 ++ dktX7_takeWord_2
def dkwX7_takeWord_0 : List UInt8 := [42, 42, 180, 0, 52, 182, 0, 61, 153, 0, 16, 42, 89, 180, 0, 52, 4, 96, 181, 0, 52, 167, 255, 235]
abbrev dktX7_takeWord_0 : List UInt8 := dkwX7_takeWord_0 ++ dktX7_takeWord_1
theorem dksX7_takeWord_0 : cX7_takeWord.data.toList.drop 0 = dktX7_takeWord_0 := by decide +kernel
theorem dksX7_takeWord_1 : cX7_takeWord.data.toList.drop 24 = dktX7_takeWord_1 := dk_seg dksX7_takeWord_0 24 rfl rfl
theorem dksX7_takeWord_2 : cX7_takeWord.data.toList.drop 48 = dktX7_takeWord_2 := dk_seg dksX7_takeWord_1 24 rfl rfl
theorem dksX7_takeWord_3 : cX7_takeWord.data.toList.drop 71 = dktX7_takeWord_3 := dk_seg dksX7_takeWord_2 23 rfl rfl
theorem dksX7_takeWord_4 : cX7_takeWord.data.toList.drop 93 = dktX7_takeWord_4 := dk_seg dksX7_takeWord_3 22 rfl rfl
theorem dksX7_takeWord_5 : cX7_takeWord.data.toList.drop 116 = dktX7_takeWord_5 := dk_seg dksX7_takeWord_4 23 rfl rfl
theorem dX7_takeWord_0 : decode cX7_takeWord 0 = .ok (.aload_n 0, 1) := dk_42 (dk_at dksX7_takeWord_0 0 rfl rfl)
theorem dX7_takeWord_1 : decode cX7_takeWord 1 = .ok (.aload_n 0, 1) := dk_42 (dk_at dksX7_takeWord_0 1 rfl rfl)
theorem dX7_takeWord_2 : decode cX7_takeWord 2 = .ok (.getfield 52, 3) := dk_180 0 52 (dk_at dksX7_takeWord_0 2 rfl rfl)
theorem dX7_takeWord_5 : decode cX7_takeWord 5 = .ok (.invokevirtual 61, 3) := dk_182 0 61 (dk_at dksX7_takeWord_0 5 rfl rfl)
theorem dX7_takeWord_8 : decode cX7_takeWord 8 = .ok (.ifCond .eq 16, 3) := dk_153 0 16 (dk_at dksX7_takeWord_0 8 rfl rfl)
theorem dX7_takeWord_11 : decode cX7_takeWord 11 = .ok (.aload_n 0, 1) := dk_42 (dk_at dksX7_takeWord_0 11 rfl rfl)
theorem dX7_takeWord_12 : decode cX7_takeWord 12 = .ok (.dup, 1) := dk_89 (dk_at dksX7_takeWord_0 12 rfl rfl)
theorem dX7_takeWord_13 : decode cX7_takeWord 13 = .ok (.getfield 52, 3) := dk_180 0 52 (dk_at dksX7_takeWord_0 13 rfl rfl)
theorem dX7_takeWord_16 : decode cX7_takeWord 16 = .ok (.iconst 1, 1) := dk_4 (dk_at dksX7_takeWord_0 16 rfl rfl)
theorem dX7_takeWord_17 : decode cX7_takeWord 17 = .ok (.iadd, 1) := dk_96 (dk_at dksX7_takeWord_0 17 rfl rfl)
theorem dX7_takeWord_18 : decode cX7_takeWord 18 = .ok (.putfield 52, 3) := dk_181 0 52 (dk_at dksX7_takeWord_0 18 rfl rfl)
theorem dX7_takeWord_21 : decode cX7_takeWord 21 = .ok (.goto (-21), 3) := dk_167 255 235 (dk_at dksX7_takeWord_0 21 rfl rfl)
theorem dX7_takeWord_24 : decode cX7_takeWord 24 = .ok (.aload_n 0, 1) := dk_42 (dk_at dksX7_takeWord_1 0 rfl rfl)
theorem dX7_takeWord_25 : decode cX7_takeWord 25 = .ok (.aload_n 0, 1) := dk_42 (dk_at dksX7_takeWord_1 1 rfl rfl)
theorem dX7_takeWord_26 : decode cX7_takeWord 26 = .ok (.invokevirtual 81, 3) := dk_182 0 81 (dk_at dksX7_takeWord_1 2 rfl rfl)
theorem dX7_takeWord_29 : decode cX7_takeWord 29 = .ok (.putfield 71, 3) := dk_181 0 71 (dk_at dksX7_takeWord_1 5 rfl rfl)
theorem dX7_takeWord_32 : decode cX7_takeWord 32 = .ok (.aload_n 0, 1) := dk_42 (dk_at dksX7_takeWord_1 8 rfl rfl)
theorem dX7_takeWord_33 : decode cX7_takeWord 33 = .ok (.aload_n 0, 1) := dk_42 (dk_at dksX7_takeWord_1 9 rfl rfl)
theorem dX7_takeWord_34 : decode cX7_takeWord 34 = .ok (.getfield 71, 3) := dk_180 0 71 (dk_at dksX7_takeWord_1 10 rfl rfl)
theorem dX7_takeWord_37 : decode cX7_takeWord 37 = .ok (.ifCond .lt 7, 3) := dk_155 0 7 (dk_at dksX7_takeWord_1 13 rfl rfl)
theorem dX7_takeWord_40 : decode cX7_takeWord 40 = .ok (.iconst 1, 1) := dk_4 (dk_at dksX7_takeWord_1 16 rfl rfl)
theorem dX7_takeWord_41 : decode cX7_takeWord 41 = .ok (.goto 22, 3) := dk_167 0 22 (dk_at dksX7_takeWord_1 17 rfl rfl)
theorem dX7_takeWord_44 : decode cX7_takeWord 44 = .ok (.aload_n 0, 1) := dk_42 (dk_at dksX7_takeWord_1 20 rfl rfl)
theorem dX7_takeWord_45 : decode cX7_takeWord 45 = .ok (.getfield 52, 3) := dk_180 0 52 (dk_at dksX7_takeWord_1 21 rfl rfl)
theorem dX7_takeWord_48 : decode cX7_takeWord 48 = .ok (.aload_n 0, 1) := dk_42 (dk_at dksX7_takeWord_2 0 rfl rfl)
theorem dX7_takeWord_49 : decode cX7_takeWord 49 = .ok (.getfield 55, 3) := dk_180 0 55 (dk_at dksX7_takeWord_2 1 rfl rfl)
theorem dX7_takeWord_52 : decode cX7_takeWord 52 = .ok (.isub, 1) := dk_100 (dk_at dksX7_takeWord_2 4 rfl rfl)
theorem dX7_takeWord_53 : decode cX7_takeWord 53 = .ok (.bipush 6, 2) := dk_16 6 (dk_at dksX7_takeWord_2 5 rfl rfl)
theorem dX7_takeWord_55 : decode cX7_takeWord 55 = .ok (.if_icmp .le 7, 3) := dk_164 0 7 (dk_at dksX7_takeWord_2 7 rfl rfl)
theorem dX7_takeWord_58 : decode cX7_takeWord 58 = .ok (.iconst 5, 1) := dk_8 (dk_at dksX7_takeWord_2 10 rfl rfl)
theorem dX7_takeWord_59 : decode cX7_takeWord 59 = .ok (.goto 4, 3) := dk_167 0 4 (dk_at dksX7_takeWord_2 11 rfl rfl)
theorem dX7_takeWord_62 : decode cX7_takeWord 62 = .ok (.iconst 2, 1) := dk_5 (dk_at dksX7_takeWord_2 14 rfl rfl)
theorem dX7_takeWord_63 : decode cX7_takeWord 63 = .ok (.putfield 58, 3) := dk_181 0 58 (dk_at dksX7_takeWord_2 15 rfl rfl)
theorem dX7_takeWord_66 : decode cX7_takeWord 66 = .ok (.aload_n 0, 1) := dk_42 (dk_at dksX7_takeWord_2 18 rfl rfl)
theorem dX7_takeWord_67 : decode cX7_takeWord 67 = .ok (.getfield 58, 3) := dk_180 0 58 (dk_at dksX7_takeWord_2 19 rfl rfl)
theorem dX7_takeWord_70 : decode cX7_takeWord 70 = .ok (.iconst 2, 1) := dk_5 (dk_at dksX7_takeWord_2 22 rfl rfl)
theorem dX7_takeWord_71 : decode cX7_takeWord 71 = .ok (.if_icmp .eq 4, 3) := dk_159 0 4 (dk_at dksX7_takeWord_3 0 rfl rfl)
theorem dX7_takeWord_74 : decode cX7_takeWord 74 = .ok (.return_, 1) := dk_177 (dk_at dksX7_takeWord_3 3 rfl rfl)
theorem dX7_takeWord_75 : decode cX7_takeWord 75 = .ok (.aload_n 0, 1) := dk_42 (dk_at dksX7_takeWord_3 4 rfl rfl)
theorem dX7_takeWord_76 : decode cX7_takeWord 76 = .ok (.iconst 0, 1) := dk_3 (dk_at dksX7_takeWord_3 5 rfl rfl)
theorem dX7_takeWord_77 : decode cX7_takeWord 77 = .ok (.putfield 71, 3) := dk_181 0 71 (dk_at dksX7_takeWord_3 6 rfl rfl)
theorem dX7_takeWord_80 : decode cX7_takeWord 80 = .ok (.aload_n 0, 1) := dk_42 (dk_at dksX7_takeWord_3 9 rfl rfl)
theorem dX7_takeWord_81 : decode cX7_takeWord 81 = .ok (.getfield 55, 3) := dk_180 0 55 (dk_at dksX7_takeWord_3 10 rfl rfl)
theorem dX7_takeWord_84 : decode cX7_takeWord 84 = .ok (.istore_n 1, 1) := dk_60 (dk_at dksX7_takeWord_3 13 rfl rfl)
theorem dX7_takeWord_85 : decode cX7_takeWord 85 = .ok (.iload_n 1, 1) := dk_27 (dk_at dksX7_takeWord_3 14 rfl rfl)
theorem dX7_takeWord_86 : decode cX7_takeWord 86 = .ok (.aload_n 0, 1) := dk_42 (dk_at dksX7_takeWord_3 15 rfl rfl)
theorem dX7_takeWord_87 : decode cX7_takeWord 87 = .ok (.getfield 55, 3) := dk_180 0 55 (dk_at dksX7_takeWord_3 16 rfl rfl)
theorem dX7_takeWord_90 : decode cX7_takeWord 90 = .ok (.bipush 6, 2) := dk_16 6 (dk_at dksX7_takeWord_3 19 rfl rfl)
theorem dX7_takeWord_92 : decode cX7_takeWord 92 = .ok (.iadd, 1) := dk_96 (dk_at dksX7_takeWord_3 21 rfl rfl)
theorem dX7_takeWord_93 : decode cX7_takeWord 93 = .ok (.if_icmp .ge 40, 3) := dk_162 0 40 (dk_at dksX7_takeWord_4 0 rfl rfl)
theorem dX7_takeWord_96 : decode cX7_takeWord 96 = .ok (.aload_n 0, 1) := dk_42 (dk_at dksX7_takeWord_4 3 rfl rfl)
theorem dX7_takeWord_97 : decode cX7_takeWord 97 = .ok (.aload_n 0, 1) := dk_42 (dk_at dksX7_takeWord_4 4 rfl rfl)
theorem dX7_takeWord_98 : decode cX7_takeWord 98 = .ok (.getfield 71, 3) := dk_180 0 71 (dk_at dksX7_takeWord_4 5 rfl rfl)
theorem dX7_takeWord_101 : decode cX7_takeWord 101 = .ok (.iconst 5, 1) := dk_8 (dk_at dksX7_takeWord_4 8 rfl rfl)
theorem dX7_takeWord_102 : decode cX7_takeWord 102 = .ok (.ishl, 1) := dk_120 (dk_at dksX7_takeWord_4 9 rfl rfl)
theorem dX7_takeWord_103 : decode cX7_takeWord 103 = .ok (.iload_n 1, 1) := dk_27 (dk_at dksX7_takeWord_4 10 rfl rfl)
theorem dX7_takeWord_104 : decode cX7_takeWord 104 = .ok (.aload_n 0, 1) := dk_42 (dk_at dksX7_takeWord_4 11 rfl rfl)
theorem dX7_takeWord_105 : decode cX7_takeWord 105 = .ok (.getfield 52, 3) := dk_180 0 52 (dk_at dksX7_takeWord_4 12 rfl rfl)
theorem dX7_takeWord_108 : decode cX7_takeWord 108 = .ok (.if_icmp .ge 14, 3) := dk_162 0 14 (dk_at dksX7_takeWord_4 15 rfl rfl)
theorem dX7_takeWord_111 : decode cX7_takeWord 111 = .ok (.aload_n 0, 1) := dk_42 (dk_at dksX7_takeWord_4 18 rfl rfl)
theorem dX7_takeWord_112 : decode cX7_takeWord 112 = .ok (.iload_n 1, 1) := dk_27 (dk_at dksX7_takeWord_4 19 rfl rfl)
theorem dX7_takeWord_113 : decode cX7_takeWord 113 = .ok (.invokevirtual 36, 3) := dk_182 0 36 (dk_at dksX7_takeWord_4 20 rfl rfl)
theorem dX7_takeWord_116 : decode cX7_takeWord 116 = .ok (.bipush 96, 2) := dk_16 96 (dk_at dksX7_takeWord_5 0 rfl rfl)
theorem dX7_takeWord_118 : decode cX7_takeWord 118 = .ok (.isub, 1) := dk_100 (dk_at dksX7_takeWord_5 2 rfl rfl)
theorem dX7_takeWord_119 : decode cX7_takeWord 119 = .ok (.goto 4, 3) := dk_167 0 4 (dk_at dksX7_takeWord_5 3 rfl rfl)
theorem dX7_takeWord_122 : decode cX7_takeWord 122 = .ok (.iconst 0, 1) := dk_3 (dk_at dksX7_takeWord_5 6 rfl rfl)
theorem dX7_takeWord_123 : decode cX7_takeWord 123 = .ok (.ior, 1) := dk_128 (dk_at dksX7_takeWord_5 7 rfl rfl)
theorem dX7_takeWord_124 : decode cX7_takeWord 124 = .ok (.putfield 71, 3) := dk_181 0 71 (dk_at dksX7_takeWord_5 8 rfl rfl)
theorem dX7_takeWord_127 : decode cX7_takeWord 127 = .ok (.iinc 1 1, 3) := dk_132 1 1 (dk_at dksX7_takeWord_5 11 rfl rfl)
theorem dX7_takeWord_130 : decode cX7_takeWord 130 = .ok (.goto (-45), 3) := dk_167 255 211 (dk_at dksX7_takeWord_5 14 rfl rfl)
theorem dX7_takeWord_133 : decode cX7_takeWord 133 = .ok (.return_, 1) := dk_177 (dk_at dksX7_takeWord_5 17 rfl rfl)
abbrev cX7_key : ByteArray := prog_13_method_8_code
def yX7_key : MethodName := ⟨RX7, "key", "()I"⟩
def dkwX7_key_5 : List UInt8 := [132, 2, 1, 167, 255, 140, 2, 172]
abbrev dktX7_key_5 : List UInt8 := dkwX7_key_5 ++ []
def dkwX7_key_4 : List UInt8 := [167, 0, 4, 3, 54, 4, 132, 5, 1, 167, 255, 210, 21, 4, 153, 0, 5, 28, 172, 29, 4, 96, 60]
abbrev dktX7_key_4 : List UInt8 := dkwX7_key_4 ++ dktX7_key_5
def dkwX7_key_3 : List UInt8 := [18, 85, 27, 21, 5, 96, 182, 0, 95, 42, 42, 180, 0, 55, 21, 5, 96, 182, 0, 36, 160, 0, 7, 4]
abbrev dktX7_key_3 : List UInt8 := dkwX7_key_3 ++ dktX7_key_4
def dkwX7_key_2 : List UInt8 := [4, 167, 0, 4, 3, 54, 4, 3, 54, 5, 21, 5, 29, 27, 100, 162, 0, 44, 21, 4, 153, 0, 39]
abbrev dktX7_key_2 : List UInt8 := dkwX7_key_2 ++ dktX7_key_3
def dkwX7_key_1 : List UInt8 := [156, 0, 9, 18, 85, 182, 0, 87, 62, 29, 27, 100, 42, 180, 0, 52, 42, 180, 0, 55, 100, 160, 0, 7]
abbrev dktX7_key_1 : List UInt8 := dkwX7_key_1 ++ dktX7_key_2
def dkwX7_key_0 : List UInt8 := [3, 60, 3, 61, 27, 18, 85, 182, 0, 87, 162, 0, 113, 18, 85, 16, 32, 27, 182, 0, 92, 62, 29]
abbrev dktX7_key_0 : List UInt8 := dkwX7_key_0 ++ dktX7_key_1
theorem dksX7_key_0 : cX7_key.data.toList.drop 0 = dktX7_key_0 := by decide +kernel
theorem dksX7_key_1 : cX7_key.data.toList.drop 23 = dktX7_key_1 := dk_seg dksX7_key_0 23 rfl rfl
theorem dksX7_key_2 : cX7_key.data.toList.drop 47 = dktX7_key_2 := dk_seg dksX7_key_1 24 rfl rfl
theorem dksX7_key_3 : cX7_key.data.toList.drop 70 = dktX7_key_3 := dk_seg dksX7_key_2 23 rfl rfl
theorem dksX7_key_4 : cX7_key.data.toList.drop 94 = dktX7_key_4 := dk_seg dksX7_key_3 24 rfl rfl
theorem dksX7_key_5 : cX7_key.data.toList.drop 117 = dktX7_key_5 := dk_seg dksX7_key_4 23 rfl rfl
theorem dX7_key_0 : decode cX7_key 0 = .ok (.iconst 0, 1) := dk_3 (dk_at dksX7_key_0 0 rfl rfl)
theorem dX7_key_1 : decode cX7_key 1 = .ok (.istore_n 1, 1) := dk_60 (dk_at dksX7_key_0 1 rfl rfl)
theorem dX7_key_2 : decode cX7_key 2 = .ok (.iconst 0, 1) := dk_3 (dk_at dksX7_key_0 2 rfl rfl)
theorem dX7_key_3 : decode cX7_key 3 = .ok (.istore_n 2, 1) := dk_61 (dk_at dksX7_key_0 3 rfl rfl)
theorem dX7_key_4 : decode cX7_key 4 = .ok (.iload_n 1, 1) := dk_27 (dk_at dksX7_key_0 4 rfl rfl)
theorem dX7_key_5 : decode cX7_key 5 = .ok (.ldc 85, 2) := dk_18 85 (dk_at dksX7_key_0 5 rfl rfl)
theorem dX7_key_7 : decode cX7_key 7 = .ok (.invokevirtual 87, 3) := dk_182 0 87 (dk_at dksX7_key_0 7 rfl rfl)
theorem dX7_key_10 : decode cX7_key 10 = .ok (.if_icmp .ge 113, 3) := dk_162 0 113 (dk_at dksX7_key_0 10 rfl rfl)
theorem dX7_key_13 : decode cX7_key 13 = .ok (.ldc 85, 2) := dk_18 85 (dk_at dksX7_key_0 13 rfl rfl)
theorem dX7_key_15 : decode cX7_key 15 = .ok (.bipush 32, 2) := dk_16 32 (dk_at dksX7_key_0 15 rfl rfl)
theorem dX7_key_17 : decode cX7_key 17 = .ok (.iload_n 1, 1) := dk_27 (dk_at dksX7_key_0 17 rfl rfl)
theorem dX7_key_18 : decode cX7_key 18 = .ok (.invokevirtual 92, 3) := dk_182 0 92 (dk_at dksX7_key_0 18 rfl rfl)
theorem dX7_key_21 : decode cX7_key 21 = .ok (.istore_n 3, 1) := dk_62 (dk_at dksX7_key_0 21 rfl rfl)
theorem dX7_key_22 : decode cX7_key 22 = .ok (.iload_n 3, 1) := dk_29 (dk_at dksX7_key_0 22 rfl rfl)
theorem dX7_key_23 : decode cX7_key 23 = .ok (.ifCond .ge 9, 3) := dk_156 0 9 (dk_at dksX7_key_1 0 rfl rfl)
theorem dX7_key_26 : decode cX7_key 26 = .ok (.ldc 85, 2) := dk_18 85 (dk_at dksX7_key_1 3 rfl rfl)
theorem dX7_key_28 : decode cX7_key 28 = .ok (.invokevirtual 87, 3) := dk_182 0 87 (dk_at dksX7_key_1 5 rfl rfl)
theorem dX7_key_31 : decode cX7_key 31 = .ok (.istore_n 3, 1) := dk_62 (dk_at dksX7_key_1 8 rfl rfl)
theorem dX7_key_32 : decode cX7_key 32 = .ok (.iload_n 3, 1) := dk_29 (dk_at dksX7_key_1 9 rfl rfl)
theorem dX7_key_33 : decode cX7_key 33 = .ok (.iload_n 1, 1) := dk_27 (dk_at dksX7_key_1 10 rfl rfl)
theorem dX7_key_34 : decode cX7_key 34 = .ok (.isub, 1) := dk_100 (dk_at dksX7_key_1 11 rfl rfl)
theorem dX7_key_35 : decode cX7_key 35 = .ok (.aload_n 0, 1) := dk_42 (dk_at dksX7_key_1 12 rfl rfl)
theorem dX7_key_36 : decode cX7_key 36 = .ok (.getfield 52, 3) := dk_180 0 52 (dk_at dksX7_key_1 13 rfl rfl)
theorem dX7_key_39 : decode cX7_key 39 = .ok (.aload_n 0, 1) := dk_42 (dk_at dksX7_key_1 16 rfl rfl)
theorem dX7_key_40 : decode cX7_key 40 = .ok (.getfield 55, 3) := dk_180 0 55 (dk_at dksX7_key_1 17 rfl rfl)
theorem dX7_key_43 : decode cX7_key 43 = .ok (.isub, 1) := dk_100 (dk_at dksX7_key_1 20 rfl rfl)
theorem dX7_key_44 : decode cX7_key 44 = .ok (.if_icmp .ne 7, 3) := dk_160 0 7 (dk_at dksX7_key_1 21 rfl rfl)
theorem dX7_key_47 : decode cX7_key 47 = .ok (.iconst 1, 1) := dk_4 (dk_at dksX7_key_2 0 rfl rfl)
theorem dX7_key_48 : decode cX7_key 48 = .ok (.goto 4, 3) := dk_167 0 4 (dk_at dksX7_key_2 1 rfl rfl)
theorem dX7_key_51 : decode cX7_key 51 = .ok (.iconst 0, 1) := dk_3 (dk_at dksX7_key_2 4 rfl rfl)
theorem dX7_key_52 : decode cX7_key 52 = .ok (.istore 4, 2) := dk_54 4 (dk_at dksX7_key_2 5 rfl rfl)
theorem dX7_key_54 : decode cX7_key 54 = .ok (.iconst 0, 1) := dk_3 (dk_at dksX7_key_2 7 rfl rfl)
theorem dX7_key_55 : decode cX7_key 55 = .ok (.istore 5, 2) := dk_54 5 (dk_at dksX7_key_2 8 rfl rfl)
theorem dX7_key_57 : decode cX7_key 57 = .ok (.iload 5, 2) := dk_21 5 (dk_at dksX7_key_2 10 rfl rfl)
theorem dX7_key_59 : decode cX7_key 59 = .ok (.iload_n 3, 1) := dk_29 (dk_at dksX7_key_2 12 rfl rfl)
theorem dX7_key_60 : decode cX7_key 60 = .ok (.iload_n 1, 1) := dk_27 (dk_at dksX7_key_2 13 rfl rfl)
theorem dX7_key_61 : decode cX7_key 61 = .ok (.isub, 1) := dk_100 (dk_at dksX7_key_2 14 rfl rfl)
theorem dX7_key_62 : decode cX7_key 62 = .ok (.if_icmp .ge 44, 3) := dk_162 0 44 (dk_at dksX7_key_2 15 rfl rfl)
theorem dX7_key_65 : decode cX7_key 65 = .ok (.iload 4, 2) := dk_21 4 (dk_at dksX7_key_2 18 rfl rfl)
theorem dX7_key_67 : decode cX7_key 67 = .ok (.ifCond .eq 39, 3) := dk_153 0 39 (dk_at dksX7_key_2 20 rfl rfl)
theorem dX7_key_70 : decode cX7_key 70 = .ok (.ldc 85, 2) := dk_18 85 (dk_at dksX7_key_3 0 rfl rfl)
theorem dX7_key_72 : decode cX7_key 72 = .ok (.iload_n 1, 1) := dk_27 (dk_at dksX7_key_3 2 rfl rfl)
theorem dX7_key_73 : decode cX7_key 73 = .ok (.iload 5, 2) := dk_21 5 (dk_at dksX7_key_3 3 rfl rfl)
theorem dX7_key_75 : decode cX7_key 75 = .ok (.iadd, 1) := dk_96 (dk_at dksX7_key_3 5 rfl rfl)
theorem dX7_key_76 : decode cX7_key 76 = .ok (.invokevirtual 95, 3) := dk_182 0 95 (dk_at dksX7_key_3 6 rfl rfl)
theorem dX7_key_79 : decode cX7_key 79 = .ok (.aload_n 0, 1) := dk_42 (dk_at dksX7_key_3 9 rfl rfl)
theorem dX7_key_80 : decode cX7_key 80 = .ok (.aload_n 0, 1) := dk_42 (dk_at dksX7_key_3 10 rfl rfl)
theorem dX7_key_81 : decode cX7_key 81 = .ok (.getfield 55, 3) := dk_180 0 55 (dk_at dksX7_key_3 11 rfl rfl)
theorem dX7_key_84 : decode cX7_key 84 = .ok (.iload 5, 2) := dk_21 5 (dk_at dksX7_key_3 14 rfl rfl)
theorem dX7_key_86 : decode cX7_key 86 = .ok (.iadd, 1) := dk_96 (dk_at dksX7_key_3 16 rfl rfl)
theorem dX7_key_87 : decode cX7_key 87 = .ok (.invokevirtual 36, 3) := dk_182 0 36 (dk_at dksX7_key_3 17 rfl rfl)
theorem dX7_key_90 : decode cX7_key 90 = .ok (.if_icmp .ne 7, 3) := dk_160 0 7 (dk_at dksX7_key_3 20 rfl rfl)
theorem dX7_key_93 : decode cX7_key 93 = .ok (.iconst 1, 1) := dk_4 (dk_at dksX7_key_3 23 rfl rfl)
theorem dX7_key_94 : decode cX7_key 94 = .ok (.goto 4, 3) := dk_167 0 4 (dk_at dksX7_key_4 0 rfl rfl)
theorem dX7_key_97 : decode cX7_key 97 = .ok (.iconst 0, 1) := dk_3 (dk_at dksX7_key_4 3 rfl rfl)
theorem dX7_key_98 : decode cX7_key 98 = .ok (.istore 4, 2) := dk_54 4 (dk_at dksX7_key_4 4 rfl rfl)
theorem dX7_key_100 : decode cX7_key 100 = .ok (.iinc 5 1, 3) := dk_132 5 1 (dk_at dksX7_key_4 6 rfl rfl)
theorem dX7_key_103 : decode cX7_key 103 = .ok (.goto (-46), 3) := dk_167 255 210 (dk_at dksX7_key_4 9 rfl rfl)
theorem dX7_key_106 : decode cX7_key 106 = .ok (.iload 4, 2) := dk_21 4 (dk_at dksX7_key_4 12 rfl rfl)
theorem dX7_key_108 : decode cX7_key 108 = .ok (.ifCond .eq 5, 3) := dk_153 0 5 (dk_at dksX7_key_4 14 rfl rfl)
theorem dX7_key_111 : decode cX7_key 111 = .ok (.iload_n 2, 1) := dk_28 (dk_at dksX7_key_4 17 rfl rfl)
theorem dX7_key_112 : decode cX7_key 112 = .ok (.ireturn, 1) := dk_172 (dk_at dksX7_key_4 18 rfl rfl)
theorem dX7_key_113 : decode cX7_key 113 = .ok (.iload_n 3, 1) := dk_29 (dk_at dksX7_key_4 19 rfl rfl)
theorem dX7_key_114 : decode cX7_key 114 = .ok (.iconst 1, 1) := dk_4 (dk_at dksX7_key_4 20 rfl rfl)
theorem dX7_key_115 : decode cX7_key 115 = .ok (.iadd, 1) := dk_96 (dk_at dksX7_key_4 21 rfl rfl)
theorem dX7_key_116 : decode cX7_key 116 = .ok (.istore_n 1, 1) := dk_60 (dk_at dksX7_key_4 22 rfl rfl)
theorem dX7_key_117 : decode cX7_key 117 = .ok (.iinc 2 1, 3) := dk_132 2 1 (dk_at dksX7_key_5 0 rfl rfl)
theorem dX7_key_120 : decode cX7_key 120 = .ok (.goto (-116), 3) := dk_167 255 140 (dk_at dksX7_key_5 3 rfl rfl)
theorem dX7_key_123 : decode cX7_key 123 = .ok (.iconst (-1), 1) := dk_2 (dk_at dksX7_key_5 6 rfl rfl)
theorem dX7_key_124 : decode cX7_key 124 = .ok (.ireturn, 1) := dk_172 (dk_at dksX7_key_5 7 rfl rfl)
abbrev cX7_isDigit : ByteArray := prog_13_method_5_code
def yX7_isDigit : MethodName := ⟨RX7, "isDigit", "(I)Z"⟩
def dkwX7_isDigit_0 : List UInt8 := [42, 27, 182, 0, 36, 133, 20, 0, 48, 20, 0, 50, 184, 0, 44, 172]
abbrev dktX7_isDigit_0 : List UInt8 := dkwX7_isDigit_0 ++ []
theorem dksX7_isDigit_0 : cX7_isDigit.data.toList.drop 0 = dktX7_isDigit_0 := by decide +kernel
theorem dX7_isDigit_0 : decode cX7_isDigit 0 = .ok (.aload_n 0, 1) := dk_42 (dk_at dksX7_isDigit_0 0 rfl rfl)
theorem dX7_isDigit_1 : decode cX7_isDigit 1 = .ok (.iload_n 1, 1) := dk_27 (dk_at dksX7_isDigit_0 1 rfl rfl)
theorem dX7_isDigit_2 : decode cX7_isDigit 2 = .ok (.invokevirtual 36, 3) := dk_182 0 36 (dk_at dksX7_isDigit_0 2 rfl rfl)
theorem dX7_isDigit_5 : decode cX7_isDigit 5 = .ok (.i2l, 1) := dk_133 (dk_at dksX7_isDigit_0 5 rfl rfl)
theorem dX7_isDigit_6 : decode cX7_isDigit 6 = .ok (.ldc2_w 48, 3) := dk_20 0 48 (dk_at dksX7_isDigit_0 6 rfl rfl)
theorem dX7_isDigit_9 : decode cX7_isDigit 9 = .ok (.ldc2_w 50, 3) := dk_20 0 50 (dk_at dksX7_isDigit_0 9 rfl rfl)
theorem dX7_isDigit_12 : decode cX7_isDigit 12 = .ok (.invokestatic 44, 3) := dk_184 0 44 (dk_at dksX7_isDigit_0 12 rfl rfl)
theorem dX7_isDigit_15 : decode cX7_isDigit 15 = .ok (.ireturn, 1) := dk_172 (dk_at dksX7_isDigit_0 15 rfl rfl)
abbrev cX7_text : ByteArray := prog_13_method_11_code
def yX7_text : MethodName := ⟨RX7, "text", "()LLosslessFabric$Told;"⟩
def dkwX7_text_3 : List UInt8 := [167, 255, 188, 42, 180, 0, 25, 176]
abbrev dktX7_text_3 : List UInt8 := dkwX7_text_3 ++ []
def dkwX7_text_2 : List UInt8 := [3, 4, 182, 0, 104, 42, 182, 0, 29, 42, 180, 0, 25, 89, 180, 0, 112, 4, 96, 181, 0, 112]
abbrev dktX7_text_2 : List UInt8 := dkwX7_text_2 ++ dktX7_text_3
def dkwX7_text_1 : List UInt8 := [182, 0, 104, 42, 42, 180, 0, 71, 182, 0, 108, 42, 42, 180, 0, 58, 7, 160, 0, 7, 4, 167, 0, 4]
abbrev dktX7_text_1 : List UInt8 := dkwX7_text_1 ++ dktX7_text_2
def dkwX7_text_0 : List UInt8 := [42, 180, 0, 58, 153, 0, 67, 42, 42, 180, 0, 58, 4, 160, 0, 7, 4, 167, 0, 4, 3, 4]
abbrev dktX7_text_0 : List UInt8 := dkwX7_text_0 ++ dktX7_text_1
theorem dksX7_text_0 : cX7_text.data.toList.drop 0 = dktX7_text_0 := by decide +kernel
theorem dksX7_text_1 : cX7_text.data.toList.drop 22 = dktX7_text_1 := dk_seg dksX7_text_0 22 rfl rfl
theorem dksX7_text_2 : cX7_text.data.toList.drop 46 = dktX7_text_2 := dk_seg dksX7_text_1 24 rfl rfl
theorem dksX7_text_3 : cX7_text.data.toList.drop 68 = dktX7_text_3 := dk_seg dksX7_text_2 22 rfl rfl
theorem dX7_text_0 : decode cX7_text 0 = .ok (.aload_n 0, 1) := dk_42 (dk_at dksX7_text_0 0 rfl rfl)
theorem dX7_text_1 : decode cX7_text 1 = .ok (.getfield 58, 3) := dk_180 0 58 (dk_at dksX7_text_0 1 rfl rfl)
theorem dX7_text_4 : decode cX7_text 4 = .ok (.ifCond .eq 67, 3) := dk_153 0 67 (dk_at dksX7_text_0 4 rfl rfl)
theorem dX7_text_7 : decode cX7_text 7 = .ok (.aload_n 0, 1) := dk_42 (dk_at dksX7_text_0 7 rfl rfl)
theorem dX7_text_8 : decode cX7_text 8 = .ok (.aload_n 0, 1) := dk_42 (dk_at dksX7_text_0 8 rfl rfl)
theorem dX7_text_9 : decode cX7_text 9 = .ok (.getfield 58, 3) := dk_180 0 58 (dk_at dksX7_text_0 9 rfl rfl)
theorem dX7_text_12 : decode cX7_text 12 = .ok (.iconst 1, 1) := dk_4 (dk_at dksX7_text_0 12 rfl rfl)
theorem dX7_text_13 : decode cX7_text 13 = .ok (.if_icmp .ne 7, 3) := dk_160 0 7 (dk_at dksX7_text_0 13 rfl rfl)
theorem dX7_text_16 : decode cX7_text 16 = .ok (.iconst 1, 1) := dk_4 (dk_at dksX7_text_0 16 rfl rfl)
theorem dX7_text_17 : decode cX7_text 17 = .ok (.goto 4, 3) := dk_167 0 4 (dk_at dksX7_text_0 17 rfl rfl)
theorem dX7_text_20 : decode cX7_text 20 = .ok (.iconst 0, 1) := dk_3 (dk_at dksX7_text_0 20 rfl rfl)
theorem dX7_text_21 : decode cX7_text 21 = .ok (.iconst 1, 1) := dk_4 (dk_at dksX7_text_0 21 rfl rfl)
theorem dX7_text_22 : decode cX7_text 22 = .ok (.invokevirtual 104, 3) := dk_182 0 104 (dk_at dksX7_text_1 0 rfl rfl)
theorem dX7_text_25 : decode cX7_text 25 = .ok (.aload_n 0, 1) := dk_42 (dk_at dksX7_text_1 3 rfl rfl)
theorem dX7_text_26 : decode cX7_text 26 = .ok (.aload_n 0, 1) := dk_42 (dk_at dksX7_text_1 4 rfl rfl)
theorem dX7_text_27 : decode cX7_text 27 = .ok (.getfield 71, 3) := dk_180 0 71 (dk_at dksX7_text_1 5 rfl rfl)
theorem dX7_text_30 : decode cX7_text 30 = .ok (.invokevirtual 108, 3) := dk_182 0 108 (dk_at dksX7_text_1 8 rfl rfl)
theorem dX7_text_33 : decode cX7_text 33 = .ok (.aload_n 0, 1) := dk_42 (dk_at dksX7_text_1 11 rfl rfl)
theorem dX7_text_34 : decode cX7_text 34 = .ok (.aload_n 0, 1) := dk_42 (dk_at dksX7_text_1 12 rfl rfl)
theorem dX7_text_35 : decode cX7_text 35 = .ok (.getfield 58, 3) := dk_180 0 58 (dk_at dksX7_text_1 13 rfl rfl)
theorem dX7_text_38 : decode cX7_text 38 = .ok (.iconst 4, 1) := dk_7 (dk_at dksX7_text_1 16 rfl rfl)
theorem dX7_text_39 : decode cX7_text 39 = .ok (.if_icmp .ne 7, 3) := dk_160 0 7 (dk_at dksX7_text_1 17 rfl rfl)
theorem dX7_text_42 : decode cX7_text 42 = .ok (.iconst 1, 1) := dk_4 (dk_at dksX7_text_1 20 rfl rfl)
theorem dX7_text_43 : decode cX7_text 43 = .ok (.goto 4, 3) := dk_167 0 4 (dk_at dksX7_text_1 21 rfl rfl)
theorem dX7_text_46 : decode cX7_text 46 = .ok (.iconst 0, 1) := dk_3 (dk_at dksX7_text_2 0 rfl rfl)
theorem dX7_text_47 : decode cX7_text 47 = .ok (.iconst 1, 1) := dk_4 (dk_at dksX7_text_2 1 rfl rfl)
theorem dX7_text_48 : decode cX7_text 48 = .ok (.invokevirtual 104, 3) := dk_182 0 104 (dk_at dksX7_text_2 2 rfl rfl)
theorem dX7_text_51 : decode cX7_text 51 = .ok (.aload_n 0, 1) := dk_42 (dk_at dksX7_text_2 5 rfl rfl)
theorem dX7_text_52 : decode cX7_text 52 = .ok (.invokevirtual 29, 3) := dk_182 0 29 (dk_at dksX7_text_2 6 rfl rfl)
theorem dX7_text_55 : decode cX7_text 55 = .ok (.aload_n 0, 1) := dk_42 (dk_at dksX7_text_2 9 rfl rfl)
theorem dX7_text_56 : decode cX7_text 56 = .ok (.getfield 25, 3) := dk_180 0 25 (dk_at dksX7_text_2 10 rfl rfl)
theorem dX7_text_59 : decode cX7_text 59 = .ok (.dup, 1) := dk_89 (dk_at dksX7_text_2 13 rfl rfl)
theorem dX7_text_60 : decode cX7_text 60 = .ok (.getfield 112, 3) := dk_180 0 112 (dk_at dksX7_text_2 14 rfl rfl)
theorem dX7_text_63 : decode cX7_text 63 = .ok (.iconst 1, 1) := dk_4 (dk_at dksX7_text_2 17 rfl rfl)
theorem dX7_text_64 : decode cX7_text 64 = .ok (.iadd, 1) := dk_96 (dk_at dksX7_text_2 18 rfl rfl)
theorem dX7_text_65 : decode cX7_text 65 = .ok (.putfield 112, 3) := dk_181 0 112 (dk_at dksX7_text_2 19 rfl rfl)
theorem dX7_text_68 : decode cX7_text 68 = .ok (.goto (-68), 3) := dk_167 255 188 (dk_at dksX7_text_3 0 rfl rfl)
theorem dX7_text_71 : decode cX7_text 71 = .ok (.aload_n 0, 1) := dk_42 (dk_at dksX7_text_3 3 rfl rfl)
theorem dX7_text_72 : decode cX7_text 72 = .ok (.getfield 25, 3) := dk_180 0 25 (dk_at dksX7_text_3 4 rfl rfl)
theorem dX7_text_75 : decode cX7_text 75 = .ok (.areturn, 1) := dk_176 (dk_at dksX7_text_3 7 rfl rfl)
abbrev cX7_must : ByteArray := prog_13_method_9_code
def yX7_must : MethodName := ⟨RX7, "must", "(ZI)V"⟩
def dkwX7_must_0 : List UInt8 := [27, 154, 0, 16, 187, 0, 99, 89, 28, 42, 180, 0, 55, 183, 0, 101, 191, 177]
abbrev dktX7_must_0 : List UInt8 := dkwX7_must_0 ++ []
theorem dksX7_must_0 : cX7_must.data.toList.drop 0 = dktX7_must_0 := by decide +kernel
theorem dX7_must_0 : decode cX7_must 0 = .ok (.iload_n 1, 1) := dk_27 (dk_at dksX7_must_0 0 rfl rfl)
theorem dX7_must_1 : decode cX7_must 1 = .ok (.ifCond .ne 16, 3) := dk_154 0 16 (dk_at dksX7_must_0 1 rfl rfl)
theorem dX7_must_4 : decode cX7_must 4 = .ok (.new 99, 3) := dk_187 0 99 (dk_at dksX7_must_0 4 rfl rfl)
theorem dX7_must_7 : decode cX7_must 7 = .ok (.dup, 1) := dk_89 (dk_at dksX7_must_0 7 rfl rfl)
theorem dX7_must_8 : decode cX7_must 8 = .ok (.iload_n 2, 1) := dk_28 (dk_at dksX7_must_0 8 rfl rfl)
theorem dX7_must_9 : decode cX7_must 9 = .ok (.aload_n 0, 1) := dk_42 (dk_at dksX7_must_0 9 rfl rfl)
theorem dX7_must_10 : decode cX7_must 10 = .ok (.getfield 55, 3) := dk_180 0 55 (dk_at dksX7_must_0 10 rfl rfl)
theorem dX7_must_13 : decode cX7_must 13 = .ok (.invokespecial 101, 3) := dk_183 0 101 (dk_at dksX7_must_0 13 rfl rfl)
theorem dX7_must_16 : decode cX7_must 16 = .ok (.athrow, 1) := dk_191 (dk_at dksX7_must_0 16 rfl rfl)
theorem dX7_must_17 : decode cX7_must 17 = .ok (.return_, 1) := dk_177 (dk_at dksX7_must_0 17 rfl rfl)
abbrev cX7_line : ByteArray := prog_13_method_12_code
def yX7_line : MethodName := ⟨RX7, "line", "(I)V"⟩
def dkwX7_line_9 : List UInt8 := [42, 3, 18, 148, 182, 0, 127, 181, 0, 149, 177]
abbrev dktX7_line_9 : List UInt8 := dkwX7_line_9 ++ []
def dkwX7_line_8 : List UInt8 := [181, 0, 142, 42, 180, 0, 25, 42, 4, 16, 99, 182, 0, 127, 181, 0, 145, 167, 0, 17, 42, 180, 0, 25]
abbrev dktX7_line_8 : List UInt8 := dkwX7_line_8 ++ dktX7_line_9
def dkwX7_line_7 : List UInt8 := [42, 4, 17, 3, 231, 182, 0, 127, 181, 0, 139, 42, 180, 0, 25, 42, 4, 16, 99, 182, 0, 127]
abbrev dktX7_line_7 : List UInt8 := dkwX7_line_7 ++ dktX7_line_8
def dkwX7_line_6 : List UInt8 := [180, 0, 25, 42, 3, 7, 182, 0, 127, 181, 0, 136, 167, 0, 68, 27, 6, 160, 0, 49, 42, 180, 0, 25]
abbrev dktX7_line_6 : List UInt8 := dkwX7_line_6 ++ dktX7_line_7
def dkwX7_line_5 : List UInt8 := [182, 0, 127, 181, 0, 130, 42, 180, 0, 25, 42, 4, 17, 1, 244, 182, 0, 127, 181, 0, 133, 42]
abbrev dktX7_line_5 : List UInt8 := dkwX7_line_5 ++ dktX7_line_6
def dkwX7_line_4 : List UInt8 := [27, 120, 128, 181, 0, 124, 42, 182, 0, 29, 27, 5, 160, 0, 49, 42, 180, 0, 25, 42, 4, 17, 3, 231]
abbrev dktX7_line_4 : List UInt8 := dkwX7_line_4 ++ dktX7_line_5
def dkwX7_line_3 : List UInt8 := [122, 4, 126, 154, 0, 7, 4, 167, 0, 4, 3, 6, 182, 0, 104, 42, 180, 0, 25, 89, 180, 0, 124, 4]
abbrev dktX7_line_3 : List UInt8 := dkwX7_line_3 ++ dktX7_line_4
def dkwX7_line_2 : List UInt8 := [42, 182, 0, 115, 177, 42, 182, 0, 118, 177, 42, 182, 0, 121, 177, 42, 42, 180, 0, 25, 180, 0, 124, 27]
abbrev dktX7_line_2 : List UInt8 := dkwX7_line_2 ++ dktX7_line_3
def dkwX7_line_1 : List UInt8 := [170, 0, 0, 0, 0, 0, 50, 0, 0, 0, 0, 0, 0, 0, 4, 0, 0, 0, 35, 0, 0, 0, 40, 0, 0, 0, 50, 0, 0, 0, 50, 0, 0, 0, 45]
abbrev dktX7_line_1 : List UInt8 := dkwX7_line_1 ++ dktX7_line_2
def dkwX7_line_0 : List UInt8 := [27]
abbrev dktX7_line_0 : List UInt8 := dkwX7_line_0 ++ dktX7_line_1
theorem dksX7_line_0 : cX7_line.data.toList.drop 0 = dktX7_line_0 := by decide +kernel
theorem dksX7_line_1 : cX7_line.data.toList.drop 1 = dktX7_line_1 := dk_seg dksX7_line_0 1 rfl rfl
theorem dksX7_line_2 : cX7_line.data.toList.drop 36 = dktX7_line_2 := dk_seg dksX7_line_1 35 rfl rfl
theorem dksX7_line_3 : cX7_line.data.toList.drop 60 = dktX7_line_3 := dk_seg dksX7_line_2 24 rfl rfl
theorem dksX7_line_4 : cX7_line.data.toList.drop 84 = dktX7_line_4 := dk_seg dksX7_line_3 24 rfl rfl
theorem dksX7_line_5 : cX7_line.data.toList.drop 108 = dktX7_line_5 := dk_seg dksX7_line_4 24 rfl rfl
theorem dksX7_line_6 : cX7_line.data.toList.drop 130 = dktX7_line_6 := dk_seg dksX7_line_5 22 rfl rfl
theorem dksX7_line_7 : cX7_line.data.toList.drop 154 = dktX7_line_7 := dk_seg dksX7_line_6 24 rfl rfl
theorem dksX7_line_8 : cX7_line.data.toList.drop 176 = dktX7_line_8 := dk_seg dksX7_line_7 22 rfl rfl
theorem dksX7_line_9 : cX7_line.data.toList.drop 200 = dktX7_line_9 := dk_seg dksX7_line_8 24 rfl rfl
theorem dX7_line_0 : decode cX7_line 0 = .ok (.iload_n 1, 1) := dk_27 (dk_at dksX7_line_0 0 rfl rfl)
theorem dX7_line_1 : decode cX7_line 1 = .ok (.tableswitch 50 0 4 #[35, 40, 50, 50, 45], 35) := by decide +kernel
theorem dX7_line_36 : decode cX7_line 36 = .ok (.aload_n 0, 1) := dk_42 (dk_at dksX7_line_2 0 rfl rfl)
theorem dX7_line_37 : decode cX7_line 37 = .ok (.invokevirtual 115, 3) := dk_182 0 115 (dk_at dksX7_line_2 1 rfl rfl)
theorem dX7_line_40 : decode cX7_line 40 = .ok (.return_, 1) := dk_177 (dk_at dksX7_line_2 4 rfl rfl)
theorem dX7_line_41 : decode cX7_line 41 = .ok (.aload_n 0, 1) := dk_42 (dk_at dksX7_line_2 5 rfl rfl)
theorem dX7_line_42 : decode cX7_line 42 = .ok (.invokevirtual 118, 3) := dk_182 0 118 (dk_at dksX7_line_2 6 rfl rfl)
theorem dX7_line_45 : decode cX7_line 45 = .ok (.return_, 1) := dk_177 (dk_at dksX7_line_2 9 rfl rfl)
theorem dX7_line_46 : decode cX7_line 46 = .ok (.aload_n 0, 1) := dk_42 (dk_at dksX7_line_2 10 rfl rfl)
theorem dX7_line_47 : decode cX7_line 47 = .ok (.invokevirtual 121, 3) := dk_182 0 121 (dk_at dksX7_line_2 11 rfl rfl)
theorem dX7_line_50 : decode cX7_line 50 = .ok (.return_, 1) := dk_177 (dk_at dksX7_line_2 14 rfl rfl)
theorem dX7_line_51 : decode cX7_line 51 = .ok (.aload_n 0, 1) := dk_42 (dk_at dksX7_line_2 15 rfl rfl)
theorem dX7_line_52 : decode cX7_line 52 = .ok (.aload_n 0, 1) := dk_42 (dk_at dksX7_line_2 16 rfl rfl)
theorem dX7_line_53 : decode cX7_line 53 = .ok (.getfield 25, 3) := dk_180 0 25 (dk_at dksX7_line_2 17 rfl rfl)
theorem dX7_line_56 : decode cX7_line 56 = .ok (.getfield 124, 3) := dk_180 0 124 (dk_at dksX7_line_2 20 rfl rfl)
theorem dX7_line_59 : decode cX7_line 59 = .ok (.iload_n 1, 1) := dk_27 (dk_at dksX7_line_2 23 rfl rfl)
theorem dX7_line_60 : decode cX7_line 60 = .ok (.ishr, 1) := dk_122 (dk_at dksX7_line_3 0 rfl rfl)
theorem dX7_line_61 : decode cX7_line 61 = .ok (.iconst 1, 1) := dk_4 (dk_at dksX7_line_3 1 rfl rfl)
theorem dX7_line_62 : decode cX7_line 62 = .ok (.iand, 1) := dk_126 (dk_at dksX7_line_3 2 rfl rfl)
theorem dX7_line_63 : decode cX7_line 63 = .ok (.ifCond .ne 7, 3) := dk_154 0 7 (dk_at dksX7_line_3 3 rfl rfl)
theorem dX7_line_66 : decode cX7_line 66 = .ok (.iconst 1, 1) := dk_4 (dk_at dksX7_line_3 6 rfl rfl)
theorem dX7_line_67 : decode cX7_line 67 = .ok (.goto 4, 3) := dk_167 0 4 (dk_at dksX7_line_3 7 rfl rfl)
theorem dX7_line_70 : decode cX7_line 70 = .ok (.iconst 0, 1) := dk_3 (dk_at dksX7_line_3 10 rfl rfl)
theorem dX7_line_71 : decode cX7_line 71 = .ok (.iconst 3, 1) := dk_6 (dk_at dksX7_line_3 11 rfl rfl)
theorem dX7_line_72 : decode cX7_line 72 = .ok (.invokevirtual 104, 3) := dk_182 0 104 (dk_at dksX7_line_3 12 rfl rfl)
theorem dX7_line_75 : decode cX7_line 75 = .ok (.aload_n 0, 1) := dk_42 (dk_at dksX7_line_3 15 rfl rfl)
theorem dX7_line_76 : decode cX7_line 76 = .ok (.getfield 25, 3) := dk_180 0 25 (dk_at dksX7_line_3 16 rfl rfl)
theorem dX7_line_79 : decode cX7_line 79 = .ok (.dup, 1) := dk_89 (dk_at dksX7_line_3 19 rfl rfl)
theorem dX7_line_80 : decode cX7_line 80 = .ok (.getfield 124, 3) := dk_180 0 124 (dk_at dksX7_line_3 20 rfl rfl)
theorem dX7_line_83 : decode cX7_line 83 = .ok (.iconst 1, 1) := dk_4 (dk_at dksX7_line_3 23 rfl rfl)
theorem dX7_line_84 : decode cX7_line 84 = .ok (.iload_n 1, 1) := dk_27 (dk_at dksX7_line_4 0 rfl rfl)
theorem dX7_line_85 : decode cX7_line 85 = .ok (.ishl, 1) := dk_120 (dk_at dksX7_line_4 1 rfl rfl)
theorem dX7_line_86 : decode cX7_line 86 = .ok (.ior, 1) := dk_128 (dk_at dksX7_line_4 2 rfl rfl)
theorem dX7_line_87 : decode cX7_line 87 = .ok (.putfield 124, 3) := dk_181 0 124 (dk_at dksX7_line_4 3 rfl rfl)
theorem dX7_line_90 : decode cX7_line 90 = .ok (.aload_n 0, 1) := dk_42 (dk_at dksX7_line_4 6 rfl rfl)
theorem dX7_line_91 : decode cX7_line 91 = .ok (.invokevirtual 29, 3) := dk_182 0 29 (dk_at dksX7_line_4 7 rfl rfl)
theorem dX7_line_94 : decode cX7_line 94 = .ok (.iload_n 1, 1) := dk_27 (dk_at dksX7_line_4 10 rfl rfl)
theorem dX7_line_95 : decode cX7_line 95 = .ok (.iconst 2, 1) := dk_5 (dk_at dksX7_line_4 11 rfl rfl)
theorem dX7_line_96 : decode cX7_line 96 = .ok (.if_icmp .ne 49, 3) := dk_160 0 49 (dk_at dksX7_line_4 12 rfl rfl)
theorem dX7_line_99 : decode cX7_line 99 = .ok (.aload_n 0, 1) := dk_42 (dk_at dksX7_line_4 15 rfl rfl)
theorem dX7_line_100 : decode cX7_line 100 = .ok (.getfield 25, 3) := dk_180 0 25 (dk_at dksX7_line_4 16 rfl rfl)
theorem dX7_line_103 : decode cX7_line 103 = .ok (.aload_n 0, 1) := dk_42 (dk_at dksX7_line_4 19 rfl rfl)
theorem dX7_line_104 : decode cX7_line 104 = .ok (.iconst 1, 1) := dk_4 (dk_at dksX7_line_4 20 rfl rfl)
theorem dX7_line_105 : decode cX7_line 105 = .ok (.sipush 999, 3) := dk_17 3 231 (dk_at dksX7_line_4 21 rfl rfl)
theorem dX7_line_108 : decode cX7_line 108 = .ok (.invokevirtual 127, 3) := dk_182 0 127 (dk_at dksX7_line_5 0 rfl rfl)
theorem dX7_line_111 : decode cX7_line 111 = .ok (.putfield 130, 3) := dk_181 0 130 (dk_at dksX7_line_5 3 rfl rfl)
theorem dX7_line_114 : decode cX7_line 114 = .ok (.aload_n 0, 1) := dk_42 (dk_at dksX7_line_5 6 rfl rfl)
theorem dX7_line_115 : decode cX7_line 115 = .ok (.getfield 25, 3) := dk_180 0 25 (dk_at dksX7_line_5 7 rfl rfl)
theorem dX7_line_118 : decode cX7_line 118 = .ok (.aload_n 0, 1) := dk_42 (dk_at dksX7_line_5 10 rfl rfl)
theorem dX7_line_119 : decode cX7_line 119 = .ok (.iconst 1, 1) := dk_4 (dk_at dksX7_line_5 11 rfl rfl)
theorem dX7_line_120 : decode cX7_line 120 = .ok (.sipush 500, 3) := dk_17 1 244 (dk_at dksX7_line_5 12 rfl rfl)
theorem dX7_line_123 : decode cX7_line 123 = .ok (.invokevirtual 127, 3) := dk_182 0 127 (dk_at dksX7_line_5 15 rfl rfl)
theorem dX7_line_126 : decode cX7_line 126 = .ok (.putfield 133, 3) := dk_181 0 133 (dk_at dksX7_line_5 18 rfl rfl)
theorem dX7_line_129 : decode cX7_line 129 = .ok (.aload_n 0, 1) := dk_42 (dk_at dksX7_line_5 21 rfl rfl)
theorem dX7_line_130 : decode cX7_line 130 = .ok (.getfield 25, 3) := dk_180 0 25 (dk_at dksX7_line_6 0 rfl rfl)
theorem dX7_line_133 : decode cX7_line 133 = .ok (.aload_n 0, 1) := dk_42 (dk_at dksX7_line_6 3 rfl rfl)
theorem dX7_line_134 : decode cX7_line 134 = .ok (.iconst 0, 1) := dk_3 (dk_at dksX7_line_6 4 rfl rfl)
theorem dX7_line_135 : decode cX7_line 135 = .ok (.iconst 4, 1) := dk_7 (dk_at dksX7_line_6 5 rfl rfl)
theorem dX7_line_136 : decode cX7_line 136 = .ok (.invokevirtual 127, 3) := dk_182 0 127 (dk_at dksX7_line_6 6 rfl rfl)
theorem dX7_line_139 : decode cX7_line 139 = .ok (.putfield 136, 3) := dk_181 0 136 (dk_at dksX7_line_6 9 rfl rfl)
theorem dX7_line_142 : decode cX7_line 142 = .ok (.goto 68, 3) := dk_167 0 68 (dk_at dksX7_line_6 12 rfl rfl)
theorem dX7_line_145 : decode cX7_line 145 = .ok (.iload_n 1, 1) := dk_27 (dk_at dksX7_line_6 15 rfl rfl)
theorem dX7_line_146 : decode cX7_line 146 = .ok (.iconst 3, 1) := dk_6 (dk_at dksX7_line_6 16 rfl rfl)
theorem dX7_line_147 : decode cX7_line 147 = .ok (.if_icmp .ne 49, 3) := dk_160 0 49 (dk_at dksX7_line_6 17 rfl rfl)
theorem dX7_line_150 : decode cX7_line 150 = .ok (.aload_n 0, 1) := dk_42 (dk_at dksX7_line_6 20 rfl rfl)
theorem dX7_line_151 : decode cX7_line 151 = .ok (.getfield 25, 3) := dk_180 0 25 (dk_at dksX7_line_6 21 rfl rfl)
theorem dX7_line_154 : decode cX7_line 154 = .ok (.aload_n 0, 1) := dk_42 (dk_at dksX7_line_7 0 rfl rfl)
theorem dX7_line_155 : decode cX7_line 155 = .ok (.iconst 1, 1) := dk_4 (dk_at dksX7_line_7 1 rfl rfl)
theorem dX7_line_156 : decode cX7_line 156 = .ok (.sipush 999, 3) := dk_17 3 231 (dk_at dksX7_line_7 2 rfl rfl)
theorem dX7_line_159 : decode cX7_line 159 = .ok (.invokevirtual 127, 3) := dk_182 0 127 (dk_at dksX7_line_7 5 rfl rfl)
theorem dX7_line_162 : decode cX7_line 162 = .ok (.putfield 139, 3) := dk_181 0 139 (dk_at dksX7_line_7 8 rfl rfl)
theorem dX7_line_165 : decode cX7_line 165 = .ok (.aload_n 0, 1) := dk_42 (dk_at dksX7_line_7 11 rfl rfl)
theorem dX7_line_166 : decode cX7_line 166 = .ok (.getfield 25, 3) := dk_180 0 25 (dk_at dksX7_line_7 12 rfl rfl)
theorem dX7_line_169 : decode cX7_line 169 = .ok (.aload_n 0, 1) := dk_42 (dk_at dksX7_line_7 15 rfl rfl)
theorem dX7_line_170 : decode cX7_line 170 = .ok (.iconst 1, 1) := dk_4 (dk_at dksX7_line_7 16 rfl rfl)
theorem dX7_line_171 : decode cX7_line 171 = .ok (.bipush 99, 2) := dk_16 99 (dk_at dksX7_line_7 17 rfl rfl)
theorem dX7_line_173 : decode cX7_line 173 = .ok (.invokevirtual 127, 3) := dk_182 0 127 (dk_at dksX7_line_7 19 rfl rfl)
theorem dX7_line_176 : decode cX7_line 176 = .ok (.putfield 142, 3) := dk_181 0 142 (dk_at dksX7_line_8 0 rfl rfl)
theorem dX7_line_179 : decode cX7_line 179 = .ok (.aload_n 0, 1) := dk_42 (dk_at dksX7_line_8 3 rfl rfl)
theorem dX7_line_180 : decode cX7_line 180 = .ok (.getfield 25, 3) := dk_180 0 25 (dk_at dksX7_line_8 4 rfl rfl)
theorem dX7_line_183 : decode cX7_line 183 = .ok (.aload_n 0, 1) := dk_42 (dk_at dksX7_line_8 7 rfl rfl)
theorem dX7_line_184 : decode cX7_line 184 = .ok (.iconst 1, 1) := dk_4 (dk_at dksX7_line_8 8 rfl rfl)
theorem dX7_line_185 : decode cX7_line 185 = .ok (.bipush 99, 2) := dk_16 99 (dk_at dksX7_line_8 9 rfl rfl)
theorem dX7_line_187 : decode cX7_line 187 = .ok (.invokevirtual 127, 3) := dk_182 0 127 (dk_at dksX7_line_8 11 rfl rfl)
theorem dX7_line_190 : decode cX7_line 190 = .ok (.putfield 145, 3) := dk_181 0 145 (dk_at dksX7_line_8 14 rfl rfl)
theorem dX7_line_193 : decode cX7_line 193 = .ok (.goto 17, 3) := dk_167 0 17 (dk_at dksX7_line_8 17 rfl rfl)
theorem dX7_line_196 : decode cX7_line 196 = .ok (.aload_n 0, 1) := dk_42 (dk_at dksX7_line_8 20 rfl rfl)
theorem dX7_line_197 : decode cX7_line 197 = .ok (.getfield 25, 3) := dk_180 0 25 (dk_at dksX7_line_8 21 rfl rfl)
theorem dX7_line_200 : decode cX7_line 200 = .ok (.aload_n 0, 1) := dk_42 (dk_at dksX7_line_9 0 rfl rfl)
theorem dX7_line_201 : decode cX7_line 201 = .ok (.iconst 0, 1) := dk_3 (dk_at dksX7_line_9 1 rfl rfl)
theorem dX7_line_202 : decode cX7_line 202 = .ok (.ldc 148, 2) := dk_18 148 (dk_at dksX7_line_9 2 rfl rfl)
theorem dX7_line_204 : decode cX7_line 204 = .ok (.invokevirtual 127, 3) := dk_182 0 127 (dk_at dksX7_line_9 4 rfl rfl)
theorem dX7_line_207 : decode cX7_line 207 = .ok (.putfield 149, 3) := dk_181 0 149 (dk_at dksX7_line_9 7 rfl rfl)
theorem dX7_line_210 : decode cX7_line 210 = .ok (.return_, 1) := dk_177 (dk_at dksX7_line_9 10 rfl rfl)
abbrev cX7_link : ByteArray := prog_13_method_13_code
def yX7_link : MethodName := ⟨RX7, "link", "()V"⟩
def dkwX7_link_7 : List UInt8 := [183, 0, 163, 83, 42, 180, 0, 25, 89, 180, 0, 152, 4, 96, 181, 0, 152, 177]
abbrev dktX7_link_7 : List UInt8 := dkwX7_link_7 ++ []
def dkwX7_link_6 : List UInt8 := [29, 79, 89, 5, 21, 4, 79, 89, 6, 21, 5, 79, 89, 7, 42, 4, 17, 7, 207, 182, 0, 127, 79]
abbrev dktX7_link_6 : List UInt8 := dkwX7_link_6 ++ dktX7_link_7
def dkwX7_link_5 : List UInt8 := [180, 0, 157, 42, 180, 0, 25, 180, 0, 152, 187, 0, 161, 89, 27, 8, 188, 10, 89, 3, 28, 79, 89, 4]
abbrev dktX7_link_5 : List UInt8 := dkwX7_link_5 ++ dktX7_link_6
def dkwX7_link_4 : List UInt8 := [4, 17, 3, 231, 182, 0, 127, 54, 4, 42, 3, 21, 4, 4, 100, 182, 0, 127, 54, 5, 42, 180, 0, 25]
abbrev dktX7_link_4 : List UInt8 := dkwX7_link_4 ++ dktX7_link_5
def dkwX7_link_3 : List UInt8 := [180, 0, 71, 60, 42, 182, 0, 29, 42, 4, 16, 64, 182, 0, 127, 61, 42, 3, 7, 182, 0, 127, 62, 42]
abbrev dktX7_link_3 : List UInt8 := dkwX7_link_3 ++ dktX7_link_4
def dkwX7_link_2 : List UInt8 := [180, 0, 25, 42, 180, 0, 71, 182, 0, 155, 156, 0, 7, 4, 167, 0, 4, 3, 6, 182, 0, 104, 42]
abbrev dktX7_link_2 : List UInt8 := dkwX7_link_2 ++ dktX7_link_3
def dkwX7_link_1 : List UInt8 := [182, 0, 29, 42, 42, 180, 0, 58, 5, 160, 0, 7, 4, 167, 0, 4, 3, 4, 182, 0, 104, 42, 42]
abbrev dktX7_link_1 : List UInt8 := dkwX7_link_1 ++ dktX7_link_2
def dkwX7_link_0 : List UInt8 := [42, 42, 180, 0, 25, 180, 0, 152, 16, 10, 162, 0, 7, 4, 167, 0, 4, 3, 5, 182, 0, 104, 42]
abbrev dktX7_link_0 : List UInt8 := dkwX7_link_0 ++ dktX7_link_1
theorem dksX7_link_0 : cX7_link.data.toList.drop 0 = dktX7_link_0 := by decide +kernel
theorem dksX7_link_1 : cX7_link.data.toList.drop 23 = dktX7_link_1 := dk_seg dksX7_link_0 23 rfl rfl
theorem dksX7_link_2 : cX7_link.data.toList.drop 46 = dktX7_link_2 := dk_seg dksX7_link_1 23 rfl rfl
theorem dksX7_link_3 : cX7_link.data.toList.drop 69 = dktX7_link_3 := dk_seg dksX7_link_2 23 rfl rfl
theorem dksX7_link_4 : cX7_link.data.toList.drop 93 = dktX7_link_4 := dk_seg dksX7_link_3 24 rfl rfl
theorem dksX7_link_5 : cX7_link.data.toList.drop 117 = dktX7_link_5 := dk_seg dksX7_link_4 24 rfl rfl
theorem dksX7_link_6 : cX7_link.data.toList.drop 141 = dktX7_link_6 := dk_seg dksX7_link_5 24 rfl rfl
theorem dksX7_link_7 : cX7_link.data.toList.drop 164 = dktX7_link_7 := dk_seg dksX7_link_6 23 rfl rfl
theorem dX7_link_0 : decode cX7_link 0 = .ok (.aload_n 0, 1) := dk_42 (dk_at dksX7_link_0 0 rfl rfl)
theorem dX7_link_1 : decode cX7_link 1 = .ok (.aload_n 0, 1) := dk_42 (dk_at dksX7_link_0 1 rfl rfl)
theorem dX7_link_2 : decode cX7_link 2 = .ok (.getfield 25, 3) := dk_180 0 25 (dk_at dksX7_link_0 2 rfl rfl)
theorem dX7_link_5 : decode cX7_link 5 = .ok (.getfield 152, 3) := dk_180 0 152 (dk_at dksX7_link_0 5 rfl rfl)
theorem dX7_link_8 : decode cX7_link 8 = .ok (.bipush 10, 2) := dk_16 10 (dk_at dksX7_link_0 8 rfl rfl)
theorem dX7_link_10 : decode cX7_link 10 = .ok (.if_icmp .ge 7, 3) := dk_162 0 7 (dk_at dksX7_link_0 10 rfl rfl)
theorem dX7_link_13 : decode cX7_link 13 = .ok (.iconst 1, 1) := dk_4 (dk_at dksX7_link_0 13 rfl rfl)
theorem dX7_link_14 : decode cX7_link 14 = .ok (.goto 4, 3) := dk_167 0 4 (dk_at dksX7_link_0 14 rfl rfl)
theorem dX7_link_17 : decode cX7_link 17 = .ok (.iconst 0, 1) := dk_3 (dk_at dksX7_link_0 17 rfl rfl)
theorem dX7_link_18 : decode cX7_link 18 = .ok (.iconst 2, 1) := dk_5 (dk_at dksX7_link_0 18 rfl rfl)
theorem dX7_link_19 : decode cX7_link 19 = .ok (.invokevirtual 104, 3) := dk_182 0 104 (dk_at dksX7_link_0 19 rfl rfl)
theorem dX7_link_22 : decode cX7_link 22 = .ok (.aload_n 0, 1) := dk_42 (dk_at dksX7_link_0 22 rfl rfl)
theorem dX7_link_23 : decode cX7_link 23 = .ok (.invokevirtual 29, 3) := dk_182 0 29 (dk_at dksX7_link_1 0 rfl rfl)
theorem dX7_link_26 : decode cX7_link 26 = .ok (.aload_n 0, 1) := dk_42 (dk_at dksX7_link_1 3 rfl rfl)
theorem dX7_link_27 : decode cX7_link 27 = .ok (.aload_n 0, 1) := dk_42 (dk_at dksX7_link_1 4 rfl rfl)
theorem dX7_link_28 : decode cX7_link 28 = .ok (.getfield 58, 3) := dk_180 0 58 (dk_at dksX7_link_1 5 rfl rfl)
theorem dX7_link_31 : decode cX7_link 31 = .ok (.iconst 2, 1) := dk_5 (dk_at dksX7_link_1 8 rfl rfl)
theorem dX7_link_32 : decode cX7_link 32 = .ok (.if_icmp .ne 7, 3) := dk_160 0 7 (dk_at dksX7_link_1 9 rfl rfl)
theorem dX7_link_35 : decode cX7_link 35 = .ok (.iconst 1, 1) := dk_4 (dk_at dksX7_link_1 12 rfl rfl)
theorem dX7_link_36 : decode cX7_link 36 = .ok (.goto 4, 3) := dk_167 0 4 (dk_at dksX7_link_1 13 rfl rfl)
theorem dX7_link_39 : decode cX7_link 39 = .ok (.iconst 0, 1) := dk_3 (dk_at dksX7_link_1 16 rfl rfl)
theorem dX7_link_40 : decode cX7_link 40 = .ok (.iconst 1, 1) := dk_4 (dk_at dksX7_link_1 17 rfl rfl)
theorem dX7_link_41 : decode cX7_link 41 = .ok (.invokevirtual 104, 3) := dk_182 0 104 (dk_at dksX7_link_1 18 rfl rfl)
theorem dX7_link_44 : decode cX7_link 44 = .ok (.aload_n 0, 1) := dk_42 (dk_at dksX7_link_1 21 rfl rfl)
theorem dX7_link_45 : decode cX7_link 45 = .ok (.aload_n 0, 1) := dk_42 (dk_at dksX7_link_1 22 rfl rfl)
theorem dX7_link_46 : decode cX7_link 46 = .ok (.getfield 25, 3) := dk_180 0 25 (dk_at dksX7_link_2 0 rfl rfl)
theorem dX7_link_49 : decode cX7_link 49 = .ok (.aload_n 0, 1) := dk_42 (dk_at dksX7_link_2 3 rfl rfl)
theorem dX7_link_50 : decode cX7_link 50 = .ok (.getfield 71, 3) := dk_180 0 71 (dk_at dksX7_link_2 4 rfl rfl)
theorem dX7_link_53 : decode cX7_link 53 = .ok (.invokevirtual 155, 3) := dk_182 0 155 (dk_at dksX7_link_2 7 rfl rfl)
theorem dX7_link_56 : decode cX7_link 56 = .ok (.ifCond .ge 7, 3) := dk_156 0 7 (dk_at dksX7_link_2 10 rfl rfl)
theorem dX7_link_59 : decode cX7_link 59 = .ok (.iconst 1, 1) := dk_4 (dk_at dksX7_link_2 13 rfl rfl)
theorem dX7_link_60 : decode cX7_link 60 = .ok (.goto 4, 3) := dk_167 0 4 (dk_at dksX7_link_2 14 rfl rfl)
theorem dX7_link_63 : decode cX7_link 63 = .ok (.iconst 0, 1) := dk_3 (dk_at dksX7_link_2 17 rfl rfl)
theorem dX7_link_64 : decode cX7_link 64 = .ok (.iconst 3, 1) := dk_6 (dk_at dksX7_link_2 18 rfl rfl)
theorem dX7_link_65 : decode cX7_link 65 = .ok (.invokevirtual 104, 3) := dk_182 0 104 (dk_at dksX7_link_2 19 rfl rfl)
theorem dX7_link_68 : decode cX7_link 68 = .ok (.aload_n 0, 1) := dk_42 (dk_at dksX7_link_2 22 rfl rfl)
theorem dX7_link_69 : decode cX7_link 69 = .ok (.getfield 71, 3) := dk_180 0 71 (dk_at dksX7_link_3 0 rfl rfl)
theorem dX7_link_72 : decode cX7_link 72 = .ok (.istore_n 1, 1) := dk_60 (dk_at dksX7_link_3 3 rfl rfl)
theorem dX7_link_73 : decode cX7_link 73 = .ok (.aload_n 0, 1) := dk_42 (dk_at dksX7_link_3 4 rfl rfl)
theorem dX7_link_74 : decode cX7_link 74 = .ok (.invokevirtual 29, 3) := dk_182 0 29 (dk_at dksX7_link_3 5 rfl rfl)
theorem dX7_link_77 : decode cX7_link 77 = .ok (.aload_n 0, 1) := dk_42 (dk_at dksX7_link_3 8 rfl rfl)
theorem dX7_link_78 : decode cX7_link 78 = .ok (.iconst 1, 1) := dk_4 (dk_at dksX7_link_3 9 rfl rfl)
theorem dX7_link_79 : decode cX7_link 79 = .ok (.bipush 64, 2) := dk_16 64 (dk_at dksX7_link_3 10 rfl rfl)
theorem dX7_link_81 : decode cX7_link 81 = .ok (.invokevirtual 127, 3) := dk_182 0 127 (dk_at dksX7_link_3 12 rfl rfl)
theorem dX7_link_84 : decode cX7_link 84 = .ok (.istore_n 2, 1) := dk_61 (dk_at dksX7_link_3 15 rfl rfl)
theorem dX7_link_85 : decode cX7_link 85 = .ok (.aload_n 0, 1) := dk_42 (dk_at dksX7_link_3 16 rfl rfl)
theorem dX7_link_86 : decode cX7_link 86 = .ok (.iconst 0, 1) := dk_3 (dk_at dksX7_link_3 17 rfl rfl)
theorem dX7_link_87 : decode cX7_link 87 = .ok (.iconst 4, 1) := dk_7 (dk_at dksX7_link_3 18 rfl rfl)
theorem dX7_link_88 : decode cX7_link 88 = .ok (.invokevirtual 127, 3) := dk_182 0 127 (dk_at dksX7_link_3 19 rfl rfl)
theorem dX7_link_91 : decode cX7_link 91 = .ok (.istore_n 3, 1) := dk_62 (dk_at dksX7_link_3 22 rfl rfl)
theorem dX7_link_92 : decode cX7_link 92 = .ok (.aload_n 0, 1) := dk_42 (dk_at dksX7_link_3 23 rfl rfl)
theorem dX7_link_93 : decode cX7_link 93 = .ok (.iconst 1, 1) := dk_4 (dk_at dksX7_link_4 0 rfl rfl)
theorem dX7_link_94 : decode cX7_link 94 = .ok (.sipush 999, 3) := dk_17 3 231 (dk_at dksX7_link_4 1 rfl rfl)
theorem dX7_link_97 : decode cX7_link 97 = .ok (.invokevirtual 127, 3) := dk_182 0 127 (dk_at dksX7_link_4 4 rfl rfl)
theorem dX7_link_100 : decode cX7_link 100 = .ok (.istore 4, 2) := dk_54 4 (dk_at dksX7_link_4 7 rfl rfl)
theorem dX7_link_102 : decode cX7_link 102 = .ok (.aload_n 0, 1) := dk_42 (dk_at dksX7_link_4 9 rfl rfl)
theorem dX7_link_103 : decode cX7_link 103 = .ok (.iconst 0, 1) := dk_3 (dk_at dksX7_link_4 10 rfl rfl)
theorem dX7_link_104 : decode cX7_link 104 = .ok (.iload 4, 2) := dk_21 4 (dk_at dksX7_link_4 11 rfl rfl)
theorem dX7_link_106 : decode cX7_link 106 = .ok (.iconst 1, 1) := dk_4 (dk_at dksX7_link_4 13 rfl rfl)
theorem dX7_link_107 : decode cX7_link 107 = .ok (.isub, 1) := dk_100 (dk_at dksX7_link_4 14 rfl rfl)
theorem dX7_link_108 : decode cX7_link 108 = .ok (.invokevirtual 127, 3) := dk_182 0 127 (dk_at dksX7_link_4 15 rfl rfl)
theorem dX7_link_111 : decode cX7_link 111 = .ok (.istore 5, 2) := dk_54 5 (dk_at dksX7_link_4 18 rfl rfl)
theorem dX7_link_113 : decode cX7_link 113 = .ok (.aload_n 0, 1) := dk_42 (dk_at dksX7_link_4 20 rfl rfl)
theorem dX7_link_114 : decode cX7_link 114 = .ok (.getfield 25, 3) := dk_180 0 25 (dk_at dksX7_link_4 21 rfl rfl)
theorem dX7_link_117 : decode cX7_link 117 = .ok (.getfield 157, 3) := dk_180 0 157 (dk_at dksX7_link_5 0 rfl rfl)
theorem dX7_link_120 : decode cX7_link 120 = .ok (.aload_n 0, 1) := dk_42 (dk_at dksX7_link_5 3 rfl rfl)
theorem dX7_link_121 : decode cX7_link 121 = .ok (.getfield 25, 3) := dk_180 0 25 (dk_at dksX7_link_5 4 rfl rfl)
theorem dX7_link_124 : decode cX7_link 124 = .ok (.getfield 152, 3) := dk_180 0 152 (dk_at dksX7_link_5 7 rfl rfl)
theorem dX7_link_127 : decode cX7_link 127 = .ok (.new 161, 3) := dk_187 0 161 (dk_at dksX7_link_5 10 rfl rfl)
theorem dX7_link_130 : decode cX7_link 130 = .ok (.dup, 1) := dk_89 (dk_at dksX7_link_5 13 rfl rfl)
theorem dX7_link_131 : decode cX7_link 131 = .ok (.iload_n 1, 1) := dk_27 (dk_at dksX7_link_5 14 rfl rfl)
theorem dX7_link_132 : decode cX7_link 132 = .ok (.iconst 5, 1) := dk_8 (dk_at dksX7_link_5 15 rfl rfl)
theorem dX7_link_133 : decode cX7_link 133 = .ok (.newarray .int, 2) := dk_188_10 (dk_at dksX7_link_5 16 rfl rfl)
theorem dX7_link_135 : decode cX7_link 135 = .ok (.dup, 1) := dk_89 (dk_at dksX7_link_5 18 rfl rfl)
theorem dX7_link_136 : decode cX7_link 136 = .ok (.iconst 0, 1) := dk_3 (dk_at dksX7_link_5 19 rfl rfl)
theorem dX7_link_137 : decode cX7_link 137 = .ok (.iload_n 2, 1) := dk_28 (dk_at dksX7_link_5 20 rfl rfl)
theorem dX7_link_138 : decode cX7_link 138 = .ok (.iastore, 1) := dk_79 (dk_at dksX7_link_5 21 rfl rfl)
theorem dX7_link_139 : decode cX7_link 139 = .ok (.dup, 1) := dk_89 (dk_at dksX7_link_5 22 rfl rfl)
theorem dX7_link_140 : decode cX7_link 140 = .ok (.iconst 1, 1) := dk_4 (dk_at dksX7_link_5 23 rfl rfl)
theorem dX7_link_141 : decode cX7_link 141 = .ok (.iload_n 3, 1) := dk_29 (dk_at dksX7_link_6 0 rfl rfl)
theorem dX7_link_142 : decode cX7_link 142 = .ok (.iastore, 1) := dk_79 (dk_at dksX7_link_6 1 rfl rfl)
theorem dX7_link_143 : decode cX7_link 143 = .ok (.dup, 1) := dk_89 (dk_at dksX7_link_6 2 rfl rfl)
theorem dX7_link_144 : decode cX7_link 144 = .ok (.iconst 2, 1) := dk_5 (dk_at dksX7_link_6 3 rfl rfl)
theorem dX7_link_145 : decode cX7_link 145 = .ok (.iload 4, 2) := dk_21 4 (dk_at dksX7_link_6 4 rfl rfl)
theorem dX7_link_147 : decode cX7_link 147 = .ok (.iastore, 1) := dk_79 (dk_at dksX7_link_6 6 rfl rfl)
theorem dX7_link_148 : decode cX7_link 148 = .ok (.dup, 1) := dk_89 (dk_at dksX7_link_6 7 rfl rfl)
theorem dX7_link_149 : decode cX7_link 149 = .ok (.iconst 3, 1) := dk_6 (dk_at dksX7_link_6 8 rfl rfl)
theorem dX7_link_150 : decode cX7_link 150 = .ok (.iload 5, 2) := dk_21 5 (dk_at dksX7_link_6 9 rfl rfl)
theorem dX7_link_152 : decode cX7_link 152 = .ok (.iastore, 1) := dk_79 (dk_at dksX7_link_6 11 rfl rfl)
theorem dX7_link_153 : decode cX7_link 153 = .ok (.dup, 1) := dk_89 (dk_at dksX7_link_6 12 rfl rfl)
theorem dX7_link_154 : decode cX7_link 154 = .ok (.iconst 4, 1) := dk_7 (dk_at dksX7_link_6 13 rfl rfl)
theorem dX7_link_155 : decode cX7_link 155 = .ok (.aload_n 0, 1) := dk_42 (dk_at dksX7_link_6 14 rfl rfl)
theorem dX7_link_156 : decode cX7_link 156 = .ok (.iconst 1, 1) := dk_4 (dk_at dksX7_link_6 15 rfl rfl)
theorem dX7_link_157 : decode cX7_link 157 = .ok (.sipush 1999, 3) := dk_17 7 207 (dk_at dksX7_link_6 16 rfl rfl)
theorem dX7_link_160 : decode cX7_link 160 = .ok (.invokevirtual 127, 3) := dk_182 0 127 (dk_at dksX7_link_6 19 rfl rfl)
theorem dX7_link_163 : decode cX7_link 163 = .ok (.iastore, 1) := dk_79 (dk_at dksX7_link_6 22 rfl rfl)
theorem dX7_link_164 : decode cX7_link 164 = .ok (.invokespecial 163, 3) := dk_183 0 163 (dk_at dksX7_link_7 0 rfl rfl)
theorem dX7_link_167 : decode cX7_link 167 = .ok (.aastore, 1) := dk_83 (dk_at dksX7_link_7 3 rfl rfl)
theorem dX7_link_168 : decode cX7_link 168 = .ok (.aload_n 0, 1) := dk_42 (dk_at dksX7_link_7 4 rfl rfl)
theorem dX7_link_169 : decode cX7_link 169 = .ok (.getfield 25, 3) := dk_180 0 25 (dk_at dksX7_link_7 5 rfl rfl)
theorem dX7_link_172 : decode cX7_link 172 = .ok (.dup, 1) := dk_89 (dk_at dksX7_link_7 8 rfl rfl)
theorem dX7_link_173 : decode cX7_link 173 = .ok (.getfield 152, 3) := dk_180 0 152 (dk_at dksX7_link_7 9 rfl rfl)
theorem dX7_link_176 : decode cX7_link 176 = .ok (.iconst 1, 1) := dk_4 (dk_at dksX7_link_7 12 rfl rfl)
theorem dX7_link_177 : decode cX7_link 177 = .ok (.iadd, 1) := dk_96 (dk_at dksX7_link_7 13 rfl rfl)
theorem dX7_link_178 : decode cX7_link 178 = .ok (.putfield 152, 3) := dk_181 0 152 (dk_at dksX7_link_7 14 rfl rfl)
theorem dX7_link_181 : decode cX7_link 181 = .ok (.return_, 1) := dk_177 (dk_at dksX7_link_7 17 rfl rfl)
abbrev cX7_number : ByteArray := prog_13_method_10_code
def yX7_number : MethodName := ⟨RX7, "number", "(II)I"⟩
def dkwX7_number_1 : List UInt8 := [27, 133, 28, 133, 184, 0, 44, 5, 182, 0, 104, 42, 180, 0, 71, 62, 42, 182, 0, 29, 29, 172]
abbrev dktX7_number_1 : List UInt8 := dkwX7_number_1 ++ []
def dkwX7_number_0 : List UInt8 := [42, 42, 180, 0, 58, 6, 160, 0, 7, 4, 167, 0, 4, 3, 4, 182, 0, 104, 42, 42, 180, 0, 71, 133]
abbrev dktX7_number_0 : List UInt8 := dkwX7_number_0 ++ dktX7_number_1
theorem dksX7_number_0 : cX7_number.data.toList.drop 0 = dktX7_number_0 := by decide +kernel
theorem dksX7_number_1 : cX7_number.data.toList.drop 24 = dktX7_number_1 := dk_seg dksX7_number_0 24 rfl rfl
theorem dX7_number_0 : decode cX7_number 0 = .ok (.aload_n 0, 1) := dk_42 (dk_at dksX7_number_0 0 rfl rfl)
theorem dX7_number_1 : decode cX7_number 1 = .ok (.aload_n 0, 1) := dk_42 (dk_at dksX7_number_0 1 rfl rfl)
theorem dX7_number_2 : decode cX7_number 2 = .ok (.getfield 58, 3) := dk_180 0 58 (dk_at dksX7_number_0 2 rfl rfl)
theorem dX7_number_5 : decode cX7_number 5 = .ok (.iconst 3, 1) := dk_6 (dk_at dksX7_number_0 5 rfl rfl)
theorem dX7_number_6 : decode cX7_number 6 = .ok (.if_icmp .ne 7, 3) := dk_160 0 7 (dk_at dksX7_number_0 6 rfl rfl)
theorem dX7_number_9 : decode cX7_number 9 = .ok (.iconst 1, 1) := dk_4 (dk_at dksX7_number_0 9 rfl rfl)
theorem dX7_number_10 : decode cX7_number 10 = .ok (.goto 4, 3) := dk_167 0 4 (dk_at dksX7_number_0 10 rfl rfl)
theorem dX7_number_13 : decode cX7_number 13 = .ok (.iconst 0, 1) := dk_3 (dk_at dksX7_number_0 13 rfl rfl)
theorem dX7_number_14 : decode cX7_number 14 = .ok (.iconst 1, 1) := dk_4 (dk_at dksX7_number_0 14 rfl rfl)
theorem dX7_number_15 : decode cX7_number 15 = .ok (.invokevirtual 104, 3) := dk_182 0 104 (dk_at dksX7_number_0 15 rfl rfl)
theorem dX7_number_18 : decode cX7_number 18 = .ok (.aload_n 0, 1) := dk_42 (dk_at dksX7_number_0 18 rfl rfl)
theorem dX7_number_19 : decode cX7_number 19 = .ok (.aload_n 0, 1) := dk_42 (dk_at dksX7_number_0 19 rfl rfl)
theorem dX7_number_20 : decode cX7_number 20 = .ok (.getfield 71, 3) := dk_180 0 71 (dk_at dksX7_number_0 20 rfl rfl)
theorem dX7_number_23 : decode cX7_number 23 = .ok (.i2l, 1) := dk_133 (dk_at dksX7_number_0 23 rfl rfl)
theorem dX7_number_24 : decode cX7_number 24 = .ok (.iload_n 1, 1) := dk_27 (dk_at dksX7_number_1 0 rfl rfl)
theorem dX7_number_25 : decode cX7_number 25 = .ok (.i2l, 1) := dk_133 (dk_at dksX7_number_1 1 rfl rfl)
theorem dX7_number_26 : decode cX7_number 26 = .ok (.iload_n 2, 1) := dk_28 (dk_at dksX7_number_1 2 rfl rfl)
theorem dX7_number_27 : decode cX7_number 27 = .ok (.i2l, 1) := dk_133 (dk_at dksX7_number_1 3 rfl rfl)
theorem dX7_number_28 : decode cX7_number 28 = .ok (.invokestatic 44, 3) := dk_184 0 44 (dk_at dksX7_number_1 4 rfl rfl)
theorem dX7_number_31 : decode cX7_number 31 = .ok (.iconst 2, 1) := dk_5 (dk_at dksX7_number_1 7 rfl rfl)
theorem dX7_number_32 : decode cX7_number 32 = .ok (.invokevirtual 104, 3) := dk_182 0 104 (dk_at dksX7_number_1 8 rfl rfl)
theorem dX7_number_35 : decode cX7_number 35 = .ok (.aload_n 0, 1) := dk_42 (dk_at dksX7_number_1 11 rfl rfl)
theorem dX7_number_36 : decode cX7_number 36 = .ok (.getfield 71, 3) := dk_180 0 71 (dk_at dksX7_number_1 12 rfl rfl)
theorem dX7_number_39 : decode cX7_number 39 = .ok (.istore_n 3, 1) := dk_62 (dk_at dksX7_number_1 15 rfl rfl)
theorem dX7_number_40 : decode cX7_number 40 = .ok (.aload_n 0, 1) := dk_42 (dk_at dksX7_number_1 16 rfl rfl)
theorem dX7_number_41 : decode cX7_number 41 = .ok (.invokevirtual 29, 3) := dk_182 0 29 (dk_at dksX7_number_1 17 rfl rfl)
theorem dX7_number_44 : decode cX7_number 44 = .ok (.iload_n 3, 1) := dk_29 (dk_at dksX7_number_1 20 rfl rfl)
theorem dX7_number_45 : decode cX7_number 45 = .ok (.ireturn, 1) := dk_172 (dk_at dksX7_number_1 21 rfl rfl)
abbrev cX7_flow : ByteArray := prog_13_method_14_code
def yX7_flow : MethodName := ⟨RX7, "flow", "()V"⟩
def dkwX7_flow_10 : List UInt8 := [180, 0, 166, 4, 96, 181, 0, 166, 177]
abbrev dktX7_flow_10 : List UInt8 := dkwX7_flow_10 ++ []
def dkwX7_flow_9 : List UInt8 := [167, 255, 158, 42, 180, 0, 25, 180, 0, 183, 42, 180, 0, 25, 180, 0, 166, 44, 83, 42, 180, 0, 25, 89]
abbrev dktX7_flow_9 : List UInt8 := dkwX7_flow_9 ++ dktX7_flow_10
def dkwX7_flow_8 : List UInt8 := [180, 0, 179, 44, 180, 0, 174, 29, 79, 44, 89, 180, 0, 174, 4, 96, 181, 0, 174, 42, 182, 0, 29]
abbrev dktX7_flow_8 : List UInt8 := dkwX7_flow_8 ++ dktX7_flow_9
def dkwX7_flow_7 : List UInt8 := [4, 167, 0, 4, 3, 6, 182, 0, 104, 42, 29, 155, 0, 7, 4, 167, 0, 4, 3, 7, 182, 0, 104, 44]
abbrev dktX7_flow_7 : List UInt8 := dkwX7_flow_7 ++ dktX7_flow_8
def dkwX7_flow_6 : List UInt8 := [180, 0, 25, 42, 180, 0, 71, 182, 0, 155, 62, 42, 29, 155, 0, 11, 44, 29, 182, 0, 177, 156, 0, 7]
abbrev dktX7_flow_6 : List UInt8 := dkwX7_flow_6 ++ dktX7_flow_7
def dkwX7_flow_5 : List UInt8 := [160, 0, 96, 42, 44, 180, 0, 174, 8, 162, 0, 7, 4, 167, 0, 4, 3, 5, 182, 0, 104, 42]
abbrev dktX7_flow_5 : List UInt8 := dkwX7_flow_5 ++ dktX7_flow_6
def dkwX7_flow_4 : List UInt8 := [77, 42, 42, 180, 0, 58, 5, 160, 0, 7, 4, 167, 0, 4, 3, 4, 182, 0, 104, 42, 180, 0, 58, 5]
abbrev dktX7_flow_4 : List UInt8 := dkwX7_flow_4 ++ dktX7_flow_5
def dkwX7_flow_3 : List UInt8 := [180, 0, 71, 60, 42, 182, 0, 29, 187, 0, 171, 89, 27, 42, 4, 17, 4, 0, 182, 0, 127, 183, 0, 173]
abbrev dktX7_flow_3 : List UInt8 := dkwX7_flow_3 ++ dktX7_flow_4
def dkwX7_flow_2 : List UInt8 := [180, 0, 25, 42, 180, 0, 71, 182, 0, 169, 156, 0, 7, 4, 167, 0, 4, 3, 6, 182, 0, 104, 42]
abbrev dktX7_flow_2 : List UInt8 := dkwX7_flow_2 ++ dktX7_flow_3
def dkwX7_flow_1 : List UInt8 := [182, 0, 29, 42, 42, 180, 0, 58, 5, 160, 0, 7, 4, 167, 0, 4, 3, 4, 182, 0, 104, 42, 42]
abbrev dktX7_flow_1 : List UInt8 := dkwX7_flow_1 ++ dktX7_flow_2
def dkwX7_flow_0 : List UInt8 := [42, 42, 180, 0, 25, 180, 0, 166, 16, 8, 162, 0, 7, 4, 167, 0, 4, 3, 5, 182, 0, 104, 42]
abbrev dktX7_flow_0 : List UInt8 := dkwX7_flow_0 ++ dktX7_flow_1
theorem dksX7_flow_0 : cX7_flow.data.toList.drop 0 = dktX7_flow_0 := by decide +kernel
theorem dksX7_flow_1 : cX7_flow.data.toList.drop 23 = dktX7_flow_1 := dk_seg dksX7_flow_0 23 rfl rfl
theorem dksX7_flow_2 : cX7_flow.data.toList.drop 46 = dktX7_flow_2 := dk_seg dksX7_flow_1 23 rfl rfl
theorem dksX7_flow_3 : cX7_flow.data.toList.drop 69 = dktX7_flow_3 := dk_seg dksX7_flow_2 23 rfl rfl
theorem dksX7_flow_4 : cX7_flow.data.toList.drop 93 = dktX7_flow_4 := dk_seg dksX7_flow_3 24 rfl rfl
theorem dksX7_flow_5 : cX7_flow.data.toList.drop 117 = dktX7_flow_5 := dk_seg dksX7_flow_4 24 rfl rfl
theorem dksX7_flow_6 : cX7_flow.data.toList.drop 139 = dktX7_flow_6 := dk_seg dksX7_flow_5 22 rfl rfl
theorem dksX7_flow_7 : cX7_flow.data.toList.drop 163 = dktX7_flow_7 := dk_seg dksX7_flow_6 24 rfl rfl
theorem dksX7_flow_8 : cX7_flow.data.toList.drop 187 = dktX7_flow_8 := dk_seg dksX7_flow_7 24 rfl rfl
theorem dksX7_flow_9 : cX7_flow.data.toList.drop 210 = dktX7_flow_9 := dk_seg dksX7_flow_8 23 rfl rfl
theorem dksX7_flow_10 : cX7_flow.data.toList.drop 234 = dktX7_flow_10 := dk_seg dksX7_flow_9 24 rfl rfl
theorem dX7_flow_0 : decode cX7_flow 0 = .ok (.aload_n 0, 1) := dk_42 (dk_at dksX7_flow_0 0 rfl rfl)
theorem dX7_flow_1 : decode cX7_flow 1 = .ok (.aload_n 0, 1) := dk_42 (dk_at dksX7_flow_0 1 rfl rfl)
theorem dX7_flow_2 : decode cX7_flow 2 = .ok (.getfield 25, 3) := dk_180 0 25 (dk_at dksX7_flow_0 2 rfl rfl)
theorem dX7_flow_5 : decode cX7_flow 5 = .ok (.getfield 166, 3) := dk_180 0 166 (dk_at dksX7_flow_0 5 rfl rfl)
theorem dX7_flow_8 : decode cX7_flow 8 = .ok (.bipush 8, 2) := dk_16 8 (dk_at dksX7_flow_0 8 rfl rfl)
theorem dX7_flow_10 : decode cX7_flow 10 = .ok (.if_icmp .ge 7, 3) := dk_162 0 7 (dk_at dksX7_flow_0 10 rfl rfl)
theorem dX7_flow_13 : decode cX7_flow 13 = .ok (.iconst 1, 1) := dk_4 (dk_at dksX7_flow_0 13 rfl rfl)
theorem dX7_flow_14 : decode cX7_flow 14 = .ok (.goto 4, 3) := dk_167 0 4 (dk_at dksX7_flow_0 14 rfl rfl)
theorem dX7_flow_17 : decode cX7_flow 17 = .ok (.iconst 0, 1) := dk_3 (dk_at dksX7_flow_0 17 rfl rfl)
theorem dX7_flow_18 : decode cX7_flow 18 = .ok (.iconst 2, 1) := dk_5 (dk_at dksX7_flow_0 18 rfl rfl)
theorem dX7_flow_19 : decode cX7_flow 19 = .ok (.invokevirtual 104, 3) := dk_182 0 104 (dk_at dksX7_flow_0 19 rfl rfl)
theorem dX7_flow_22 : decode cX7_flow 22 = .ok (.aload_n 0, 1) := dk_42 (dk_at dksX7_flow_0 22 rfl rfl)
theorem dX7_flow_23 : decode cX7_flow 23 = .ok (.invokevirtual 29, 3) := dk_182 0 29 (dk_at dksX7_flow_1 0 rfl rfl)
theorem dX7_flow_26 : decode cX7_flow 26 = .ok (.aload_n 0, 1) := dk_42 (dk_at dksX7_flow_1 3 rfl rfl)
theorem dX7_flow_27 : decode cX7_flow 27 = .ok (.aload_n 0, 1) := dk_42 (dk_at dksX7_flow_1 4 rfl rfl)
theorem dX7_flow_28 : decode cX7_flow 28 = .ok (.getfield 58, 3) := dk_180 0 58 (dk_at dksX7_flow_1 5 rfl rfl)
theorem dX7_flow_31 : decode cX7_flow 31 = .ok (.iconst 2, 1) := dk_5 (dk_at dksX7_flow_1 8 rfl rfl)
theorem dX7_flow_32 : decode cX7_flow 32 = .ok (.if_icmp .ne 7, 3) := dk_160 0 7 (dk_at dksX7_flow_1 9 rfl rfl)
theorem dX7_flow_35 : decode cX7_flow 35 = .ok (.iconst 1, 1) := dk_4 (dk_at dksX7_flow_1 12 rfl rfl)
theorem dX7_flow_36 : decode cX7_flow 36 = .ok (.goto 4, 3) := dk_167 0 4 (dk_at dksX7_flow_1 13 rfl rfl)
theorem dX7_flow_39 : decode cX7_flow 39 = .ok (.iconst 0, 1) := dk_3 (dk_at dksX7_flow_1 16 rfl rfl)
theorem dX7_flow_40 : decode cX7_flow 40 = .ok (.iconst 1, 1) := dk_4 (dk_at dksX7_flow_1 17 rfl rfl)
theorem dX7_flow_41 : decode cX7_flow 41 = .ok (.invokevirtual 104, 3) := dk_182 0 104 (dk_at dksX7_flow_1 18 rfl rfl)
theorem dX7_flow_44 : decode cX7_flow 44 = .ok (.aload_n 0, 1) := dk_42 (dk_at dksX7_flow_1 21 rfl rfl)
theorem dX7_flow_45 : decode cX7_flow 45 = .ok (.aload_n 0, 1) := dk_42 (dk_at dksX7_flow_1 22 rfl rfl)
theorem dX7_flow_46 : decode cX7_flow 46 = .ok (.getfield 25, 3) := dk_180 0 25 (dk_at dksX7_flow_2 0 rfl rfl)
theorem dX7_flow_49 : decode cX7_flow 49 = .ok (.aload_n 0, 1) := dk_42 (dk_at dksX7_flow_2 3 rfl rfl)
theorem dX7_flow_50 : decode cX7_flow 50 = .ok (.getfield 71, 3) := dk_180 0 71 (dk_at dksX7_flow_2 4 rfl rfl)
theorem dX7_flow_53 : decode cX7_flow 53 = .ok (.invokevirtual 169, 3) := dk_182 0 169 (dk_at dksX7_flow_2 7 rfl rfl)
theorem dX7_flow_56 : decode cX7_flow 56 = .ok (.ifCond .ge 7, 3) := dk_156 0 7 (dk_at dksX7_flow_2 10 rfl rfl)
theorem dX7_flow_59 : decode cX7_flow 59 = .ok (.iconst 1, 1) := dk_4 (dk_at dksX7_flow_2 13 rfl rfl)
theorem dX7_flow_60 : decode cX7_flow 60 = .ok (.goto 4, 3) := dk_167 0 4 (dk_at dksX7_flow_2 14 rfl rfl)
theorem dX7_flow_63 : decode cX7_flow 63 = .ok (.iconst 0, 1) := dk_3 (dk_at dksX7_flow_2 17 rfl rfl)
theorem dX7_flow_64 : decode cX7_flow 64 = .ok (.iconst 3, 1) := dk_6 (dk_at dksX7_flow_2 18 rfl rfl)
theorem dX7_flow_65 : decode cX7_flow 65 = .ok (.invokevirtual 104, 3) := dk_182 0 104 (dk_at dksX7_flow_2 19 rfl rfl)
theorem dX7_flow_68 : decode cX7_flow 68 = .ok (.aload_n 0, 1) := dk_42 (dk_at dksX7_flow_2 22 rfl rfl)
theorem dX7_flow_69 : decode cX7_flow 69 = .ok (.getfield 71, 3) := dk_180 0 71 (dk_at dksX7_flow_3 0 rfl rfl)
theorem dX7_flow_72 : decode cX7_flow 72 = .ok (.istore_n 1, 1) := dk_60 (dk_at dksX7_flow_3 3 rfl rfl)
theorem dX7_flow_73 : decode cX7_flow 73 = .ok (.aload_n 0, 1) := dk_42 (dk_at dksX7_flow_3 4 rfl rfl)
theorem dX7_flow_74 : decode cX7_flow 74 = .ok (.invokevirtual 29, 3) := dk_182 0 29 (dk_at dksX7_flow_3 5 rfl rfl)
theorem dX7_flow_77 : decode cX7_flow 77 = .ok (.new 171, 3) := dk_187 0 171 (dk_at dksX7_flow_3 8 rfl rfl)
theorem dX7_flow_80 : decode cX7_flow 80 = .ok (.dup, 1) := dk_89 (dk_at dksX7_flow_3 11 rfl rfl)
theorem dX7_flow_81 : decode cX7_flow 81 = .ok (.iload_n 1, 1) := dk_27 (dk_at dksX7_flow_3 12 rfl rfl)
theorem dX7_flow_82 : decode cX7_flow 82 = .ok (.aload_n 0, 1) := dk_42 (dk_at dksX7_flow_3 13 rfl rfl)
theorem dX7_flow_83 : decode cX7_flow 83 = .ok (.iconst 1, 1) := dk_4 (dk_at dksX7_flow_3 14 rfl rfl)
theorem dX7_flow_84 : decode cX7_flow 84 = .ok (.sipush 1024, 3) := dk_17 4 0 (dk_at dksX7_flow_3 15 rfl rfl)
theorem dX7_flow_87 : decode cX7_flow 87 = .ok (.invokevirtual 127, 3) := dk_182 0 127 (dk_at dksX7_flow_3 18 rfl rfl)
theorem dX7_flow_90 : decode cX7_flow 90 = .ok (.invokespecial 173, 3) := dk_183 0 173 (dk_at dksX7_flow_3 21 rfl rfl)
theorem dX7_flow_93 : decode cX7_flow 93 = .ok (.astore_n 2, 1) := dk_77 (dk_at dksX7_flow_4 0 rfl rfl)
theorem dX7_flow_94 : decode cX7_flow 94 = .ok (.aload_n 0, 1) := dk_42 (dk_at dksX7_flow_4 1 rfl rfl)
theorem dX7_flow_95 : decode cX7_flow 95 = .ok (.aload_n 0, 1) := dk_42 (dk_at dksX7_flow_4 2 rfl rfl)
theorem dX7_flow_96 : decode cX7_flow 96 = .ok (.getfield 58, 3) := dk_180 0 58 (dk_at dksX7_flow_4 3 rfl rfl)
theorem dX7_flow_99 : decode cX7_flow 99 = .ok (.iconst 2, 1) := dk_5 (dk_at dksX7_flow_4 6 rfl rfl)
theorem dX7_flow_100 : decode cX7_flow 100 = .ok (.if_icmp .ne 7, 3) := dk_160 0 7 (dk_at dksX7_flow_4 7 rfl rfl)
theorem dX7_flow_103 : decode cX7_flow 103 = .ok (.iconst 1, 1) := dk_4 (dk_at dksX7_flow_4 10 rfl rfl)
theorem dX7_flow_104 : decode cX7_flow 104 = .ok (.goto 4, 3) := dk_167 0 4 (dk_at dksX7_flow_4 11 rfl rfl)
theorem dX7_flow_107 : decode cX7_flow 107 = .ok (.iconst 0, 1) := dk_3 (dk_at dksX7_flow_4 14 rfl rfl)
theorem dX7_flow_108 : decode cX7_flow 108 = .ok (.iconst 1, 1) := dk_4 (dk_at dksX7_flow_4 15 rfl rfl)
theorem dX7_flow_109 : decode cX7_flow 109 = .ok (.invokevirtual 104, 3) := dk_182 0 104 (dk_at dksX7_flow_4 16 rfl rfl)
theorem dX7_flow_112 : decode cX7_flow 112 = .ok (.aload_n 0, 1) := dk_42 (dk_at dksX7_flow_4 19 rfl rfl)
theorem dX7_flow_113 : decode cX7_flow 113 = .ok (.getfield 58, 3) := dk_180 0 58 (dk_at dksX7_flow_4 20 rfl rfl)
theorem dX7_flow_116 : decode cX7_flow 116 = .ok (.iconst 2, 1) := dk_5 (dk_at dksX7_flow_4 23 rfl rfl)
theorem dX7_flow_117 : decode cX7_flow 117 = .ok (.if_icmp .ne 96, 3) := dk_160 0 96 (dk_at dksX7_flow_5 0 rfl rfl)
theorem dX7_flow_120 : decode cX7_flow 120 = .ok (.aload_n 0, 1) := dk_42 (dk_at dksX7_flow_5 3 rfl rfl)
theorem dX7_flow_121 : decode cX7_flow 121 = .ok (.aload_n 2, 1) := dk_44 (dk_at dksX7_flow_5 4 rfl rfl)
theorem dX7_flow_122 : decode cX7_flow 122 = .ok (.getfield 174, 3) := dk_180 0 174 (dk_at dksX7_flow_5 5 rfl rfl)
theorem dX7_flow_125 : decode cX7_flow 125 = .ok (.iconst 5, 1) := dk_8 (dk_at dksX7_flow_5 8 rfl rfl)
theorem dX7_flow_126 : decode cX7_flow 126 = .ok (.if_icmp .ge 7, 3) := dk_162 0 7 (dk_at dksX7_flow_5 9 rfl rfl)
theorem dX7_flow_129 : decode cX7_flow 129 = .ok (.iconst 1, 1) := dk_4 (dk_at dksX7_flow_5 12 rfl rfl)
theorem dX7_flow_130 : decode cX7_flow 130 = .ok (.goto 4, 3) := dk_167 0 4 (dk_at dksX7_flow_5 13 rfl rfl)
theorem dX7_flow_133 : decode cX7_flow 133 = .ok (.iconst 0, 1) := dk_3 (dk_at dksX7_flow_5 16 rfl rfl)
theorem dX7_flow_134 : decode cX7_flow 134 = .ok (.iconst 2, 1) := dk_5 (dk_at dksX7_flow_5 17 rfl rfl)
theorem dX7_flow_135 : decode cX7_flow 135 = .ok (.invokevirtual 104, 3) := dk_182 0 104 (dk_at dksX7_flow_5 18 rfl rfl)
theorem dX7_flow_138 : decode cX7_flow 138 = .ok (.aload_n 0, 1) := dk_42 (dk_at dksX7_flow_5 21 rfl rfl)
theorem dX7_flow_139 : decode cX7_flow 139 = .ok (.getfield 25, 3) := dk_180 0 25 (dk_at dksX7_flow_6 0 rfl rfl)
theorem dX7_flow_142 : decode cX7_flow 142 = .ok (.aload_n 0, 1) := dk_42 (dk_at dksX7_flow_6 3 rfl rfl)
theorem dX7_flow_143 : decode cX7_flow 143 = .ok (.getfield 71, 3) := dk_180 0 71 (dk_at dksX7_flow_6 4 rfl rfl)
theorem dX7_flow_146 : decode cX7_flow 146 = .ok (.invokevirtual 155, 3) := dk_182 0 155 (dk_at dksX7_flow_6 7 rfl rfl)
theorem dX7_flow_149 : decode cX7_flow 149 = .ok (.istore_n 3, 1) := dk_62 (dk_at dksX7_flow_6 10 rfl rfl)
theorem dX7_flow_150 : decode cX7_flow 150 = .ok (.aload_n 0, 1) := dk_42 (dk_at dksX7_flow_6 11 rfl rfl)
theorem dX7_flow_151 : decode cX7_flow 151 = .ok (.iload_n 3, 1) := dk_29 (dk_at dksX7_flow_6 12 rfl rfl)
theorem dX7_flow_152 : decode cX7_flow 152 = .ok (.ifCond .lt 11, 3) := dk_155 0 11 (dk_at dksX7_flow_6 13 rfl rfl)
theorem dX7_flow_155 : decode cX7_flow 155 = .ok (.aload_n 2, 1) := dk_44 (dk_at dksX7_flow_6 16 rfl rfl)
theorem dX7_flow_156 : decode cX7_flow 156 = .ok (.iload_n 3, 1) := dk_29 (dk_at dksX7_flow_6 17 rfl rfl)
theorem dX7_flow_157 : decode cX7_flow 157 = .ok (.invokevirtual 177, 3) := dk_182 0 177 (dk_at dksX7_flow_6 18 rfl rfl)
theorem dX7_flow_160 : decode cX7_flow 160 = .ok (.ifCond .ge 7, 3) := dk_156 0 7 (dk_at dksX7_flow_6 21 rfl rfl)
theorem dX7_flow_163 : decode cX7_flow 163 = .ok (.iconst 1, 1) := dk_4 (dk_at dksX7_flow_7 0 rfl rfl)
theorem dX7_flow_164 : decode cX7_flow 164 = .ok (.goto 4, 3) := dk_167 0 4 (dk_at dksX7_flow_7 1 rfl rfl)
theorem dX7_flow_167 : decode cX7_flow 167 = .ok (.iconst 0, 1) := dk_3 (dk_at dksX7_flow_7 4 rfl rfl)
theorem dX7_flow_168 : decode cX7_flow 168 = .ok (.iconst 3, 1) := dk_6 (dk_at dksX7_flow_7 5 rfl rfl)
theorem dX7_flow_169 : decode cX7_flow 169 = .ok (.invokevirtual 104, 3) := dk_182 0 104 (dk_at dksX7_flow_7 6 rfl rfl)
theorem dX7_flow_172 : decode cX7_flow 172 = .ok (.aload_n 0, 1) := dk_42 (dk_at dksX7_flow_7 9 rfl rfl)
theorem dX7_flow_173 : decode cX7_flow 173 = .ok (.iload_n 3, 1) := dk_29 (dk_at dksX7_flow_7 10 rfl rfl)
theorem dX7_flow_174 : decode cX7_flow 174 = .ok (.ifCond .lt 7, 3) := dk_155 0 7 (dk_at dksX7_flow_7 11 rfl rfl)
theorem dX7_flow_177 : decode cX7_flow 177 = .ok (.iconst 1, 1) := dk_4 (dk_at dksX7_flow_7 14 rfl rfl)
theorem dX7_flow_178 : decode cX7_flow 178 = .ok (.goto 4, 3) := dk_167 0 4 (dk_at dksX7_flow_7 15 rfl rfl)
theorem dX7_flow_181 : decode cX7_flow 181 = .ok (.iconst 0, 1) := dk_3 (dk_at dksX7_flow_7 18 rfl rfl)
theorem dX7_flow_182 : decode cX7_flow 182 = .ok (.iconst 4, 1) := dk_7 (dk_at dksX7_flow_7 19 rfl rfl)
theorem dX7_flow_183 : decode cX7_flow 183 = .ok (.invokevirtual 104, 3) := dk_182 0 104 (dk_at dksX7_flow_7 20 rfl rfl)
theorem dX7_flow_186 : decode cX7_flow 186 = .ok (.aload_n 2, 1) := dk_44 (dk_at dksX7_flow_7 23 rfl rfl)
theorem dX7_flow_187 : decode cX7_flow 187 = .ok (.getfield 179, 3) := dk_180 0 179 (dk_at dksX7_flow_8 0 rfl rfl)
theorem dX7_flow_190 : decode cX7_flow 190 = .ok (.aload_n 2, 1) := dk_44 (dk_at dksX7_flow_8 3 rfl rfl)
theorem dX7_flow_191 : decode cX7_flow 191 = .ok (.getfield 174, 3) := dk_180 0 174 (dk_at dksX7_flow_8 4 rfl rfl)
theorem dX7_flow_194 : decode cX7_flow 194 = .ok (.iload_n 3, 1) := dk_29 (dk_at dksX7_flow_8 7 rfl rfl)
theorem dX7_flow_195 : decode cX7_flow 195 = .ok (.iastore, 1) := dk_79 (dk_at dksX7_flow_8 8 rfl rfl)
theorem dX7_flow_196 : decode cX7_flow 196 = .ok (.aload_n 2, 1) := dk_44 (dk_at dksX7_flow_8 9 rfl rfl)
theorem dX7_flow_197 : decode cX7_flow 197 = .ok (.dup, 1) := dk_89 (dk_at dksX7_flow_8 10 rfl rfl)
theorem dX7_flow_198 : decode cX7_flow 198 = .ok (.getfield 174, 3) := dk_180 0 174 (dk_at dksX7_flow_8 11 rfl rfl)
theorem dX7_flow_201 : decode cX7_flow 201 = .ok (.iconst 1, 1) := dk_4 (dk_at dksX7_flow_8 14 rfl rfl)
theorem dX7_flow_202 : decode cX7_flow 202 = .ok (.iadd, 1) := dk_96 (dk_at dksX7_flow_8 15 rfl rfl)
theorem dX7_flow_203 : decode cX7_flow 203 = .ok (.putfield 174, 3) := dk_181 0 174 (dk_at dksX7_flow_8 16 rfl rfl)
theorem dX7_flow_206 : decode cX7_flow 206 = .ok (.aload_n 0, 1) := dk_42 (dk_at dksX7_flow_8 19 rfl rfl)
theorem dX7_flow_207 : decode cX7_flow 207 = .ok (.invokevirtual 29, 3) := dk_182 0 29 (dk_at dksX7_flow_8 20 rfl rfl)
theorem dX7_flow_210 : decode cX7_flow 210 = .ok (.goto (-98), 3) := dk_167 255 158 (dk_at dksX7_flow_9 0 rfl rfl)
theorem dX7_flow_213 : decode cX7_flow 213 = .ok (.aload_n 0, 1) := dk_42 (dk_at dksX7_flow_9 3 rfl rfl)
theorem dX7_flow_214 : decode cX7_flow 214 = .ok (.getfield 25, 3) := dk_180 0 25 (dk_at dksX7_flow_9 4 rfl rfl)
theorem dX7_flow_217 : decode cX7_flow 217 = .ok (.getfield 183, 3) := dk_180 0 183 (dk_at dksX7_flow_9 7 rfl rfl)
theorem dX7_flow_220 : decode cX7_flow 220 = .ok (.aload_n 0, 1) := dk_42 (dk_at dksX7_flow_9 10 rfl rfl)
theorem dX7_flow_221 : decode cX7_flow 221 = .ok (.getfield 25, 3) := dk_180 0 25 (dk_at dksX7_flow_9 11 rfl rfl)
theorem dX7_flow_224 : decode cX7_flow 224 = .ok (.getfield 166, 3) := dk_180 0 166 (dk_at dksX7_flow_9 14 rfl rfl)
theorem dX7_flow_227 : decode cX7_flow 227 = .ok (.aload_n 2, 1) := dk_44 (dk_at dksX7_flow_9 17 rfl rfl)
theorem dX7_flow_228 : decode cX7_flow 228 = .ok (.aastore, 1) := dk_83 (dk_at dksX7_flow_9 18 rfl rfl)
theorem dX7_flow_229 : decode cX7_flow 229 = .ok (.aload_n 0, 1) := dk_42 (dk_at dksX7_flow_9 19 rfl rfl)
theorem dX7_flow_230 : decode cX7_flow 230 = .ok (.getfield 25, 3) := dk_180 0 25 (dk_at dksX7_flow_9 20 rfl rfl)
theorem dX7_flow_233 : decode cX7_flow 233 = .ok (.dup, 1) := dk_89 (dk_at dksX7_flow_9 23 rfl rfl)
theorem dX7_flow_234 : decode cX7_flow 234 = .ok (.getfield 166, 3) := dk_180 0 166 (dk_at dksX7_flow_10 0 rfl rfl)
theorem dX7_flow_237 : decode cX7_flow 237 = .ok (.iconst 1, 1) := dk_4 (dk_at dksX7_flow_10 3 rfl rfl)
theorem dX7_flow_238 : decode cX7_flow 238 = .ok (.iadd, 1) := dk_96 (dk_at dksX7_flow_10 4 rfl rfl)
theorem dX7_flow_239 : decode cX7_flow 239 = .ok (.putfield 166, 3) := dk_181 0 166 (dk_at dksX7_flow_10 5 rfl rfl)
theorem dX7_flow_242 : decode cX7_flow 242 = .ok (.return_, 1) := dk_177 (dk_at dksX7_flow_10 8 rfl rfl)
abbrev cX7_off : ByteArray := prog_13_method_15_code
def yX7_off : MethodName := ⟨RX7, "off", "()V"⟩
def dkwX7_off_3 : List UInt8 := [6, 182, 0, 104, 42, 180, 0, 25, 180, 0, 183, 27, 50, 4, 181, 0, 187, 42, 182, 0, 29, 177]
abbrev dktX7_off_3 : List UInt8 := dkwX7_off_3 ++ []
def dkwX7_off_2 : List UInt8 := [182, 0, 104, 42, 42, 180, 0, 25, 180, 0, 183, 27, 50, 180, 0, 187, 154, 0, 7, 4, 167, 0, 4, 3]
abbrev dktX7_off_2 : List UInt8 := dkwX7_off_2 ++ dktX7_off_3
def dkwX7_off_1 : List UInt8 := [180, 0, 25, 42, 180, 0, 71, 182, 0, 169, 60, 42, 27, 155, 0, 7, 4, 167, 0, 4, 3, 7]
abbrev dktX7_off_1 : List UInt8 := dkwX7_off_1 ++ dktX7_off_2
def dkwX7_off_0 : List UInt8 := [42, 182, 0, 29, 42, 42, 180, 0, 58, 5, 160, 0, 7, 4, 167, 0, 4, 3, 4, 182, 0, 104, 42]
abbrev dktX7_off_0 : List UInt8 := dkwX7_off_0 ++ dktX7_off_1
theorem dksX7_off_0 : cX7_off.data.toList.drop 0 = dktX7_off_0 := by decide +kernel
theorem dksX7_off_1 : cX7_off.data.toList.drop 23 = dktX7_off_1 := dk_seg dksX7_off_0 23 rfl rfl
theorem dksX7_off_2 : cX7_off.data.toList.drop 45 = dktX7_off_2 := dk_seg dksX7_off_1 22 rfl rfl
theorem dksX7_off_3 : cX7_off.data.toList.drop 69 = dktX7_off_3 := dk_seg dksX7_off_2 24 rfl rfl
theorem dX7_off_0 : decode cX7_off 0 = .ok (.aload_n 0, 1) := dk_42 (dk_at dksX7_off_0 0 rfl rfl)
theorem dX7_off_1 : decode cX7_off 1 = .ok (.invokevirtual 29, 3) := dk_182 0 29 (dk_at dksX7_off_0 1 rfl rfl)
theorem dX7_off_4 : decode cX7_off 4 = .ok (.aload_n 0, 1) := dk_42 (dk_at dksX7_off_0 4 rfl rfl)
theorem dX7_off_5 : decode cX7_off 5 = .ok (.aload_n 0, 1) := dk_42 (dk_at dksX7_off_0 5 rfl rfl)
theorem dX7_off_6 : decode cX7_off 6 = .ok (.getfield 58, 3) := dk_180 0 58 (dk_at dksX7_off_0 6 rfl rfl)
theorem dX7_off_9 : decode cX7_off 9 = .ok (.iconst 2, 1) := dk_5 (dk_at dksX7_off_0 9 rfl rfl)
theorem dX7_off_10 : decode cX7_off 10 = .ok (.if_icmp .ne 7, 3) := dk_160 0 7 (dk_at dksX7_off_0 10 rfl rfl)
theorem dX7_off_13 : decode cX7_off 13 = .ok (.iconst 1, 1) := dk_4 (dk_at dksX7_off_0 13 rfl rfl)
theorem dX7_off_14 : decode cX7_off 14 = .ok (.goto 4, 3) := dk_167 0 4 (dk_at dksX7_off_0 14 rfl rfl)
theorem dX7_off_17 : decode cX7_off 17 = .ok (.iconst 0, 1) := dk_3 (dk_at dksX7_off_0 17 rfl rfl)
theorem dX7_off_18 : decode cX7_off 18 = .ok (.iconst 1, 1) := dk_4 (dk_at dksX7_off_0 18 rfl rfl)
theorem dX7_off_19 : decode cX7_off 19 = .ok (.invokevirtual 104, 3) := dk_182 0 104 (dk_at dksX7_off_0 19 rfl rfl)
theorem dX7_off_22 : decode cX7_off 22 = .ok (.aload_n 0, 1) := dk_42 (dk_at dksX7_off_0 22 rfl rfl)
theorem dX7_off_23 : decode cX7_off 23 = .ok (.getfield 25, 3) := dk_180 0 25 (dk_at dksX7_off_1 0 rfl rfl)
theorem dX7_off_26 : decode cX7_off 26 = .ok (.aload_n 0, 1) := dk_42 (dk_at dksX7_off_1 3 rfl rfl)
theorem dX7_off_27 : decode cX7_off 27 = .ok (.getfield 71, 3) := dk_180 0 71 (dk_at dksX7_off_1 4 rfl rfl)
theorem dX7_off_30 : decode cX7_off 30 = .ok (.invokevirtual 169, 3) := dk_182 0 169 (dk_at dksX7_off_1 7 rfl rfl)
theorem dX7_off_33 : decode cX7_off 33 = .ok (.istore_n 1, 1) := dk_60 (dk_at dksX7_off_1 10 rfl rfl)
theorem dX7_off_34 : decode cX7_off 34 = .ok (.aload_n 0, 1) := dk_42 (dk_at dksX7_off_1 11 rfl rfl)
theorem dX7_off_35 : decode cX7_off 35 = .ok (.iload_n 1, 1) := dk_27 (dk_at dksX7_off_1 12 rfl rfl)
theorem dX7_off_36 : decode cX7_off 36 = .ok (.ifCond .lt 7, 3) := dk_155 0 7 (dk_at dksX7_off_1 13 rfl rfl)
theorem dX7_off_39 : decode cX7_off 39 = .ok (.iconst 1, 1) := dk_4 (dk_at dksX7_off_1 16 rfl rfl)
theorem dX7_off_40 : decode cX7_off 40 = .ok (.goto 4, 3) := dk_167 0 4 (dk_at dksX7_off_1 17 rfl rfl)
theorem dX7_off_43 : decode cX7_off 43 = .ok (.iconst 0, 1) := dk_3 (dk_at dksX7_off_1 20 rfl rfl)
theorem dX7_off_44 : decode cX7_off 44 = .ok (.iconst 4, 1) := dk_7 (dk_at dksX7_off_1 21 rfl rfl)
theorem dX7_off_45 : decode cX7_off 45 = .ok (.invokevirtual 104, 3) := dk_182 0 104 (dk_at dksX7_off_2 0 rfl rfl)
theorem dX7_off_48 : decode cX7_off 48 = .ok (.aload_n 0, 1) := dk_42 (dk_at dksX7_off_2 3 rfl rfl)
theorem dX7_off_49 : decode cX7_off 49 = .ok (.aload_n 0, 1) := dk_42 (dk_at dksX7_off_2 4 rfl rfl)
theorem dX7_off_50 : decode cX7_off 50 = .ok (.getfield 25, 3) := dk_180 0 25 (dk_at dksX7_off_2 5 rfl rfl)
theorem dX7_off_53 : decode cX7_off 53 = .ok (.getfield 183, 3) := dk_180 0 183 (dk_at dksX7_off_2 8 rfl rfl)
theorem dX7_off_56 : decode cX7_off 56 = .ok (.iload_n 1, 1) := dk_27 (dk_at dksX7_off_2 11 rfl rfl)
theorem dX7_off_57 : decode cX7_off 57 = .ok (.aaload, 1) := dk_50 (dk_at dksX7_off_2 12 rfl rfl)
theorem dX7_off_58 : decode cX7_off 58 = .ok (.getfield 187, 3) := dk_180 0 187 (dk_at dksX7_off_2 13 rfl rfl)
theorem dX7_off_61 : decode cX7_off 61 = .ok (.ifCond .ne 7, 3) := dk_154 0 7 (dk_at dksX7_off_2 16 rfl rfl)
theorem dX7_off_64 : decode cX7_off 64 = .ok (.iconst 1, 1) := dk_4 (dk_at dksX7_off_2 19 rfl rfl)
theorem dX7_off_65 : decode cX7_off 65 = .ok (.goto 4, 3) := dk_167 0 4 (dk_at dksX7_off_2 20 rfl rfl)
theorem dX7_off_68 : decode cX7_off 68 = .ok (.iconst 0, 1) := dk_3 (dk_at dksX7_off_2 23 rfl rfl)
theorem dX7_off_69 : decode cX7_off 69 = .ok (.iconst 3, 1) := dk_6 (dk_at dksX7_off_3 0 rfl rfl)
theorem dX7_off_70 : decode cX7_off 70 = .ok (.invokevirtual 104, 3) := dk_182 0 104 (dk_at dksX7_off_3 1 rfl rfl)
theorem dX7_off_73 : decode cX7_off 73 = .ok (.aload_n 0, 1) := dk_42 (dk_at dksX7_off_3 4 rfl rfl)
theorem dX7_off_74 : decode cX7_off 74 = .ok (.getfield 25, 3) := dk_180 0 25 (dk_at dksX7_off_3 5 rfl rfl)
theorem dX7_off_77 : decode cX7_off 77 = .ok (.getfield 183, 3) := dk_180 0 183 (dk_at dksX7_off_3 8 rfl rfl)
theorem dX7_off_80 : decode cX7_off 80 = .ok (.iload_n 1, 1) := dk_27 (dk_at dksX7_off_3 11 rfl rfl)
theorem dX7_off_81 : decode cX7_off 81 = .ok (.aaload, 1) := dk_50 (dk_at dksX7_off_3 12 rfl rfl)
theorem dX7_off_82 : decode cX7_off 82 = .ok (.iconst 1, 1) := dk_4 (dk_at dksX7_off_3 13 rfl rfl)
theorem dX7_off_83 : decode cX7_off 83 = .ok (.putfield 187, 3) := dk_181 0 187 (dk_at dksX7_off_3 14 rfl rfl)
theorem dX7_off_86 : decode cX7_off 86 = .ok (.aload_n 0, 1) := dk_42 (dk_at dksX7_off_3 17 rfl rfl)
theorem dX7_off_87 : decode cX7_off 87 = .ok (.invokevirtual 29, 3) := dk_182 0 29 (dk_at dksX7_off_3 18 rfl rfl)
theorem dX7_off_90 : decode cX7_off 90 = .ok (.return_, 1) := dk_177 (dk_at dksX7_off_3 21 rfl rfl)
theorem q107 : (Jvm.Cond.initialized "LosslessFabric$Reader") ∈ lw_all := lw_g (lw_at lw_m1 7 rfl) rfl
theorem q150 : (Jvm.Cond.fieldLinkNest "LosslessFabric$Reader" (157 : Nat) "LosslessFabric$Told" "links" "[LLosslessFabric$Link;" "LosslessFabric") ∈ lw_tbl := lw_at lw_m1 50 rfl
theorem q155 : (Jvm.Cond.fieldLinkNest "LosslessFabric$Reader" (183 : Nat) "LosslessFabric$Told" "flows" "[LLosslessFabric$Flow;" "LosslessFabric") ∈ lw_tbl := lw_at lw_m1 55 rfl
theorem q161 : (Jvm.Cond.fieldLinkNest "LosslessFabric$Reader" (152 : Nat) "LosslessFabric$Told" "linkMany" "I" "LosslessFabric") ∈ lw_tbl := lw_at lw_m1 61 rfl
theorem q166 : (Jvm.Cond.fieldLinkNest "LosslessFabric$Reader" (166 : Nat) "LosslessFabric$Told" "flowMany" "I" "LosslessFabric") ∈ lw_tbl := lw_at lw_m1 66 rfl
theorem q168 : (Jvm.Cond.fieldLinkNest "LosslessFabric$Reader" (130 : Nat) "LosslessFabric$Told" "each" "I" "LosslessFabric") ∈ lw_tbl := lw_at lw_m1 68 rfl
theorem q172 : (Jvm.Cond.fieldLinkNest "LosslessFabric$Reader" (133 : Nat) "LosslessFabric$Told" "middle" "I" "LosslessFabric") ∈ lw_tbl := lw_at lw_m1 72 rfl
theorem q175 : (Jvm.Cond.fieldLinkNest "LosslessFabric$Reader" (136 : Nat) "LosslessFabric$Told" "weight" "I" "LosslessFabric") ∈ lw_tbl := lw_at lw_m1 75 rfl
theorem q178 : (Jvm.Cond.fieldLinkNest "LosslessFabric$Reader" (139 : Nat) "LosslessFabric$Told" "cells" "I" "LosslessFabric") ∈ lw_tbl := lw_at lw_m1 78 rfl
theorem q181 : (Jvm.Cond.fieldLinkNest "LosslessFabric$Reader" (142 : Nat) "LosslessFabric$Told" "ticks" "I" "LosslessFabric") ∈ lw_tbl := lw_at lw_m1 81 rfl
theorem q183 : (Jvm.Cond.fieldLinkNest "LosslessFabric$Reader" (145 : Nat) "LosslessFabric$Told" "more" "I" "LosslessFabric") ∈ lw_tbl := lw_at lw_m1 83 rfl
theorem q185 : (Jvm.Cond.fieldLinkNest "LosslessFabric$Reader" (149 : Nat) "LosslessFabric$Told" "seed" "I" "LosslessFabric") ∈ lw_tbl := lw_at lw_m1 85 rfl
theorem q188 : (Jvm.Cond.fieldLinkNest "LosslessFabric$Reader" (112 : Nat) "LosslessFabric$Told" "lines" "I" "LosslessFabric") ∈ lw_tbl := lw_at lw_m1 88 rfl
theorem q189 : (Jvm.Cond.fieldLinkNest "LosslessFabric$Reader" (124 : Nat) "LosslessFabric$Told" "told" "I" "LosslessFabric") ∈ lw_tbl := lw_at lw_m1 89 rfl
theorem q390 : (Jvm.Cond.fieldLinkNest "LosslessFabric$Reader" (32 : Nat) "LosslessFabric" "tape" "[B" "LosslessFabric") ∈ lw_tbl := lw_at lw_m2 50 rfl
theorem q461 : (Jvm.Cond.instantiable "LosslessFabric$Reader" (7 : Nat)) ∈ lw_all := lw_g (lw_at lw_m2 121 rfl) rfl
theorem q463 : (Jvm.Cond.instanceMethod ({ cls := "LosslessFabric$Reader", name := "<init>", desc := "(LLosslessFabric;I)V" } : Jvm.MethodName)) ∈ lw_all := lw_g (lw_at lw_m2 123 rfl) rfl
theorem q464 : (Jvm.Cond.code ({ cls := "LosslessFabric$Reader", name := "<init>", desc := "(LLosslessFabric;I)V" } : Jvm.MethodName) prog_13_method_1_code (3 : Nat) (Option.none : Option Jvm.ClassFile.FieldType)) ∈ lw_all := lw_g (lw_at lw_m2 124 rfl) rfl
theorem q465 : (Jvm.Cond.classLink "LosslessFabric$Reader" (3 : Nat) "LosslessFabric$Told") ∈ lw_all := lw_g (lw_at lw_m2 125 rfl) rfl
theorem q466 : (Jvm.Cond.methodLinkNest "LosslessFabric$Reader" (5 : Nat) ({ cls := "LosslessFabric$Told", name := "<init>", desc := "()V" } : Jvm.MethodName) "LosslessFabric") ∈ lw_tbl := lw_at lw_m2 126 rfl
theorem q467 : (Jvm.Cond.methodLink "LosslessFabric$Reader" (9 : Nat) ({ cls := "LosslessFabric$Reader", name := "<init>", desc := "(LLosslessFabric;ILLosslessFabric$Told;)V" } : Jvm.MethodName)) ∈ lw_all := lw_g (lw_at lw_m2 127 rfl) rfl
theorem q468 : (Jvm.Cond.instanceMethod ({ cls := "LosslessFabric$Reader", name := "<init>", desc := "(LLosslessFabric;ILLosslessFabric$Told;)V" } : Jvm.MethodName)) ∈ lw_all := lw_g (lw_at lw_m2 128 rfl) rfl
theorem q469 : (Jvm.Cond.code ({ cls := "LosslessFabric$Reader", name := "<init>", desc := "(LLosslessFabric;ILLosslessFabric$Told;)V" } : Jvm.MethodName) prog_13_method_2_code (4 : Nat) (Option.none : Option Jvm.ClassFile.FieldType)) ∈ lw_all := lw_g (lw_at lw_m2 129 rfl) rfl
theorem q470 : (Jvm.Cond.methodLink "LosslessFabric$Reader" (18 : Nat) ({ cls := "java/lang/Object", name := "<init>", desc := "()V" } : Jvm.MethodName)) ∈ lw_all := lw_g (lw_at lw_m2 130 rfl) rfl
theorem q471 : (Jvm.Cond.methodLink "LosslessFabric$Reader" (29 : Nat) ({ cls := "LosslessFabric$Reader", name := "take", desc := "()V" } : Jvm.MethodName)) ∈ lw_all := lw_g (lw_at lw_m2 131 rfl) rfl
theorem q472 : (Jvm.Cond.privateMethod ({ cls := "LosslessFabric$Reader", name := "take", desc := "()V" } : Jvm.MethodName)) ∈ lw_tbl := lw_at lw_m2 132 rfl
theorem q473 : (Jvm.Cond.instanceMethod ({ cls := "LosslessFabric$Reader", name := "take", desc := "()V" } : Jvm.MethodName)) ∈ lw_all := lw_g (lw_at lw_m2 133 rfl) rfl
theorem q474 : (Jvm.Cond.code ({ cls := "LosslessFabric$Reader", name := "take", desc := "()V" } : Jvm.MethodName) prog_13_method_6_code (1 : Nat) (Option.none : Option Jvm.ClassFile.FieldType)) ∈ lw_all := lw_g (lw_at lw_m2 134 rfl) rfl
theorem q475 : (Jvm.Cond.methodLink "LosslessFabric$Reader" (36 : Nat) ({ cls := "LosslessFabric$Reader", name := "see", desc := "(I)I" } : Jvm.MethodName)) ∈ lw_all := lw_g (lw_at lw_m2 135 rfl) rfl
theorem q476 : (Jvm.Cond.privateMethod ({ cls := "LosslessFabric$Reader", name := "see", desc := "(I)I" } : Jvm.MethodName)) ∈ lw_tbl := lw_at lw_m2 136 rfl
theorem q477 : (Jvm.Cond.instanceMethod ({ cls := "LosslessFabric$Reader", name := "see", desc := "(I)I" } : Jvm.MethodName)) ∈ lw_all := lw_g (lw_at lw_m2 137 rfl) rfl
theorem q478 : (Jvm.Cond.code ({ cls := "LosslessFabric$Reader", name := "see", desc := "(I)I" } : Jvm.MethodName) prog_13_method_3_code (2 : Nat) (Option.some Jvm.ClassFile.FieldType.int)) ∈ lw_all := lw_g (lw_at lw_m2 138 rfl) rfl
theorem q479 : (Jvm.Cond.methodLink "LosslessFabric$Reader" (61 : Nat) ({ cls := "LosslessFabric$Reader", name := "isSmall", desc := "(I)Z" } : Jvm.MethodName)) ∈ lw_all := lw_g (lw_at lw_m2 139 rfl) rfl
theorem q480 : (Jvm.Cond.privateMethod ({ cls := "LosslessFabric$Reader", name := "isSmall", desc := "(I)Z" } : Jvm.MethodName)) ∈ lw_tbl := lw_at lw_m2 140 rfl
theorem q481 : (Jvm.Cond.instanceMethod ({ cls := "LosslessFabric$Reader", name := "isSmall", desc := "(I)Z" } : Jvm.MethodName)) ∈ lw_all := lw_g (lw_at lw_m2 141 rfl) rfl
theorem q482 : (Jvm.Cond.code ({ cls := "LosslessFabric$Reader", name := "isSmall", desc := "(I)Z" } : Jvm.MethodName) prog_13_method_4_code (2 : Nat) (Option.some Jvm.ClassFile.FieldType.boolean)) ∈ lw_all := lw_g (lw_at lw_m2 142 rfl) rfl
theorem q483 : (Jvm.Cond.constantLong "LosslessFabric$Reader" (40 : Nat) (97 : Int64)) ∈ lw_all := lw_g (lw_at lw_m2 143 rfl) rfl
theorem q484 : (Jvm.Cond.constantLong "LosslessFabric$Reader" (42 : Nat) (122 : Int64)) ∈ lw_all := lw_g (lw_at lw_m2 144 rfl) rfl
theorem q485 : (Jvm.Cond.methodLinkNest "LosslessFabric$Reader" (44 : Nat) ({ cls := "LosslessFabric", name := "isIn", desc := "(JJJ)Z" } : Jvm.MethodName) "LosslessFabric") ∈ lw_tbl := lw_at lw_m2 145 rfl
theorem q486 : (Jvm.Cond.methodLink "LosslessFabric$Reader" (65 : Nat) ({ cls := "LosslessFabric$Reader", name := "takeWord", desc := "()V" } : Jvm.MethodName)) ∈ lw_all := lw_g (lw_at lw_m2 146 rfl) rfl
theorem q487 : (Jvm.Cond.privateMethod ({ cls := "LosslessFabric$Reader", name := "takeWord", desc := "()V" } : Jvm.MethodName)) ∈ lw_tbl := lw_at lw_m2 147 rfl
theorem q488 : (Jvm.Cond.instanceMethod ({ cls := "LosslessFabric$Reader", name := "takeWord", desc := "()V" } : Jvm.MethodName)) ∈ lw_all := lw_g (lw_at lw_m2 148 rfl) rfl
theorem q489 : (Jvm.Cond.code ({ cls := "LosslessFabric$Reader", name := "takeWord", desc := "()V" } : Jvm.MethodName) prog_13_method_7_code (2 : Nat) (Option.none : Option Jvm.ClassFile.FieldType)) ∈ lw_all := lw_g (lw_at lw_m2 149 rfl) rfl
theorem q490 : (Jvm.Cond.methodLink "LosslessFabric$Reader" (81 : Nat) ({ cls := "LosslessFabric$Reader", name := "key", desc := "()I" } : Jvm.MethodName)) ∈ lw_all := lw_g (lw_at lw_m2 150 rfl) rfl
theorem q491 : (Jvm.Cond.privateMethod ({ cls := "LosslessFabric$Reader", name := "key", desc := "()I" } : Jvm.MethodName)) ∈ lw_tbl := lw_at lw_m2 151 rfl
theorem q492 : (Jvm.Cond.instanceMethod ({ cls := "LosslessFabric$Reader", name := "key", desc := "()I" } : Jvm.MethodName)) ∈ lw_all := lw_g (lw_at lw_m2 152 rfl) rfl
theorem q493 : (Jvm.Cond.code ({ cls := "LosslessFabric$Reader", name := "key", desc := "()I" } : Jvm.MethodName) prog_13_method_8_code (6 : Nat) (Option.some Jvm.ClassFile.FieldType.int)) ∈ lw_all := lw_g (lw_at lw_m2 153 rfl) rfl
theorem q494 : (Jvm.Cond.stringRef "LosslessFabric$Reader" (85 : Nat) "link flow sample stage off seed") ∈ lw_tbl := lw_at lw_m2 154 rfl
theorem q495 : (Jvm.Cond.methodLink "LosslessFabric$Reader" (87 : Nat) ({ cls := "java/lang/String", name := "length", desc := "()I" } : Jvm.MethodName)) ∈ lw_all := lw_g (lw_at lw_m2 155 rfl) rfl
theorem q505 : (Jvm.Cond.methodLink "LosslessFabric$Reader" (92 : Nat) ({ cls := "java/lang/String", name := "indexOf", desc := "(II)I" } : Jvm.MethodName)) ∈ lw_all := lw_g (lw_at lw_m2 165 rfl) rfl
theorem q578 : (Jvm.Cond.methodLink "LosslessFabric$Reader" (95 : Nat) ({ cls := "java/lang/String", name := "charAt", desc := "(I)C" } : Jvm.MethodName)) ∈ lw_all := lw_g (lw_at lw_m2 238 rfl) rfl
theorem q598 : (Jvm.Cond.methodLink "LosslessFabric$Reader" (68 : Nat) ({ cls := "LosslessFabric$Reader", name := "isDigit", desc := "(I)Z" } : Jvm.MethodName)) ∈ lw_all := lw_g (lw_at lw_m3 18 rfl) rfl
theorem q599 : (Jvm.Cond.privateMethod ({ cls := "LosslessFabric$Reader", name := "isDigit", desc := "(I)Z" } : Jvm.MethodName)) ∈ lw_tbl := lw_at lw_m3 19 rfl
theorem q600 : (Jvm.Cond.instanceMethod ({ cls := "LosslessFabric$Reader", name := "isDigit", desc := "(I)Z" } : Jvm.MethodName)) ∈ lw_all := lw_g (lw_at lw_m3 20 rfl) rfl
theorem q601 : (Jvm.Cond.code ({ cls := "LosslessFabric$Reader", name := "isDigit", desc := "(I)Z" } : Jvm.MethodName) prog_13_method_5_code (2 : Nat) (Option.some Jvm.ClassFile.FieldType.boolean)) ∈ lw_all := lw_g (lw_at lw_m3 21 rfl) rfl
theorem q602 : (Jvm.Cond.constantLong "LosslessFabric$Reader" (48 : Nat) (48 : Int64)) ∈ lw_all := lw_g (lw_at lw_m3 22 rfl) rfl
theorem q603 : (Jvm.Cond.constantLong "LosslessFabric$Reader" (50 : Nat) (57 : Int64)) ∈ lw_all := lw_g (lw_at lw_m3 23 rfl) rfl
theorem q604 : (Jvm.Cond.constant "LosslessFabric$Reader" (74 : Nat) (100000 : Int32)) ∈ lw_all := lw_g (lw_at lw_m3 24 rfl) rfl
theorem q605 : (Jvm.Cond.methodLink "LosslessFabric$Reader" (75 : Nat) ({ cls := "java/lang/Math", name := "min", desc := "(II)I" } : Jvm.MethodName)) ∈ lw_all := lw_g (lw_at lw_m3 25 rfl) rfl
theorem q606 : (Jvm.Cond.fieldLink "LosslessFabric$Reader" (21 : Nat) "LosslessFabric$Reader" "size" "I") ∈ lw_all := lw_g (lw_at lw_m3 26 rfl) rfl
theorem q607 : (Jvm.Cond.fieldLink "LosslessFabric$Reader" (25 : Nat) "LosslessFabric$Reader" "v" "LLosslessFabric$Told;") ∈ lw_all := lw_g (lw_at lw_m3 27 rfl) rfl
theorem q608 : (Jvm.Cond.fieldLink "LosslessFabric$Reader" (52 : Nat) "LosslessFabric$Reader" "at" "I") ∈ lw_all := lw_g (lw_at lw_m3 28 rfl) rfl
theorem q609 : (Jvm.Cond.fieldLink "LosslessFabric$Reader" (58 : Nat) "LosslessFabric$Reader" "kind" "I") ∈ lw_all := lw_g (lw_at lw_m3 29 rfl) rfl
theorem q610 : (Jvm.Cond.fieldLink "LosslessFabric$Reader" (71 : Nat) "LosslessFabric$Reader" "which" "I") ∈ lw_all := lw_g (lw_at lw_m3 30 rfl) rfl
theorem q611 : (Jvm.Cond.fieldLink "LosslessFabric$Reader" (55 : Nat) "LosslessFabric$Reader" "place" "I") ∈ lw_all := lw_g (lw_at lw_m3 31 rfl) rfl
theorem q612 : (Jvm.Cond.fieldLink "LosslessFabric$Reader" (14 : Nat) "LosslessFabric$Reader" "this$0" "LLosslessFabric;") ∈ lw_all := lw_g (lw_at lw_m3 32 rfl) rfl
theorem q613 : (Jvm.Cond.laysFinal "LosslessFabric$Reader" "LosslessFabric$Reader" "size" "I") ∈ lw_all := lw_g (lw_at lw_m3 33 rfl) rfl
theorem q614 : (Jvm.Cond.soleField "LosslessFabric$Reader" "size") ∈ lw_all := lw_g (lw_at lw_m3 34 rfl) rfl
theorem q615 : (Jvm.Cond.laysFinal "LosslessFabric$Reader" "LosslessFabric$Reader" "v" "LLosslessFabric$Told;") ∈ lw_all := lw_g (lw_at lw_m3 35 rfl) rfl
theorem q616 : (Jvm.Cond.soleField "LosslessFabric$Reader" "v") ∈ lw_all := lw_g (lw_at lw_m3 36 rfl) rfl
theorem q617 : (Jvm.Cond.lays "LosslessFabric$Reader" "LosslessFabric$Reader" "at" "I") ∈ lw_all := lw_g (lw_at lw_m3 37 rfl) rfl
theorem q618 : (Jvm.Cond.soleField "LosslessFabric$Reader" "at") ∈ lw_all := lw_g (lw_at lw_m3 38 rfl) rfl
theorem q619 : (Jvm.Cond.lays "LosslessFabric$Reader" "LosslessFabric$Reader" "kind" "I") ∈ lw_all := lw_g (lw_at lw_m3 39 rfl) rfl
theorem q620 : (Jvm.Cond.soleField "LosslessFabric$Reader" "kind") ∈ lw_all := lw_g (lw_at lw_m3 40 rfl) rfl
theorem q621 : (Jvm.Cond.lays "LosslessFabric$Reader" "LosslessFabric$Reader" "which" "I") ∈ lw_all := lw_g (lw_at lw_m3 41 rfl) rfl
theorem q622 : (Jvm.Cond.soleField "LosslessFabric$Reader" "which") ∈ lw_all := lw_g (lw_at lw_m3 42 rfl) rfl
theorem q623 : (Jvm.Cond.lays "LosslessFabric$Reader" "LosslessFabric$Reader" "place" "I") ∈ lw_all := lw_g (lw_at lw_m3 43 rfl) rfl
theorem q624 : (Jvm.Cond.soleField "LosslessFabric$Reader" "place") ∈ lw_all := lw_g (lw_at lw_m3 44 rfl) rfl
theorem q625 : (Jvm.Cond.laysFinal "LosslessFabric$Reader" "LosslessFabric$Reader" "this$0" "LLosslessFabric;") ∈ lw_all := lw_g (lw_at lw_m3 45 rfl) rfl
theorem q626 : (Jvm.Cond.soleField "LosslessFabric$Reader" "this$0") ∈ lw_all := lw_g (lw_at lw_m3 46 rfl) rfl
theorem q627 : (Jvm.Cond.superclass "LosslessFabric$Reader" "java/lang/Object") ∈ lw_all := lw_g (lw_at lw_m3 47 rfl) rfl
theorem q629 : (Jvm.Cond.instanceMethod ({ cls := "LosslessFabric$Reader", name := "text", desc := "()LLosslessFabric$Told;" } : Jvm.MethodName)) ∈ lw_all := lw_g (lw_at lw_m3 49 rfl) rfl
theorem q630 : (Jvm.Cond.selects "LosslessFabric$Reader" ({ cls := "LosslessFabric$Reader", name := "text", desc := "()LLosslessFabric$Told;" } : Jvm.MethodName) ({ cls := "LosslessFabric$Reader", name := "text", desc := "()LLosslessFabric$Told;" } : Jvm.MethodName)) ∈ lw_all := lw_g (lw_at lw_m3 50 rfl) rfl
theorem q631 : (Jvm.Cond.code ({ cls := "LosslessFabric$Reader", name := "text", desc := "()LLosslessFabric$Told;" } : Jvm.MethodName) prog_13_method_11_code (1 : Nat) (Option.some (Jvm.ClassFile.FieldType.object "LosslessFabric$Told"))) ∈ lw_all := lw_g (lw_at lw_m3 51 rfl) rfl
theorem q632 : (Jvm.Cond.methodLink "LosslessFabric$Reader" (104 : Nat) ({ cls := "LosslessFabric$Reader", name := "must", desc := "(ZI)V" } : Jvm.MethodName)) ∈ lw_all := lw_g (lw_at lw_m3 52 rfl) rfl
theorem q633 : (Jvm.Cond.privateMethod ({ cls := "LosslessFabric$Reader", name := "must", desc := "(ZI)V" } : Jvm.MethodName)) ∈ lw_tbl := lw_at lw_m3 53 rfl
theorem q634 : (Jvm.Cond.instanceMethod ({ cls := "LosslessFabric$Reader", name := "must", desc := "(ZI)V" } : Jvm.MethodName)) ∈ lw_all := lw_g (lw_at lw_m3 54 rfl) rfl
theorem q635 : (Jvm.Cond.code ({ cls := "LosslessFabric$Reader", name := "must", desc := "(ZI)V" } : Jvm.MethodName) prog_13_method_9_code (3 : Nat) (Option.none : Option Jvm.ClassFile.FieldType)) ∈ lw_all := lw_g (lw_at lw_m3 55 rfl) rfl
theorem q636 : (Jvm.Cond.classLink "LosslessFabric$Reader" (99 : Nat) "LosslessFabric$Fault") ∈ lw_all := lw_g (lw_at lw_m3 56 rfl) rfl
theorem q676 : (Jvm.Cond.methodLink "LosslessFabric$Reader" (101 : Nat) ({ cls := "LosslessFabric$Fault", name := "<init>", desc := "(II)V" } : Jvm.MethodName)) ∈ lw_all := lw_g (lw_at lw_m3 96 rfl) rfl
theorem q706 : (Jvm.Cond.methodLink "LosslessFabric$Reader" (108 : Nat) ({ cls := "LosslessFabric$Reader", name := "line", desc := "(I)V" } : Jvm.MethodName)) ∈ lw_all := lw_g (lw_at lw_m3 126 rfl) rfl
theorem q707 : (Jvm.Cond.privateMethod ({ cls := "LosslessFabric$Reader", name := "line", desc := "(I)V" } : Jvm.MethodName)) ∈ lw_tbl := lw_at lw_m3 127 rfl
theorem q708 : (Jvm.Cond.instanceMethod ({ cls := "LosslessFabric$Reader", name := "line", desc := "(I)V" } : Jvm.MethodName)) ∈ lw_all := lw_g (lw_at lw_m3 128 rfl) rfl
theorem q709 : (Jvm.Cond.code ({ cls := "LosslessFabric$Reader", name := "line", desc := "(I)V" } : Jvm.MethodName) prog_13_method_12_code (2 : Nat) (Option.none : Option Jvm.ClassFile.FieldType)) ∈ lw_all := lw_g (lw_at lw_m3 129 rfl) rfl
theorem q710 : (Jvm.Cond.methodLink "LosslessFabric$Reader" (115 : Nat) ({ cls := "LosslessFabric$Reader", name := "link", desc := "()V" } : Jvm.MethodName)) ∈ lw_all := lw_g (lw_at lw_m3 130 rfl) rfl
theorem q711 : (Jvm.Cond.privateMethod ({ cls := "LosslessFabric$Reader", name := "link", desc := "()V" } : Jvm.MethodName)) ∈ lw_tbl := lw_at lw_m3 131 rfl
theorem q712 : (Jvm.Cond.instanceMethod ({ cls := "LosslessFabric$Reader", name := "link", desc := "()V" } : Jvm.MethodName)) ∈ lw_all := lw_g (lw_at lw_m3 132 rfl) rfl
theorem q713 : (Jvm.Cond.code ({ cls := "LosslessFabric$Reader", name := "link", desc := "()V" } : Jvm.MethodName) prog_13_method_13_code (6 : Nat) (Option.none : Option Jvm.ClassFile.FieldType)) ∈ lw_all := lw_g (lw_at lw_m3 133 rfl) rfl
theorem q714 : (Jvm.Cond.methodLink "LosslessFabric$Reader" (155 : Nat) ({ cls := "LosslessFabric$Told", name := "link", desc := "(I)I" } : Jvm.MethodName)) ∈ lw_all := lw_g (lw_at lw_m3 134 rfl) rfl
theorem q718 : (Jvm.Cond.methodLink "LosslessFabric$Reader" (127 : Nat) ({ cls := "LosslessFabric$Reader", name := "number", desc := "(II)I" } : Jvm.MethodName)) ∈ lw_all := lw_g (lw_at lw_m3 138 rfl) rfl
theorem q719 : (Jvm.Cond.privateMethod ({ cls := "LosslessFabric$Reader", name := "number", desc := "(II)I" } : Jvm.MethodName)) ∈ lw_tbl := lw_at lw_m3 139 rfl
theorem q720 : (Jvm.Cond.instanceMethod ({ cls := "LosslessFabric$Reader", name := "number", desc := "(II)I" } : Jvm.MethodName)) ∈ lw_all := lw_g (lw_at lw_m3 140 rfl) rfl
theorem q721 : (Jvm.Cond.code ({ cls := "LosslessFabric$Reader", name := "number", desc := "(II)I" } : Jvm.MethodName) prog_13_method_10_code (4 : Nat) (Option.some Jvm.ClassFile.FieldType.int)) ∈ lw_all := lw_g (lw_at lw_m3 141 rfl) rfl
theorem q722 : (Jvm.Cond.classLink "LosslessFabric$Reader" (161 : Nat) "LosslessFabric$Link") ∈ lw_all := lw_g (lw_at lw_m3 142 rfl) rfl
theorem q724 : (Jvm.Cond.methodLink "LosslessFabric$Reader" (163 : Nat) ({ cls := "LosslessFabric$Link", name := "<init>", desc := "(I[I)V" } : Jvm.MethodName)) ∈ lw_all := lw_g (lw_at lw_m3 144 rfl) rfl
theorem q755 : (Jvm.Cond.methodLink "LosslessFabric$Reader" (118 : Nat) ({ cls := "LosslessFabric$Reader", name := "flow", desc := "()V" } : Jvm.MethodName)) ∈ lw_all := lw_g (lw_at lw_m3 175 rfl) rfl
theorem q756 : (Jvm.Cond.privateMethod ({ cls := "LosslessFabric$Reader", name := "flow", desc := "()V" } : Jvm.MethodName)) ∈ lw_tbl := lw_at lw_m3 176 rfl
theorem q757 : (Jvm.Cond.instanceMethod ({ cls := "LosslessFabric$Reader", name := "flow", desc := "()V" } : Jvm.MethodName)) ∈ lw_all := lw_g (lw_at lw_m3 177 rfl) rfl
theorem q758 : (Jvm.Cond.code ({ cls := "LosslessFabric$Reader", name := "flow", desc := "()V" } : Jvm.MethodName) prog_13_method_14_code (4 : Nat) (Option.none : Option Jvm.ClassFile.FieldType)) ∈ lw_all := lw_g (lw_at lw_m3 178 rfl) rfl
theorem q759 : (Jvm.Cond.methodLink "LosslessFabric$Reader" (169 : Nat) ({ cls := "LosslessFabric$Told", name := "flow", desc := "(I)I" } : Jvm.MethodName)) ∈ lw_all := lw_g (lw_at lw_m3 179 rfl) rfl
theorem q763 : (Jvm.Cond.classLink "LosslessFabric$Reader" (171 : Nat) "LosslessFabric$Flow") ∈ lw_all := lw_g (lw_at lw_m3 183 rfl) rfl
theorem q765 : (Jvm.Cond.methodLink "LosslessFabric$Reader" (173 : Nat) ({ cls := "LosslessFabric$Flow", name := "<init>", desc := "(II)V" } : Jvm.MethodName)) ∈ lw_all := lw_g (lw_at lw_m3 185 rfl) rfl
theorem q779 : (Jvm.Cond.fieldLinkNest "LosslessFabric$Reader" (179 : Nat) "LosslessFabric$Flow" "path" "[I" "LosslessFabric") ∈ lw_tbl := lw_at lw_m3 199 rfl
theorem q781 : (Jvm.Cond.fieldLinkNest "LosslessFabric$Reader" (174 : Nat) "LosslessFabric$Flow" "many" "I" "LosslessFabric") ∈ lw_tbl := lw_at lw_m3 201 rfl
theorem q784 : (Jvm.Cond.fieldLinkNest "LosslessFabric$Reader" (187 : Nat) "LosslessFabric$Flow" "isOff" "Z" "LosslessFabric") ∈ lw_tbl := lw_at lw_m3 204 rfl
theorem q796 : (Jvm.Cond.methodLink "LosslessFabric$Reader" (177 : Nat) ({ cls := "LosslessFabric$Flow", name := "at", desc := "(I)I" } : Jvm.MethodName)) ∈ lw_all := lw_g (lw_at lw_m3 216 rfl) rfl
theorem q800 : (Jvm.Cond.methodLink "LosslessFabric$Reader" (121 : Nat) ({ cls := "LosslessFabric$Reader", name := "off", desc := "()V" } : Jvm.MethodName)) ∈ lw_all := lw_g (lw_at lw_m3 220 rfl) rfl
theorem q801 : (Jvm.Cond.privateMethod ({ cls := "LosslessFabric$Reader", name := "off", desc := "()V" } : Jvm.MethodName)) ∈ lw_tbl := lw_at lw_m3 221 rfl
theorem q802 : (Jvm.Cond.instanceMethod ({ cls := "LosslessFabric$Reader", name := "off", desc := "()V" } : Jvm.MethodName)) ∈ lw_all := lw_g (lw_at lw_m3 222 rfl) rfl
theorem q803 : (Jvm.Cond.code ({ cls := "LosslessFabric$Reader", name := "off", desc := "()V" } : Jvm.MethodName) prog_13_method_15_code (2 : Nat) (Option.none : Option Jvm.ClassFile.FieldType)) ∈ lw_all := lw_g (lw_at lw_m3 223 rfl) rfl
theorem q804 : (Jvm.Cond.constant "LosslessFabric$Reader" (148 : Nat) (99999 : Int32)) ∈ lw_all := lw_g (lw_at lw_m3 224 rfl) rfl
theorem q1929 : (Jvm.Cond.castable "LosslessFabric$Reader" "java/lang/Object") ∈ lw_tbl := lw_at lw_m8 149 rfl
theorem in_X7 : ∀ w ∈ wsX70, w ∈ lw_all := lw_in wsX70 [613, 615, 617, 619, 621, 623, 625] (by decide +kernel) (by decide +kernel)

/-! LosslessFabricLaw -/
set_option maxRecDepth 100000
def RX0 : String := "LosslessFabricLaw"
abbrev cX0_link : ByteArray := method_3_code
def yX0_link : MethodName := ⟨RX0, "link", "(LLosslessFabric;II[J)I"⟩
def dkwX0_link_0 : List UInt8 := [45, 3, 42, 27, 28, 182, 0, 7, 133, 80, 167, 0, 11, 58, 4, 4, 172, 58, 4, 5, 172, 3, 172]
abbrev dktX0_link_0 : List UInt8 := dkwX0_link_0 ++ []
theorem dksX0_link_0 : cX0_link.data.toList.drop 0 = dktX0_link_0 := by decide +kernel
theorem dX0_link_0 : decode cX0_link 0 = .ok (.aload_n 3, 1) := dk_45 (dk_at dksX0_link_0 0 rfl rfl)
theorem dX0_link_1 : decode cX0_link 1 = .ok (.iconst 0, 1) := dk_3 (dk_at dksX0_link_0 1 rfl rfl)
theorem dX0_link_2 : decode cX0_link 2 = .ok (.aload_n 0, 1) := dk_42 (dk_at dksX0_link_0 2 rfl rfl)
theorem dX0_link_3 : decode cX0_link 3 = .ok (.iload_n 1, 1) := dk_27 (dk_at dksX0_link_0 3 rfl rfl)
theorem dX0_link_4 : decode cX0_link 4 = .ok (.iload_n 2, 1) := dk_28 (dk_at dksX0_link_0 4 rfl rfl)
theorem dX0_link_5 : decode cX0_link 5 = .ok (.invokevirtual 7, 3) := dk_182 0 7 (dk_at dksX0_link_0 5 rfl rfl)
theorem dX0_link_8 : decode cX0_link 8 = .ok (.i2l, 1) := dk_133 (dk_at dksX0_link_0 8 rfl rfl)
theorem dX0_link_9 : decode cX0_link 9 = .ok (.lastore, 1) := dk_80 (dk_at dksX0_link_0 9 rfl rfl)
theorem dX0_link_10 : decode cX0_link 10 = .ok (.goto 11, 3) := dk_167 0 11 (dk_at dksX0_link_0 10 rfl rfl)
theorem dX0_link_13 : decode cX0_link 13 = .ok (.astore 4, 2) := dk_58 4 (dk_at dksX0_link_0 13 rfl rfl)
theorem dX0_link_15 : decode cX0_link 15 = .ok (.iconst 1, 1) := dk_4 (dk_at dksX0_link_0 15 rfl rfl)
theorem dX0_link_16 : decode cX0_link 16 = .ok (.ireturn, 1) := dk_172 (dk_at dksX0_link_0 16 rfl rfl)
theorem dX0_link_17 : decode cX0_link 17 = .ok (.astore 4, 2) := dk_58 4 (dk_at dksX0_link_0 17 rfl rfl)
theorem dX0_link_19 : decode cX0_link 19 = .ok (.iconst 2, 1) := dk_5 (dk_at dksX0_link_0 19 rfl rfl)
theorem dX0_link_20 : decode cX0_link 20 = .ok (.ireturn, 1) := dk_172 (dk_at dksX0_link_0 20 rfl rfl)
theorem dX0_link_21 : decode cX0_link 21 = .ok (.iconst 0, 1) := dk_3 (dk_at dksX0_link_0 21 rfl rfl)
theorem dX0_link_22 : decode cX0_link 22 = .ok (.ireturn, 1) := dk_172 (dk_at dksX0_link_0 22 rfl rfl)
theorem q100 : (Jvm.Cond.initialized "LosslessFabricLaw") ∈ lw_all := lw_g (lw_at lw_m1 0 rfl) rfl
theorem q128 : (Jvm.Cond.classLink "LosslessFabricLaw" (8 : Nat) "LosslessFabric") ∈ lw_all := lw_g (lw_at lw_m1 28 rfl) rfl
theorem q130 : (Jvm.Cond.methodLink "LosslessFabricLaw" (17 : Nat) ({ cls := "LosslessFabric", name := "<init>", desc := "()V" } : Jvm.MethodName)) ∈ lw_all := lw_g (lw_at lw_m1 30 rfl) rfl
theorem q448 : (Jvm.Cond.methodLink "LosslessFabricLaw" (21 : Nat) ({ cls := "LosslessFabric", name := "feed", desc := "(IIIII)I" } : Jvm.MethodName)) ∈ lw_all := lw_g (lw_at lw_m2 108 rfl) rfl
theorem q452 : (Jvm.Cond.methodLink "LosslessFabricLaw" (26 : Nat) ({ cls := "LosslessFabric", name := "text", desc := "(I)I" } : Jvm.MethodName)) ∈ lw_all := lw_g (lw_at lw_m2 112 rfl) rfl
theorem q805 : (Jvm.Cond.methodLink "LosslessFabricLaw" (31 : Nat) ({ cls := "LosslessFabric", name := "fault", desc := "(I)I" } : Jvm.MethodName)) ∈ lw_all := lw_g (lw_at lw_m3 225 rfl) rfl
theorem q809 : (Jvm.Cond.methodLink "LosslessFabricLaw" (35 : Nat) ({ cls := "LosslessFabric", name := "named", desc := "(II)I" } : Jvm.MethodName)) ∈ lw_all := lw_g (lw_at lw_m3 229 rfl) rfl
theorem q815 : (Jvm.Cond.methodLink "LosslessFabricLaw" (157 : Nat) ({ cls := "LosslessFabric", name := "undo", desc := "()I" } : Jvm.MethodName)) ∈ lw_all := lw_g (lw_at lw_m3 235 rfl) rfl
theorem q834 : (Jvm.Cond.methodLink "LosslessFabricLaw" (161 : Nat) ({ cls := "LosslessFabric", name := "keep", desc := "()I" } : Jvm.MethodName)) ∈ lw_all := lw_g (lw_at lw_m4 14 rfl) rfl
theorem q838 : (Jvm.Cond.methodLink "LosslessFabricLaw" (165 : Nat) ({ cls := "LosslessFabric", name := "back", desc := "()I" } : Jvm.MethodName)) ∈ lw_all := lw_g (lw_at lw_m4 18 rfl) rfl
theorem q842 : (Jvm.Cond.methodLink "LosslessFabricLaw" (39 : Nat) ({ cls := "LosslessFabric", name := "tick", desc := "(I)I" } : Jvm.MethodName)) ∈ lw_all := lw_g (lw_at lw_m4 22 rfl) rfl
theorem q948 : (Jvm.Cond.methodLink "LosslessFabricLaw" (43 : Nat) ({ cls := "LosslessFabric", name := "rate", desc := "(II)I" } : Jvm.MethodName)) ∈ lw_all := lw_g (lw_at lw_m4 128 rfl) rfl
theorem q960 : (Jvm.Cond.methodLink "LosslessFabricLaw" (47 : Nat) ({ cls := "LosslessFabric", name := "turn", desc := "(I)I" } : Jvm.MethodName)) ∈ lw_all := lw_g (lw_at lw_m4 140 rfl) rfl
theorem q964 : (Jvm.Cond.methodLink "LosslessFabricLaw" (51 : Nat) ({ cls := "LosslessFabric", name := "bounds", desc := "(III)Z" } : Jvm.MethodName)) ∈ lw_all := lw_g (lw_at lw_m4 144 rfl) rfl
theorem q973 : (Jvm.Cond.methodLink "LosslessFabricLaw" (56 : Nat) ({ cls := "LosslessFabric", name := "size", desc := "(II)I" } : Jvm.MethodName)) ∈ lw_all := lw_g (lw_at lw_m4 153 rfl) rfl
theorem q978 : (Jvm.Cond.methodLink "LosslessFabricLaw" (70 : Nat) ({ cls := "LosslessFabric", name := "queue", desc := "(II)I" } : Jvm.MethodName)) ∈ lw_all := lw_g (lw_at lw_m4 158 rfl) rfl
theorem q982 : (Jvm.Cond.methodLink "LosslessFabricLaw" (74 : Nat) ({ cls := "LosslessFabric", name := "flow", desc := "(II)I" } : Jvm.MethodName)) ∈ lw_all := lw_g (lw_at lw_m4 162 rfl) rfl
theorem q986 : (Jvm.Cond.methodLink "LosslessFabricLaw" (78 : Nat) ({ cls := "LosslessFabric", name := "path", desc := "(II)I" } : Jvm.MethodName)) ∈ lw_all := lw_g (lw_at lw_m4 166 rfl) rfl
theorem q990 : (Jvm.Cond.methodLink "LosslessFabricLaw" (148 : Nat) ({ cls := "LosslessFabric", name := "onWay", desc := "(I)I" } : Jvm.MethodName)) ∈ lw_all := lw_g (lw_at lw_m4 170 rfl) rfl
theorem q994 : (Jvm.Cond.methodLink "LosslessFabricLaw" (82 : Nat) ({ cls := "LosslessFabric", name := "feedback", desc := "(I)I" } : Jvm.MethodName)) ∈ lw_all := lw_g (lw_at lw_m4 174 rfl) rfl
theorem q999 : (Jvm.Cond.methodLink "LosslessFabricLaw" (86 : Nat) ({ cls := "LosslessFabric", name := "notice", desc := "(I)I" } : Jvm.MethodName)) ∈ lw_all := lw_g (lw_at lw_m4 179 rfl) rfl
theorem q1003 : (Jvm.Cond.methodLink "LosslessFabricLaw" (90 : Nat) ({ cls := "LosslessFabric", name := "headroom", desc := "(I)I" } : Jvm.MethodName)) ∈ lw_all := lw_g (lw_at lw_m4 183 rfl) rfl
theorem q1011 : (Jvm.Cond.methodLink "LosslessFabricLaw" (94 : Nat) ({ cls := "LosslessFabric", name := "safe", desc := "()I" } : Jvm.MethodName)) ∈ lw_all := lw_g (lw_at lw_m4 191 rfl) rfl
theorem q1017 : (Jvm.Cond.methodLink "LosslessFabricLaw" (98 : Nat) ({ cls := "LosslessFabric", name := "waits", desc := "(I)I" } : Jvm.MethodName)) ∈ lw_all := lw_g (lw_at lw_m4 197 rfl) rfl
theorem q1038 : (Jvm.Cond.methodLink "LosslessFabricLaw" (102 : Nat) ({ cls := "LosslessFabric", name := "cycle", desc := "(I)I" } : Jvm.MethodName)) ∈ lw_all := lw_g (lw_at lw_m4 218 rfl) rfl
theorem q1101 : (Jvm.Cond.methodLink "LosslessFabricLaw" (106 : Nat) ({ cls := "LosslessFabric", name := "witness", desc := "(I)I" } : Jvm.MethodName)) ∈ lw_all := lw_g (lw_at lw_m5 41 rfl) rfl
theorem q1106 : (Jvm.Cond.methodLink "LosslessFabricLaw" (110 : Nat) ({ cls := "LosslessFabric", name := "inCycles", desc := "(I)I" } : Jvm.MethodName)) ∈ lw_all := lw_g (lw_at lw_m5 46 rfl) rfl
theorem q1119 : (Jvm.Cond.methodLink "LosslessFabricLaw" (114 : Nat) ({ cls := "LosslessFabric", name := "fair", desc := "(IZ)J" } : Jvm.MethodName)) ∈ lw_all := lw_g (lw_at lw_m5 59 rfl) rfl
theorem q1181 : (Jvm.Cond.methodLink "LosslessFabricLaw" (119 : Nat) ({ cls := "LosslessFabric", name := "full", desc := "()I" } : Jvm.MethodName)) ∈ lw_all := lw_g (lw_at lw_m5 121 rfl) rfl
theorem q1189 : (Jvm.Cond.methodLink "LosslessFabricLaw" (123 : Nat) ({ cls := "LosslessFabric", name := "ahead", desc := "(III)I" } : Jvm.MethodName)) ∈ lw_all := lw_g (lw_at lw_m5 129 rfl) rfl
theorem q1198 : (Jvm.Cond.methodLink "LosslessFabricLaw" (128 : Nat) ({ cls := "LosslessFabric", name := "flows", desc := "(III)I" } : Jvm.MethodName)) ∈ lw_all := lw_g (lw_at lw_m5 138 rfl) rfl
theorem q1206 : (Jvm.Cond.methodLink "LosslessFabricLaw" (132 : Nat) ({ cls := "LosslessFabric", name := "stalls", desc := "()I" } : Jvm.MethodName)) ∈ lw_all := lw_g (lw_at lw_m5 146 rfl) rfl
theorem q1221 : (Jvm.Cond.methodLink "LosslessFabricLaw" (136 : Nat) ({ cls := "LosslessFabric", name := "quiet", desc := "()I" } : Jvm.MethodName)) ∈ lw_all := lw_g (lw_at lw_m5 161 rfl) rfl
theorem q1231 : (Jvm.Cond.methodLink "LosslessFabricLaw" (140 : Nat) ({ cls := "LosslessFabric", name := "worst", desc := "(I)I" } : Jvm.MethodName)) ∈ lw_all := lw_g (lw_at lw_m5 171 rfl) rfl
theorem q1240 : (Jvm.Cond.methodLink "LosslessFabricLaw" (144 : Nat) ({ cls := "LosslessFabric", name := "leastSize", desc := "(II)I" } : Jvm.MethodName)) ∈ lw_all := lw_g (lw_at lw_m5 180 rfl) rfl
theorem q1245 : (Jvm.Cond.methodLink "LosslessFabricLaw" (152 : Nat) ({ cls := "LosslessFabric", name := "chance", desc := "(IIII)I" } : Jvm.MethodName)) ∈ lw_all := lw_g (lw_at lw_m5 185 rfl) rfl
theorem q1259 : (Jvm.Cond.methodLink "LosslessFabricLaw" (169 : Nat) ({ cls := "LosslessFabric", name := "count", desc := "(I)I" } : Jvm.MethodName)) ∈ lw_all := lw_g (lw_at lw_m5 199 rfl) rfl
theorem q1264 : (Jvm.Cond.methodLink "LosslessFabricLaw" (60 : Nat) ({ cls := "LosslessFabricLaw", name := "link", desc := "(LLosslessFabric;II[J)I" } : Jvm.MethodName)) ∈ lw_all := lw_g (lw_at lw_m5 204 rfl) rfl
theorem q1265 : (Jvm.Cond.static ({ cls := "LosslessFabricLaw", name := "link", desc := "(LLosslessFabric;II[J)I" } : Jvm.MethodName)) ∈ lw_all := lw_g (lw_at lw_m5 205 rfl) rfl
theorem q1266 : (Jvm.Cond.codeWith ({ cls := "LosslessFabricLaw", name := "link", desc := "(LLosslessFabric;II[J)I" } : Jvm.MethodName) method_3_code (5 : Nat) (Option.some Jvm.ClassFile.FieldType.int) [((0 : Nat), (10 : Nat), (13 : Nat), (13 : Nat)), ((0 : Nat), (10 : Nat), (17 : Nat), (15 : Nat))]) ∈ lw_all := lw_g (lw_at lw_m5 206 rfl) rfl
theorem q1267 : (Jvm.Cond.classLink "LosslessFabricLaw" (13 : Nat) "java/lang/IndexOutOfBoundsException") ∈ lw_all := lw_g (lw_at lw_m5 207 rfl) rfl
theorem q1301 : (Jvm.Cond.classLink "LosslessFabricLaw" (15 : Nat) "java/util/NoSuchElementException") ∈ lw_all := lw_g (lw_at lw_m6 1 rfl) rfl
theorem q1302 : (Jvm.Cond.methodLink "LosslessFabricLaw" (7 : Nat) ({ cls := "LosslessFabric", name := "link", desc := "(II)I" } : Jvm.MethodName)) ∈ lw_all := lw_g (lw_at lw_m6 2 rfl) rfl
theorem q1342 : (Jvm.Cond.classLink "LosslessFabricLaw" (18 : Nat) "LosslessFabricModel") ∈ lw_all := lw_g (lw_at lw_m6 42 rfl) rfl
theorem q1344 : (Jvm.Cond.methodLink "LosslessFabricLaw" (20 : Nat) ({ cls := "LosslessFabricModel", name := "<init>", desc := "()V" } : Jvm.MethodName)) ∈ lw_all := lw_g (lw_at lw_m6 44 rfl) rfl
theorem q1525 : (Jvm.Cond.methodLink "LosslessFabricLaw" (66 : Nat) ({ cls := "LosslessFabricModel", name := "thrown", desc := "()I" } : Jvm.MethodName)) ∈ lw_all := lw_g (lw_at lw_m6 225 rfl) rfl
theorem q1529 : (Jvm.Cond.methodLink "LosslessFabricLaw" (25 : Nat) ({ cls := "LosslessFabricModel", name := "feed", desc := "(IIIII)I" } : Jvm.MethodName)) ∈ lw_all := lw_g (lw_at lw_m6 229 rfl) rfl
theorem q1533 : (Jvm.Cond.methodLink "LosslessFabricLaw" (30 : Nat) ({ cls := "LosslessFabricModel", name := "text", desc := "(I)I" } : Jvm.MethodName)) ∈ lw_all := lw_g (lw_at lw_m6 233 rfl) rfl
theorem q1626 : (Jvm.Cond.methodLink "LosslessFabricLaw" (34 : Nat) ({ cls := "LosslessFabricModel", name := "fault", desc := "(I)I" } : Jvm.MethodName)) ∈ lw_all := lw_g (lw_at lw_m7 86 rfl) rfl
theorem q1630 : (Jvm.Cond.methodLink "LosslessFabricLaw" (38 : Nat) ({ cls := "LosslessFabricModel", name := "named", desc := "(II)I" } : Jvm.MethodName)) ∈ lw_all := lw_g (lw_at lw_m7 90 rfl) rfl
theorem q1634 : (Jvm.Cond.methodLink "LosslessFabricLaw" (160 : Nat) ({ cls := "LosslessFabricModel", name := "undo", desc := "()I" } : Jvm.MethodName)) ∈ lw_all := lw_g (lw_at lw_m7 94 rfl) rfl
theorem q1641 : (Jvm.Cond.methodLink "LosslessFabricLaw" (164 : Nat) ({ cls := "LosslessFabricModel", name := "keep", desc := "()I" } : Jvm.MethodName)) ∈ lw_all := lw_g (lw_at lw_m7 101 rfl) rfl
theorem q1645 : (Jvm.Cond.methodLink "LosslessFabricLaw" (168 : Nat) ({ cls := "LosslessFabricModel", name := "back", desc := "()I" } : Jvm.MethodName)) ∈ lw_all := lw_g (lw_at lw_m7 105 rfl) rfl
theorem q1649 : (Jvm.Cond.methodLink "LosslessFabricLaw" (42 : Nat) ({ cls := "LosslessFabricModel", name := "tick", desc := "(I)I" } : Jvm.MethodName)) ∈ lw_all := lw_g (lw_at lw_m7 109 rfl) rfl
theorem q1723 : (Jvm.Cond.methodLink "LosslessFabricLaw" (46 : Nat) ({ cls := "LosslessFabricModel", name := "rate", desc := "(II)I" } : Jvm.MethodName)) ∈ lw_all := lw_g (lw_at lw_m7 183 rfl) rfl
theorem q1731 : (Jvm.Cond.methodLink "LosslessFabricLaw" (50 : Nat) ({ cls := "LosslessFabricModel", name := "turn", desc := "(I)I" } : Jvm.MethodName)) ∈ lw_all := lw_g (lw_at lw_m7 191 rfl) rfl
theorem q1735 : (Jvm.Cond.methodLink "LosslessFabricLaw" (55 : Nat) ({ cls := "LosslessFabricModel", name := "bounds", desc := "(III)Z" } : Jvm.MethodName)) ∈ lw_all := lw_g (lw_at lw_m7 195 rfl) rfl
theorem q1743 : (Jvm.Cond.methodLink "LosslessFabricLaw" (59 : Nat) ({ cls := "LosslessFabricModel", name := "size", desc := "(II)I" } : Jvm.MethodName)) ∈ lw_all := lw_g (lw_at lw_m7 203 rfl) rfl
theorem q1747 : (Jvm.Cond.methodLink "LosslessFabricLaw" (65 : Nat) ({ cls := "LosslessFabricModel", name := "link", desc := "(II)I" } : Jvm.MethodName)) ∈ lw_all := lw_g (lw_at lw_m7 207 rfl) rfl
theorem q1751 : (Jvm.Cond.methodLink "LosslessFabricLaw" (73 : Nat) ({ cls := "LosslessFabricModel", name := "queue", desc := "(II)I" } : Jvm.MethodName)) ∈ lw_all := lw_g (lw_at lw_m7 211 rfl) rfl
theorem q1755 : (Jvm.Cond.methodLink "LosslessFabricLaw" (77 : Nat) ({ cls := "LosslessFabricModel", name := "flow", desc := "(II)I" } : Jvm.MethodName)) ∈ lw_all := lw_g (lw_at lw_m7 215 rfl) rfl
theorem q1759 : (Jvm.Cond.methodLink "LosslessFabricLaw" (81 : Nat) ({ cls := "LosslessFabricModel", name := "path", desc := "(II)I" } : Jvm.MethodName)) ∈ lw_all := lw_g (lw_at lw_m7 219 rfl) rfl
theorem q1763 : (Jvm.Cond.methodLink "LosslessFabricLaw" (85 : Nat) ({ cls := "LosslessFabricModel", name := "feedback", desc := "(I)I" } : Jvm.MethodName)) ∈ lw_all := lw_g (lw_at lw_m7 223 rfl) rfl
theorem q1768 : (Jvm.Cond.methodLink "LosslessFabricLaw" (89 : Nat) ({ cls := "LosslessFabricModel", name := "notice", desc := "(I)I" } : Jvm.MethodName)) ∈ lw_all := lw_g (lw_at lw_m7 228 rfl) rfl
theorem q1772 : (Jvm.Cond.methodLink "LosslessFabricLaw" (93 : Nat) ({ cls := "LosslessFabricModel", name := "headroom", desc := "(I)I" } : Jvm.MethodName)) ∈ lw_all := lw_g (lw_at lw_m7 232 rfl) rfl
theorem q1780 : (Jvm.Cond.methodLink "LosslessFabricLaw" (97 : Nat) ({ cls := "LosslessFabricModel", name := "safe", desc := "()I" } : Jvm.MethodName)) ∈ lw_all := lw_g (lw_at lw_m8 0 rfl) rfl
theorem q1784 : (Jvm.Cond.methodLink "LosslessFabricLaw" (151 : Nat) ({ cls := "LosslessFabricModel", name := "onWay", desc := "(I)I" } : Jvm.MethodName)) ∈ lw_all := lw_g (lw_at lw_m8 4 rfl) rfl
theorem q1788 : (Jvm.Cond.methodLink "LosslessFabricLaw" (101 : Nat) ({ cls := "LosslessFabricModel", name := "waits", desc := "(I)I" } : Jvm.MethodName)) ∈ lw_all := lw_g (lw_at lw_m8 8 rfl) rfl
theorem q1808 : (Jvm.Cond.methodLink "LosslessFabricLaw" (113 : Nat) ({ cls := "LosslessFabricModel", name := "inCycles", desc := "(I)I" } : Jvm.MethodName)) ∈ lw_all := lw_g (lw_at lw_m8 28 rfl) rfl
theorem q1820 : (Jvm.Cond.methodLink "LosslessFabricLaw" (105 : Nat) ({ cls := "LosslessFabricModel", name := "cycle", desc := "(I)I" } : Jvm.MethodName)) ∈ lw_all := lw_g (lw_at lw_m8 40 rfl) rfl
theorem q1828 : (Jvm.Cond.methodLink "LosslessFabricLaw" (109 : Nat) ({ cls := "LosslessFabricModel", name := "witness", desc := "(I)I" } : Jvm.MethodName)) ∈ lw_all := lw_g (lw_at lw_m8 48 rfl) rfl
theorem q1832 : (Jvm.Cond.methodLink "LosslessFabricLaw" (118 : Nat) ({ cls := "LosslessFabricModel", name := "fair", desc := "(IZ)J" } : Jvm.MethodName)) ∈ lw_all := lw_g (lw_at lw_m8 52 rfl) rfl
theorem q1856 : (Jvm.Cond.methodLink "LosslessFabricLaw" (122 : Nat) ({ cls := "LosslessFabricModel", name := "full", desc := "()I" } : Jvm.MethodName)) ∈ lw_all := lw_g (lw_at lw_m8 76 rfl) rfl
theorem q1860 : (Jvm.Cond.methodLink "LosslessFabricLaw" (127 : Nat) ({ cls := "LosslessFabricModel", name := "ahead", desc := "(III)I" } : Jvm.MethodName)) ∈ lw_all := lw_g (lw_at lw_m8 80 rfl) rfl
theorem q1867 : (Jvm.Cond.methodLink "LosslessFabricLaw" (131 : Nat) ({ cls := "LosslessFabricModel", name := "flows", desc := "(III)I" } : Jvm.MethodName)) ∈ lw_all := lw_g (lw_at lw_m8 87 rfl) rfl
theorem q1871 : (Jvm.Cond.methodLink "LosslessFabricLaw" (135 : Nat) ({ cls := "LosslessFabricModel", name := "stalls", desc := "()I" } : Jvm.MethodName)) ∈ lw_all := lw_g (lw_at lw_m8 91 rfl) rfl
theorem q1879 : (Jvm.Cond.methodLink "LosslessFabricLaw" (139 : Nat) ({ cls := "LosslessFabricModel", name := "quiet", desc := "()I" } : Jvm.MethodName)) ∈ lw_all := lw_g (lw_at lw_m8 99 rfl) rfl
theorem q1887 : (Jvm.Cond.methodLink "LosslessFabricLaw" (143 : Nat) ({ cls := "LosslessFabricModel", name := "worst", desc := "(I)I" } : Jvm.MethodName)) ∈ lw_all := lw_g (lw_at lw_m8 107 rfl) rfl
theorem q1895 : (Jvm.Cond.methodLink "LosslessFabricLaw" (147 : Nat) ({ cls := "LosslessFabricModel", name := "leastSize", desc := "(II)I" } : Jvm.MethodName)) ∈ lw_all := lw_g (lw_at lw_m8 115 rfl) rfl
theorem q1899 : (Jvm.Cond.methodLink "LosslessFabricLaw" (156 : Nat) ({ cls := "LosslessFabricModel", name := "chance", desc := "(IIII)I" } : Jvm.MethodName)) ∈ lw_all := lw_g (lw_at lw_m8 119 rfl) rfl
theorem q1913 : (Jvm.Cond.methodLink "LosslessFabricLaw" (172 : Nat) ({ cls := "LosslessFabricModel", name := "count", desc := "(I)I" } : Jvm.MethodName)) ∈ lw_all := lw_g (lw_at lw_m8 133 rfl) rfl
