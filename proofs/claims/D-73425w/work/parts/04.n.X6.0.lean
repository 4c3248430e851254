/-! LosslessFabricModel -/
set_option maxRecDepth 100000
def RX6 : String := "LosslessFabricModel"
def TX6 : u_T := fun k => match k with
  | 0 => ("LosslessFabricModel", "thrown", "I", false)
  | 1 => ("LosslessFabricModel", "tape", "[I", true)
  | 2 => ("LosslessFabricModel", "taped", "I", false)
  | 3 => ("LosslessFabricModel", "number", "[I", true)
  | 4 => ("LosslessFabricModel", "isTold", "[Z", true)
  | 5 => ("LosslessFabricModel", "linkName", "[I", true)
  | 6 => ("LosslessFabricModel", "cap", "[I", true)
  | 7 => ("LosslessFabricModel", "delay", "[I", true)
  | 8 => ("LosslessFabricModel", "xoffTold", "[I", true)
  | 9 => ("LosslessFabricModel", "xonTold", "[I", true)
  | 10 => ("LosslessFabricModel", "sizeTold", "[I", true)
  | 11 => ("LosslessFabricModel", "flowName", "[I", true)
  | 12 => ("LosslessFabricModel", "rateTold", "[I", true)
  | 13 => ("LosslessFabricModel", "isOff", "[Z", true)
  | 14 => ("LosslessFabricModel", "hops", "[I", true)
  | 15 => ("LosslessFabricModel", "path", "[I", true)
  | 16 => ("LosslessFabricModel", "lines", "I", false)
  | 17 => ("LosslessFabricModel", "size", "I", false)
  | 18 => ("LosslessFabricModel", "at", "I", false)
  | 19 => ("LosslessFabricModel", "place", "I", false)
  | 20 => ("LosslessFabricModel", "sort", "I", false)
  | 21 => ("LosslessFabricModel", "value", "I", false)
  | 22 => ("LosslessFabricModel", "fault", "I", false)
  | 23 => ("LosslessFabricModel", "faultPlace", "I", false)
  | 24 => ("LosslessFabricModel", "lastFault", "I", false)
  | 25 => ("LosslessFabricModel", "lastPlace", "I", false)
  | 26 => ("LosslessFabricModel", "s", "[I", true)
  | 27 => ("LosslessFabricModel", "aside", "[I", true)
  | 28 => ("LosslessFabricModel", "further", "[I", true)
  | 29 => ("LosslessFabricModel", "image", "[I", true)
  | 30 => ("LosslessFabricModel", "pasts", "[I", true)
  | 31 => ("LosslessFabricModel", "undoable", "I", false)
  | 32 => ("LosslessFabricModel", "hasImage", "Z", false)
  | 33 => ("LosslessFabricModel", "can", "[I", true)
  | 34 => ("LosslessFabricModel", "carries", "[I", true)
  | 35 => ("LosslessFabricModel", "comes", "[I", true)
  | 36 => ("LosslessFabricModel", "noteFlow", "[I", true)
  | 37 => ("LosslessFabricModel", "note", "[I", true)
  | 38 => ("LosslessFabricModel", "notes", "I", false)
  | 39 => ("LosslessFabricModel", "after", "[I", true)
  | 40 => ("LosslessFabricModel", "steps", "[I", true)
  | 41 => ("LosslessFabricModel", "cycle", "[I", true)
  | 42 => ("LosslessFabricModel", "cycleLong", "I", false)
  | 43 => ("LosslessFabricModel", "upper", "[J", true)
  | 44 => ("LosslessFabricModel", "lower", "[J", true)
  | 45 => ("LosslessFabricModel", "isDone", "[Z", true)
  | 46 => ("LosslessFabricModel", "topNow", "J", false)
  | 47 => ("LosslessFabricModel", "underNow", "J", false)
  | _ => ("LosslessFabricModel", "drawn", "I", false)
def tyX6 : Nat → FieldType := fun k => match k with
  | 0 => .int
  | 1 => .array .int
  | 2 => .int
  | 3 => .array .int
  | 4 => .array .boolean
  | 5 => .array .int
  | 6 => .array .int
  | 7 => .array .int
  | 8 => .array .int
  | 9 => .array .int
  | 10 => .array .int
  | 11 => .array .int
  | 12 => .array .int
  | 13 => .array .boolean
  | 14 => .array .int
  | 15 => .array .int
  | 16 => .int
  | 17 => .int
  | 18 => .int
  | 19 => .int
  | 20 => .int
  | 21 => .int
  | 22 => .int
  | 23 => .int
  | 24 => .int
  | 25 => .int
  | 26 => .array .int
  | 27 => .array .int
  | 28 => .array .int
  | 29 => .array .int
  | 30 => .array .int
  | 31 => .int
  | 32 => .boolean
  | 33 => .array .int
  | 34 => .array .int
  | 35 => .array .int
  | 36 => .array .int
  | 37 => .array .int
  | 38 => .int
  | 39 => .array .int
  | 40 => .array .int
  | 41 => .array .int
  | 42 => .int
  | 43 => .array .long
  | 44 => .array .long
  | 45 => .array .boolean
  | 46 => .long
  | 47 => .long
  | _ => .int
abbrev wsX60 : List Cond := u_ws RX6 TX6 49
set_option maxRecDepth 100000 in
theorem nmX6 : ∀ a, a < 49 → ∀ b, b < 49 → a ≠ b → (TX6 a).2.1 ≠ (TX6 b).2.1 := by decide +kernel
set_option maxRecDepth 100000 in
theorem tyX6_ok : ∀ k, k < 49 → parseFieldDescriptor (TX6 k).2.2.1 = some (tyX6 k) := by decide +kernel
abbrev cX6_init : ByteArray := prog_18_method_1_code
def yX6_init : MethodName := ⟨RX6, "<init>", "()V"⟩
def dkwX6_init_11 : List UInt8 := [182, 0, 109, 42, 182, 0, 112, 177]
abbrev dktX6_init_11 : List UInt8 := dkwX6_init_11 ++ []
def dkwX6_init_10 : List UInt8 := [181, 0, 96, 42, 16, 8, 188, 11, 181, 0, 100, 42, 16, 8, 188, 4, 181, 0, 103, 42, 182, 0, 106, 42]
abbrev dktX6_init_10 : List UInt8 := dkwX6_init_10 ++ dktX6_init_11
def dkwX6_init_9 : List UInt8 := [181, 0, 87, 42, 16, 10, 188, 10, 181, 0, 90, 42, 16, 10, 188, 10, 181, 0, 93, 42, 16, 8, 188, 11]
abbrev dktX6_init_9 : List UInt8 := dkwX6_init_9 ++ dktX6_init_10
def dkwX6_init_8 : List UInt8 := [181, 0, 78, 42, 16, 80, 188, 10, 181, 0, 81, 42, 16, 80, 188, 10, 181, 0, 84, 42, 16, 10, 188, 10]
abbrev dktX6_init_8 : List UInt8 := dkwX6_init_8 ++ dktX6_init_9
def dkwX6_init_7 : List UInt8 := [181, 0, 69, 42, 16, 80, 188, 10, 181, 0, 72, 42, 16, 80, 188, 10, 181, 0, 75, 42, 16, 80, 188, 10]
abbrev dktX6_init_7 : List UInt8 := dkwX6_init_7 ++ dktX6_init_8
def dkwX6_init_6 : List UInt8 := [17, 1, 81, 188, 10, 181, 0, 63, 42, 17, 1, 81, 188, 10, 181, 0, 66, 42, 17, 26, 84, 188, 10]
abbrev dktX6_init_6 : List UInt8 := dkwX6_init_6 ++ dktX6_init_7
def dkwX6_init_5 : List UInt8 := [181, 0, 53, 42, 17, 1, 81, 188, 10, 181, 0, 57, 42, 17, 1, 81, 188, 10, 181, 0, 60, 42]
abbrev dktX6_init_5 : List UInt8 := dkwX6_init_5 ++ dktX6_init_6
def dkwX6_init_4 : List UInt8 := [188, 4, 181, 0, 44, 42, 16, 16, 188, 10, 181, 0, 47, 42, 16, 80, 188, 10, 181, 0, 50, 42, 2]
abbrev dktX6_init_4 : List UInt8 := dkwX6_init_4 ++ dktX6_init_5
def dkwX6_init_3 : List UInt8 := [188, 10, 181, 0, 35, 42, 16, 16, 188, 10, 181, 0, 38, 42, 16, 16, 188, 10, 181, 0, 41, 42, 16, 16]
abbrev dktX6_init_3 : List UInt8 := dkwX6_init_3 ++ dktX6_init_4
def dkwX6_init_2 : List UInt8 := [188, 10, 181, 0, 26, 42, 16, 20, 188, 10, 181, 0, 29, 42, 16, 20, 188, 10, 181, 0, 32, 42, 16, 20]
abbrev dktX6_init_2 : List UInt8 := dkwX6_init_2 ++ dktX6_init_3
def dkwX6_init_1 : List UInt8 := [188, 4, 181, 0, 16, 42, 16, 20, 188, 10, 181, 0, 20, 42, 16, 20, 188, 10, 181, 0, 23, 42, 16, 20]
abbrev dktX6_init_1 : List UInt8 := dkwX6_init_1 ++ dktX6_init_2
def dkwX6_init_0 : List UInt8 := [42, 183, 0, 1, 42, 17, 2, 188, 188, 10, 181, 0, 7, 42, 16, 18, 188, 10, 181, 0, 13, 42, 16, 6]
abbrev dktX6_init_0 : List UInt8 := dkwX6_init_0 ++ dktX6_init_1
theorem dksX6_init_0 : cX6_init.data.toList.drop 0 = dktX6_init_0 := by decide +kernel
theorem dksX6_init_1 : cX6_init.data.toList.drop 24 = dktX6_init_1 := dk_seg dksX6_init_0 24 rfl rfl
theorem dksX6_init_2 : cX6_init.data.toList.drop 48 = dktX6_init_2 := dk_seg dksX6_init_1 24 rfl rfl
theorem dksX6_init_3 : cX6_init.data.toList.drop 72 = dktX6_init_3 := dk_seg dksX6_init_2 24 rfl rfl
theorem dksX6_init_4 : cX6_init.data.toList.drop 96 = dktX6_init_4 := dk_seg dksX6_init_3 24 rfl rfl
theorem dksX6_init_5 : cX6_init.data.toList.drop 119 = dktX6_init_5 := dk_seg dksX6_init_4 23 rfl rfl
theorem dksX6_init_6 : cX6_init.data.toList.drop 141 = dktX6_init_6 := dk_seg dksX6_init_5 22 rfl rfl
theorem dksX6_init_7 : cX6_init.data.toList.drop 164 = dktX6_init_7 := dk_seg dksX6_init_6 23 rfl rfl
theorem dksX6_init_8 : cX6_init.data.toList.drop 188 = dktX6_init_8 := dk_seg dksX6_init_7 24 rfl rfl
theorem dksX6_init_9 : cX6_init.data.toList.drop 212 = dktX6_init_9 := dk_seg dksX6_init_8 24 rfl rfl
theorem dksX6_init_10 : cX6_init.data.toList.drop 236 = dktX6_init_10 := dk_seg dksX6_init_9 24 rfl rfl
theorem dksX6_init_11 : cX6_init.data.toList.drop 260 = dktX6_init_11 := dk_seg dksX6_init_10 24 rfl rfl
theorem dX6_init_0 : decode cX6_init 0 = .ok (.aload_n 0, 1) := dk_42 (dk_at dksX6_init_0 0 rfl rfl)
theorem dX6_init_1 : decode cX6_init 1 = .ok (.invokespecial 1, 3) := dk_183 0 1 (dk_at dksX6_init_0 1 rfl rfl)
theorem dX6_init_4 : decode cX6_init 4 = .ok (.aload_n 0, 1) := dk_42 (dk_at dksX6_init_0 4 rfl rfl)
theorem dX6_init_5 : decode cX6_init 5 = .ok (.sipush 700, 3) := dk_17 2 188 (dk_at dksX6_init_0 5 rfl rfl)
theorem dX6_init_8 : decode cX6_init 8 = .ok (.newarray .int, 2) := dk_188_10 (dk_at dksX6_init_0 8 rfl rfl)
theorem dX6_init_10 : decode cX6_init 10 = .ok (.putfield 7, 3) := dk_181 0 7 (dk_at dksX6_init_0 10 rfl rfl)
theorem dX6_init_13 : decode cX6_init 13 = .ok (.aload_n 0, 1) := dk_42 (dk_at dksX6_init_0 13 rfl rfl)
theorem dX6_init_14 : decode cX6_init 14 = .ok (.bipush 18, 2) := dk_16 18 (dk_at dksX6_init_0 14 rfl rfl)
theorem dX6_init_16 : decode cX6_init 16 = .ok (.newarray .int, 2) := dk_188_10 (dk_at dksX6_init_0 16 rfl rfl)
theorem dX6_init_18 : decode cX6_init 18 = .ok (.putfield 13, 3) := dk_181 0 13 (dk_at dksX6_init_0 18 rfl rfl)
theorem dX6_init_21 : decode cX6_init 21 = .ok (.aload_n 0, 1) := dk_42 (dk_at dksX6_init_0 21 rfl rfl)
theorem dX6_init_22 : decode cX6_init 22 = .ok (.bipush 6, 2) := dk_16 6 (dk_at dksX6_init_0 22 rfl rfl)
theorem dX6_init_24 : decode cX6_init 24 = .ok (.newarray .boolean, 2) := dk_188_4 (dk_at dksX6_init_1 0 rfl rfl)
theorem dX6_init_26 : decode cX6_init 26 = .ok (.putfield 16, 3) := dk_181 0 16 (dk_at dksX6_init_1 2 rfl rfl)
theorem dX6_init_29 : decode cX6_init 29 = .ok (.aload_n 0, 1) := dk_42 (dk_at dksX6_init_1 5 rfl rfl)
theorem dX6_init_30 : decode cX6_init 30 = .ok (.bipush 20, 2) := dk_16 20 (dk_at dksX6_init_1 6 rfl rfl)
theorem dX6_init_32 : decode cX6_init 32 = .ok (.newarray .int, 2) := dk_188_10 (dk_at dksX6_init_1 8 rfl rfl)
theorem dX6_init_34 : decode cX6_init 34 = .ok (.putfield 20, 3) := dk_181 0 20 (dk_at dksX6_init_1 10 rfl rfl)
theorem dX6_init_37 : decode cX6_init 37 = .ok (.aload_n 0, 1) := dk_42 (dk_at dksX6_init_1 13 rfl rfl)
theorem dX6_init_38 : decode cX6_init 38 = .ok (.bipush 20, 2) := dk_16 20 (dk_at dksX6_init_1 14 rfl rfl)
theorem dX6_init_40 : decode cX6_init 40 = .ok (.newarray .int, 2) := dk_188_10 (dk_at dksX6_init_1 16 rfl rfl)
theorem dX6_init_42 : decode cX6_init 42 = .ok (.putfield 23, 3) := dk_181 0 23 (dk_at dksX6_init_1 18 rfl rfl)
theorem dX6_init_45 : decode cX6_init 45 = .ok (.aload_n 0, 1) := dk_42 (dk_at dksX6_init_1 21 rfl rfl)
theorem dX6_init_46 : decode cX6_init 46 = .ok (.bipush 20, 2) := dk_16 20 (dk_at dksX6_init_1 22 rfl rfl)
theorem dX6_init_48 : decode cX6_init 48 = .ok (.newarray .int, 2) := dk_188_10 (dk_at dksX6_init_2 0 rfl rfl)
theorem dX6_init_50 : decode cX6_init 50 = .ok (.putfield 26, 3) := dk_181 0 26 (dk_at dksX6_init_2 2 rfl rfl)
theorem dX6_init_53 : decode cX6_init 53 = .ok (.aload_n 0, 1) := dk_42 (dk_at dksX6_init_2 5 rfl rfl)
theorem dX6_init_54 : decode cX6_init 54 = .ok (.bipush 20, 2) := dk_16 20 (dk_at dksX6_init_2 6 rfl rfl)
theorem dX6_init_56 : decode cX6_init 56 = .ok (.newarray .int, 2) := dk_188_10 (dk_at dksX6_init_2 8 rfl rfl)
theorem dX6_init_58 : decode cX6_init 58 = .ok (.putfield 29, 3) := dk_181 0 29 (dk_at dksX6_init_2 10 rfl rfl)
theorem dX6_init_61 : decode cX6_init 61 = .ok (.aload_n 0, 1) := dk_42 (dk_at dksX6_init_2 13 rfl rfl)
theorem dX6_init_62 : decode cX6_init 62 = .ok (.bipush 20, 2) := dk_16 20 (dk_at dksX6_init_2 14 rfl rfl)
theorem dX6_init_64 : decode cX6_init 64 = .ok (.newarray .int, 2) := dk_188_10 (dk_at dksX6_init_2 16 rfl rfl)
theorem dX6_init_66 : decode cX6_init 66 = .ok (.putfield 32, 3) := dk_181 0 32 (dk_at dksX6_init_2 18 rfl rfl)
theorem dX6_init_69 : decode cX6_init 69 = .ok (.aload_n 0, 1) := dk_42 (dk_at dksX6_init_2 21 rfl rfl)
theorem dX6_init_70 : decode cX6_init 70 = .ok (.bipush 20, 2) := dk_16 20 (dk_at dksX6_init_2 22 rfl rfl)
theorem dX6_init_72 : decode cX6_init 72 = .ok (.newarray .int, 2) := dk_188_10 (dk_at dksX6_init_3 0 rfl rfl)
theorem dX6_init_74 : decode cX6_init 74 = .ok (.putfield 35, 3) := dk_181 0 35 (dk_at dksX6_init_3 2 rfl rfl)
theorem dX6_init_77 : decode cX6_init 77 = .ok (.aload_n 0, 1) := dk_42 (dk_at dksX6_init_3 5 rfl rfl)
theorem dX6_init_78 : decode cX6_init 78 = .ok (.bipush 16, 2) := dk_16 16 (dk_at dksX6_init_3 6 rfl rfl)
theorem dX6_init_80 : decode cX6_init 80 = .ok (.newarray .int, 2) := dk_188_10 (dk_at dksX6_init_3 8 rfl rfl)
theorem dX6_init_82 : decode cX6_init 82 = .ok (.putfield 38, 3) := dk_181 0 38 (dk_at dksX6_init_3 10 rfl rfl)
theorem dX6_init_85 : decode cX6_init 85 = .ok (.aload_n 0, 1) := dk_42 (dk_at dksX6_init_3 13 rfl rfl)
theorem dX6_init_86 : decode cX6_init 86 = .ok (.bipush 16, 2) := dk_16 16 (dk_at dksX6_init_3 14 rfl rfl)
theorem dX6_init_88 : decode cX6_init 88 = .ok (.newarray .int, 2) := dk_188_10 (dk_at dksX6_init_3 16 rfl rfl)
theorem dX6_init_90 : decode cX6_init 90 = .ok (.putfield 41, 3) := dk_181 0 41 (dk_at dksX6_init_3 18 rfl rfl)
theorem dX6_init_93 : decode cX6_init 93 = .ok (.aload_n 0, 1) := dk_42 (dk_at dksX6_init_3 21 rfl rfl)
theorem dX6_init_94 : decode cX6_init 94 = .ok (.bipush 16, 2) := dk_16 16 (dk_at dksX6_init_3 22 rfl rfl)
theorem dX6_init_96 : decode cX6_init 96 = .ok (.newarray .boolean, 2) := dk_188_4 (dk_at dksX6_init_4 0 rfl rfl)
theorem dX6_init_98 : decode cX6_init 98 = .ok (.putfield 44, 3) := dk_181 0 44 (dk_at dksX6_init_4 2 rfl rfl)
theorem dX6_init_101 : decode cX6_init 101 = .ok (.aload_n 0, 1) := dk_42 (dk_at dksX6_init_4 5 rfl rfl)
theorem dX6_init_102 : decode cX6_init 102 = .ok (.bipush 16, 2) := dk_16 16 (dk_at dksX6_init_4 6 rfl rfl)
theorem dX6_init_104 : decode cX6_init 104 = .ok (.newarray .int, 2) := dk_188_10 (dk_at dksX6_init_4 8 rfl rfl)
theorem dX6_init_106 : decode cX6_init 106 = .ok (.putfield 47, 3) := dk_181 0 47 (dk_at dksX6_init_4 10 rfl rfl)
theorem dX6_init_109 : decode cX6_init 109 = .ok (.aload_n 0, 1) := dk_42 (dk_at dksX6_init_4 13 rfl rfl)
theorem dX6_init_110 : decode cX6_init 110 = .ok (.bipush 80, 2) := dk_16 80 (dk_at dksX6_init_4 14 rfl rfl)
theorem dX6_init_112 : decode cX6_init 112 = .ok (.newarray .int, 2) := dk_188_10 (dk_at dksX6_init_4 16 rfl rfl)
theorem dX6_init_114 : decode cX6_init 114 = .ok (.putfield 50, 3) := dk_181 0 50 (dk_at dksX6_init_4 18 rfl rfl)
theorem dX6_init_117 : decode cX6_init 117 = .ok (.aload_n 0, 1) := dk_42 (dk_at dksX6_init_4 21 rfl rfl)
theorem dX6_init_118 : decode cX6_init 118 = .ok (.iconst (-1), 1) := dk_2 (dk_at dksX6_init_4 22 rfl rfl)
theorem dX6_init_119 : decode cX6_init 119 = .ok (.putfield 53, 3) := dk_181 0 53 (dk_at dksX6_init_5 0 rfl rfl)
theorem dX6_init_122 : decode cX6_init 122 = .ok (.aload_n 0, 1) := dk_42 (dk_at dksX6_init_5 3 rfl rfl)
theorem dX6_init_123 : decode cX6_init 123 = .ok (.sipush 337, 3) := dk_17 1 81 (dk_at dksX6_init_5 4 rfl rfl)
theorem dX6_init_126 : decode cX6_init 126 = .ok (.newarray .int, 2) := dk_188_10 (dk_at dksX6_init_5 7 rfl rfl)
theorem dX6_init_128 : decode cX6_init 128 = .ok (.putfield 57, 3) := dk_181 0 57 (dk_at dksX6_init_5 9 rfl rfl)
theorem dX6_init_131 : decode cX6_init 131 = .ok (.aload_n 0, 1) := dk_42 (dk_at dksX6_init_5 12 rfl rfl)
theorem dX6_init_132 : decode cX6_init 132 = .ok (.sipush 337, 3) := dk_17 1 81 (dk_at dksX6_init_5 13 rfl rfl)
theorem dX6_init_135 : decode cX6_init 135 = .ok (.newarray .int, 2) := dk_188_10 (dk_at dksX6_init_5 16 rfl rfl)
theorem dX6_init_137 : decode cX6_init 137 = .ok (.putfield 60, 3) := dk_181 0 60 (dk_at dksX6_init_5 18 rfl rfl)
theorem dX6_init_140 : decode cX6_init 140 = .ok (.aload_n 0, 1) := dk_42 (dk_at dksX6_init_5 21 rfl rfl)
theorem dX6_init_141 : decode cX6_init 141 = .ok (.sipush 337, 3) := dk_17 1 81 (dk_at dksX6_init_6 0 rfl rfl)
theorem dX6_init_144 : decode cX6_init 144 = .ok (.newarray .int, 2) := dk_188_10 (dk_at dksX6_init_6 3 rfl rfl)
theorem dX6_init_146 : decode cX6_init 146 = .ok (.putfield 63, 3) := dk_181 0 63 (dk_at dksX6_init_6 5 rfl rfl)
theorem dX6_init_149 : decode cX6_init 149 = .ok (.aload_n 0, 1) := dk_42 (dk_at dksX6_init_6 8 rfl rfl)
theorem dX6_init_150 : decode cX6_init 150 = .ok (.sipush 337, 3) := dk_17 1 81 (dk_at dksX6_init_6 9 rfl rfl)
theorem dX6_init_153 : decode cX6_init 153 = .ok (.newarray .int, 2) := dk_188_10 (dk_at dksX6_init_6 12 rfl rfl)
theorem dX6_init_155 : decode cX6_init 155 = .ok (.putfield 66, 3) := dk_181 0 66 (dk_at dksX6_init_6 14 rfl rfl)
theorem dX6_init_158 : decode cX6_init 158 = .ok (.aload_n 0, 1) := dk_42 (dk_at dksX6_init_6 17 rfl rfl)
theorem dX6_init_159 : decode cX6_init 159 = .ok (.sipush 6740, 3) := dk_17 26 84 (dk_at dksX6_init_6 18 rfl rfl)
theorem dX6_init_162 : decode cX6_init 162 = .ok (.newarray .int, 2) := dk_188_10 (dk_at dksX6_init_6 21 rfl rfl)
theorem dX6_init_164 : decode cX6_init 164 = .ok (.putfield 69, 3) := dk_181 0 69 (dk_at dksX6_init_7 0 rfl rfl)
theorem dX6_init_167 : decode cX6_init 167 = .ok (.aload_n 0, 1) := dk_42 (dk_at dksX6_init_7 3 rfl rfl)
theorem dX6_init_168 : decode cX6_init 168 = .ok (.bipush 80, 2) := dk_16 80 (dk_at dksX6_init_7 4 rfl rfl)
theorem dX6_init_170 : decode cX6_init 170 = .ok (.newarray .int, 2) := dk_188_10 (dk_at dksX6_init_7 6 rfl rfl)
theorem dX6_init_172 : decode cX6_init 172 = .ok (.putfield 72, 3) := dk_181 0 72 (dk_at dksX6_init_7 8 rfl rfl)
theorem dX6_init_175 : decode cX6_init 175 = .ok (.aload_n 0, 1) := dk_42 (dk_at dksX6_init_7 11 rfl rfl)
theorem dX6_init_176 : decode cX6_init 176 = .ok (.bipush 80, 2) := dk_16 80 (dk_at dksX6_init_7 12 rfl rfl)
theorem dX6_init_178 : decode cX6_init 178 = .ok (.newarray .int, 2) := dk_188_10 (dk_at dksX6_init_7 14 rfl rfl)
theorem dX6_init_180 : decode cX6_init 180 = .ok (.putfield 75, 3) := dk_181 0 75 (dk_at dksX6_init_7 16 rfl rfl)
theorem dX6_init_183 : decode cX6_init 183 = .ok (.aload_n 0, 1) := dk_42 (dk_at dksX6_init_7 19 rfl rfl)
theorem dX6_init_184 : decode cX6_init 184 = .ok (.bipush 80, 2) := dk_16 80 (dk_at dksX6_init_7 20 rfl rfl)
theorem dX6_init_186 : decode cX6_init 186 = .ok (.newarray .int, 2) := dk_188_10 (dk_at dksX6_init_7 22 rfl rfl)
theorem dX6_init_188 : decode cX6_init 188 = .ok (.putfield 78, 3) := dk_181 0 78 (dk_at dksX6_init_8 0 rfl rfl)
theorem dX6_init_191 : decode cX6_init 191 = .ok (.aload_n 0, 1) := dk_42 (dk_at dksX6_init_8 3 rfl rfl)
theorem dX6_init_192 : decode cX6_init 192 = .ok (.bipush 80, 2) := dk_16 80 (dk_at dksX6_init_8 4 rfl rfl)
theorem dX6_init_194 : decode cX6_init 194 = .ok (.newarray .int, 2) := dk_188_10 (dk_at dksX6_init_8 6 rfl rfl)
theorem dX6_init_196 : decode cX6_init 196 = .ok (.putfield 81, 3) := dk_181 0 81 (dk_at dksX6_init_8 8 rfl rfl)
theorem dX6_init_199 : decode cX6_init 199 = .ok (.aload_n 0, 1) := dk_42 (dk_at dksX6_init_8 11 rfl rfl)
theorem dX6_init_200 : decode cX6_init 200 = .ok (.bipush 80, 2) := dk_16 80 (dk_at dksX6_init_8 12 rfl rfl)
theorem dX6_init_202 : decode cX6_init 202 = .ok (.newarray .int, 2) := dk_188_10 (dk_at dksX6_init_8 14 rfl rfl)
theorem dX6_init_204 : decode cX6_init 204 = .ok (.putfield 84, 3) := dk_181 0 84 (dk_at dksX6_init_8 16 rfl rfl)
theorem dX6_init_207 : decode cX6_init 207 = .ok (.aload_n 0, 1) := dk_42 (dk_at dksX6_init_8 19 rfl rfl)
theorem dX6_init_208 : decode cX6_init 208 = .ok (.bipush 10, 2) := dk_16 10 (dk_at dksX6_init_8 20 rfl rfl)
theorem dX6_init_210 : decode cX6_init 210 = .ok (.newarray .int, 2) := dk_188_10 (dk_at dksX6_init_8 22 rfl rfl)
theorem dX6_init_212 : decode cX6_init 212 = .ok (.putfield 87, 3) := dk_181 0 87 (dk_at dksX6_init_9 0 rfl rfl)
theorem dX6_init_215 : decode cX6_init 215 = .ok (.aload_n 0, 1) := dk_42 (dk_at dksX6_init_9 3 rfl rfl)
theorem dX6_init_216 : decode cX6_init 216 = .ok (.bipush 10, 2) := dk_16 10 (dk_at dksX6_init_9 4 rfl rfl)
theorem dX6_init_218 : decode cX6_init 218 = .ok (.newarray .int, 2) := dk_188_10 (dk_at dksX6_init_9 6 rfl rfl)
theorem dX6_init_220 : decode cX6_init 220 = .ok (.putfield 90, 3) := dk_181 0 90 (dk_at dksX6_init_9 8 rfl rfl)
theorem dX6_init_223 : decode cX6_init 223 = .ok (.aload_n 0, 1) := dk_42 (dk_at dksX6_init_9 11 rfl rfl)
theorem dX6_init_224 : decode cX6_init 224 = .ok (.bipush 10, 2) := dk_16 10 (dk_at dksX6_init_9 12 rfl rfl)
theorem dX6_init_226 : decode cX6_init 226 = .ok (.newarray .int, 2) := dk_188_10 (dk_at dksX6_init_9 14 rfl rfl)
theorem dX6_init_228 : decode cX6_init 228 = .ok (.putfield 93, 3) := dk_181 0 93 (dk_at dksX6_init_9 16 rfl rfl)
theorem dX6_init_231 : decode cX6_init 231 = .ok (.aload_n 0, 1) := dk_42 (dk_at dksX6_init_9 19 rfl rfl)
theorem dX6_init_232 : decode cX6_init 232 = .ok (.bipush 8, 2) := dk_16 8 (dk_at dksX6_init_9 20 rfl rfl)
theorem dX6_init_234 : decode cX6_init 234 = .ok (.newarray .long, 2) := dk_188_11 (dk_at dksX6_init_9 22 rfl rfl)
theorem dX6_init_236 : decode cX6_init 236 = .ok (.putfield 96, 3) := dk_181 0 96 (dk_at dksX6_init_10 0 rfl rfl)
theorem dX6_init_239 : decode cX6_init 239 = .ok (.aload_n 0, 1) := dk_42 (dk_at dksX6_init_10 3 rfl rfl)
theorem dX6_init_240 : decode cX6_init 240 = .ok (.bipush 8, 2) := dk_16 8 (dk_at dksX6_init_10 4 rfl rfl)
theorem dX6_init_242 : decode cX6_init 242 = .ok (.newarray .long, 2) := dk_188_11 (dk_at dksX6_init_10 6 rfl rfl)
theorem dX6_init_244 : decode cX6_init 244 = .ok (.putfield 100, 3) := dk_181 0 100 (dk_at dksX6_init_10 8 rfl rfl)
theorem dX6_init_247 : decode cX6_init 247 = .ok (.aload_n 0, 1) := dk_42 (dk_at dksX6_init_10 11 rfl rfl)
theorem dX6_init_248 : decode cX6_init 248 = .ok (.bipush 8, 2) := dk_16 8 (dk_at dksX6_init_10 12 rfl rfl)
theorem dX6_init_250 : decode cX6_init 250 = .ok (.newarray .boolean, 2) := dk_188_4 (dk_at dksX6_init_10 14 rfl rfl)
theorem dX6_init_252 : decode cX6_init 252 = .ok (.putfield 103, 3) := dk_181 0 103 (dk_at dksX6_init_10 16 rfl rfl)
theorem dX6_init_255 : decode cX6_init 255 = .ok (.aload_n 0, 1) := dk_42 (dk_at dksX6_init_10 19 rfl rfl)
theorem dX6_init_256 : decode cX6_init 256 = .ok (.invokevirtual 106, 3) := dk_182 0 106 (dk_at dksX6_init_10 20 rfl rfl)
theorem dX6_init_259 : decode cX6_init 259 = .ok (.aload_n 0, 1) := dk_42 (dk_at dksX6_init_10 23 rfl rfl)
theorem dX6_init_260 : decode cX6_init 260 = .ok (.invokevirtual 109, 3) := dk_182 0 109 (dk_at dksX6_init_11 0 rfl rfl)
theorem dX6_init_263 : decode cX6_init 263 = .ok (.aload_n 0, 1) := dk_42 (dk_at dksX6_init_11 3 rfl rfl)
theorem dX6_init_264 : decode cX6_init 264 = .ok (.invokevirtual 112, 3) := dk_182 0 112 (dk_at dksX6_init_11 4 rfl rfl)
theorem dX6_init_267 : decode cX6_init 267 = .ok (.return_, 1) := dk_177 (dk_at dksX6_init_11 7 rfl rfl)
abbrev cX6_freshText : ByteArray := prog_18_method_27_code
def yX6_freshText : MethodName := ⟨RX6, "freshText", "()V"⟩
def dkwX6_freshText_3 : List UInt8 := [180, 0, 16, 27, 3, 84, 132, 1, 1, 167, 255, 240, 177]
abbrev dktX6_freshText_3 : List UInt8 := dkwX6_freshText_3 ++ []
def dkwX6_freshText_2 : List UInt8 := [16, 6, 16, 10, 182, 0, 197, 42, 16, 7, 7, 182, 0, 197, 3, 60, 27, 16, 6, 162, 0, 16, 42]
abbrev dktX6_freshText_2 : List UInt8 := dkwX6_freshText_2 ++ dktX6_freshText_3
def dkwX6_freshText_1 : List UInt8 := [182, 0, 197, 42, 6, 16, 26, 182, 0, 197, 42, 7, 5, 182, 0, 197, 42, 8, 16, 50, 182, 0, 197, 42]
abbrev dktX6_freshText_1 : List UInt8 := dkwX6_freshText_1 ++ dktX6_freshText_2
def dkwX6_freshText_0 : List UInt8 := [3, 60, 27, 16, 9, 162, 0, 15, 42, 27, 3, 182, 0, 197, 132, 1, 1, 167, 255, 241, 42, 5, 16, 20]
abbrev dktX6_freshText_0 : List UInt8 := dkwX6_freshText_0 ++ dktX6_freshText_1
theorem dksX6_freshText_0 : cX6_freshText.data.toList.drop 0 = dktX6_freshText_0 := by decide +kernel
theorem dksX6_freshText_1 : cX6_freshText.data.toList.drop 24 = dktX6_freshText_1 := dk_seg dksX6_freshText_0 24 rfl rfl
theorem dksX6_freshText_2 : cX6_freshText.data.toList.drop 48 = dktX6_freshText_2 := dk_seg dksX6_freshText_1 24 rfl rfl
theorem dksX6_freshText_3 : cX6_freshText.data.toList.drop 71 = dktX6_freshText_3 := dk_seg dksX6_freshText_2 23 rfl rfl
theorem dX6_freshText_0 : decode cX6_freshText 0 = .ok (.iconst 0, 1) := dk_3 (dk_at dksX6_freshText_0 0 rfl rfl)
theorem dX6_freshText_1 : decode cX6_freshText 1 = .ok (.istore_n 1, 1) := dk_60 (dk_at dksX6_freshText_0 1 rfl rfl)
theorem dX6_freshText_2 : decode cX6_freshText 2 = .ok (.iload_n 1, 1) := dk_27 (dk_at dksX6_freshText_0 2 rfl rfl)
theorem dX6_freshText_3 : decode cX6_freshText 3 = .ok (.bipush 9, 2) := dk_16 9 (dk_at dksX6_freshText_0 3 rfl rfl)
theorem dX6_freshText_5 : decode cX6_freshText 5 = .ok (.if_icmp .ge 15, 3) := dk_162 0 15 (dk_at dksX6_freshText_0 5 rfl rfl)
theorem dX6_freshText_8 : decode cX6_freshText 8 = .ok (.aload_n 0, 1) := dk_42 (dk_at dksX6_freshText_0 8 rfl rfl)
theorem dX6_freshText_9 : decode cX6_freshText 9 = .ok (.iload_n 1, 1) := dk_27 (dk_at dksX6_freshText_0 9 rfl rfl)
theorem dX6_freshText_10 : decode cX6_freshText 10 = .ok (.iconst 0, 1) := dk_3 (dk_at dksX6_freshText_0 10 rfl rfl)
theorem dX6_freshText_11 : decode cX6_freshText 11 = .ok (.invokevirtual 197, 3) := dk_182 0 197 (dk_at dksX6_freshText_0 11 rfl rfl)
theorem dX6_freshText_14 : decode cX6_freshText 14 = .ok (.iinc 1 1, 3) := dk_132 1 1 (dk_at dksX6_freshText_0 14 rfl rfl)
theorem dX6_freshText_17 : decode cX6_freshText 17 = .ok (.goto (-15), 3) := dk_167 255 241 (dk_at dksX6_freshText_0 17 rfl rfl)
theorem dX6_freshText_20 : decode cX6_freshText 20 = .ok (.aload_n 0, 1) := dk_42 (dk_at dksX6_freshText_0 20 rfl rfl)
theorem dX6_freshText_21 : decode cX6_freshText 21 = .ok (.iconst 2, 1) := dk_5 (dk_at dksX6_freshText_0 21 rfl rfl)
theorem dX6_freshText_22 : decode cX6_freshText 22 = .ok (.bipush 20, 2) := dk_16 20 (dk_at dksX6_freshText_0 22 rfl rfl)
theorem dX6_freshText_24 : decode cX6_freshText 24 = .ok (.invokevirtual 197, 3) := dk_182 0 197 (dk_at dksX6_freshText_1 0 rfl rfl)
theorem dX6_freshText_27 : decode cX6_freshText 27 = .ok (.aload_n 0, 1) := dk_42 (dk_at dksX6_freshText_1 3 rfl rfl)
theorem dX6_freshText_28 : decode cX6_freshText 28 = .ok (.iconst 3, 1) := dk_6 (dk_at dksX6_freshText_1 4 rfl rfl)
theorem dX6_freshText_29 : decode cX6_freshText 29 = .ok (.bipush 26, 2) := dk_16 26 (dk_at dksX6_freshText_1 5 rfl rfl)
theorem dX6_freshText_31 : decode cX6_freshText 31 = .ok (.invokevirtual 197, 3) := dk_182 0 197 (dk_at dksX6_freshText_1 7 rfl rfl)
theorem dX6_freshText_34 : decode cX6_freshText 34 = .ok (.aload_n 0, 1) := dk_42 (dk_at dksX6_freshText_1 10 rfl rfl)
theorem dX6_freshText_35 : decode cX6_freshText 35 = .ok (.iconst 4, 1) := dk_7 (dk_at dksX6_freshText_1 11 rfl rfl)
theorem dX6_freshText_36 : decode cX6_freshText 36 = .ok (.iconst 2, 1) := dk_5 (dk_at dksX6_freshText_1 12 rfl rfl)
theorem dX6_freshText_37 : decode cX6_freshText 37 = .ok (.invokevirtual 197, 3) := dk_182 0 197 (dk_at dksX6_freshText_1 13 rfl rfl)
theorem dX6_freshText_40 : decode cX6_freshText 40 = .ok (.aload_n 0, 1) := dk_42 (dk_at dksX6_freshText_1 16 rfl rfl)
theorem dX6_freshText_41 : decode cX6_freshText 41 = .ok (.iconst 5, 1) := dk_8 (dk_at dksX6_freshText_1 17 rfl rfl)
theorem dX6_freshText_42 : decode cX6_freshText 42 = .ok (.bipush 50, 2) := dk_16 50 (dk_at dksX6_freshText_1 18 rfl rfl)
theorem dX6_freshText_44 : decode cX6_freshText 44 = .ok (.invokevirtual 197, 3) := dk_182 0 197 (dk_at dksX6_freshText_1 20 rfl rfl)
theorem dX6_freshText_47 : decode cX6_freshText 47 = .ok (.aload_n 0, 1) := dk_42 (dk_at dksX6_freshText_1 23 rfl rfl)
theorem dX6_freshText_48 : decode cX6_freshText 48 = .ok (.bipush 6, 2) := dk_16 6 (dk_at dksX6_freshText_2 0 rfl rfl)
theorem dX6_freshText_50 : decode cX6_freshText 50 = .ok (.bipush 10, 2) := dk_16 10 (dk_at dksX6_freshText_2 2 rfl rfl)
theorem dX6_freshText_52 : decode cX6_freshText 52 = .ok (.invokevirtual 197, 3) := dk_182 0 197 (dk_at dksX6_freshText_2 4 rfl rfl)
theorem dX6_freshText_55 : decode cX6_freshText 55 = .ok (.aload_n 0, 1) := dk_42 (dk_at dksX6_freshText_2 7 rfl rfl)
theorem dX6_freshText_56 : decode cX6_freshText 56 = .ok (.bipush 7, 2) := dk_16 7 (dk_at dksX6_freshText_2 8 rfl rfl)
theorem dX6_freshText_58 : decode cX6_freshText 58 = .ok (.iconst 4, 1) := dk_7 (dk_at dksX6_freshText_2 10 rfl rfl)
theorem dX6_freshText_59 : decode cX6_freshText 59 = .ok (.invokevirtual 197, 3) := dk_182 0 197 (dk_at dksX6_freshText_2 11 rfl rfl)
theorem dX6_freshText_62 : decode cX6_freshText 62 = .ok (.iconst 0, 1) := dk_3 (dk_at dksX6_freshText_2 14 rfl rfl)
theorem dX6_freshText_63 : decode cX6_freshText 63 = .ok (.istore_n 1, 1) := dk_60 (dk_at dksX6_freshText_2 15 rfl rfl)
theorem dX6_freshText_64 : decode cX6_freshText 64 = .ok (.iload_n 1, 1) := dk_27 (dk_at dksX6_freshText_2 16 rfl rfl)
theorem dX6_freshText_65 : decode cX6_freshText 65 = .ok (.bipush 6, 2) := dk_16 6 (dk_at dksX6_freshText_2 17 rfl rfl)
theorem dX6_freshText_67 : decode cX6_freshText 67 = .ok (.if_icmp .ge 16, 3) := dk_162 0 16 (dk_at dksX6_freshText_2 19 rfl rfl)
theorem dX6_freshText_70 : decode cX6_freshText 70 = .ok (.aload_n 0, 1) := dk_42 (dk_at dksX6_freshText_2 22 rfl rfl)
theorem dX6_freshText_71 : decode cX6_freshText 71 = .ok (.getfield 16, 3) := dk_180 0 16 (dk_at dksX6_freshText_3 0 rfl rfl)
theorem dX6_freshText_74 : decode cX6_freshText 74 = .ok (.iload_n 1, 1) := dk_27 (dk_at dksX6_freshText_3 3 rfl rfl)
theorem dX6_freshText_75 : decode cX6_freshText 75 = .ok (.iconst 0, 1) := dk_3 (dk_at dksX6_freshText_3 4 rfl rfl)
theorem dX6_freshText_76 : decode cX6_freshText 76 = .ok (.bastore, 1) := dk_84 (dk_at dksX6_freshText_3 5 rfl rfl)
theorem dX6_freshText_77 : decode cX6_freshText 77 = .ok (.iinc 1 1, 3) := dk_132 1 1 (dk_at dksX6_freshText_3 6 rfl rfl)
theorem dX6_freshText_80 : decode cX6_freshText 80 = .ok (.goto (-16), 3) := dk_167 255 240 (dk_at dksX6_freshText_3 9 rfl rfl)
theorem dX6_freshText_83 : decode cX6_freshText 83 = .ok (.return_, 1) := dk_177 (dk_at dksX6_freshText_3 12 rfl rfl)
abbrev cX6_reads : ByteArray := prog_18_method_14_code
def yX6_reads : MethodName := ⟨RX6, "reads", "(II)V"⟩
def dkwX6_reads_0 : List UInt8 := [42, 180, 0, 13, 16, 9, 27, 96, 28, 79, 177]
abbrev dktX6_reads_0 : List UInt8 := dkwX6_reads_0 ++ []
theorem dksX6_reads_0 : cX6_reads.data.toList.drop 0 = dktX6_reads_0 := by decide +kernel
theorem dX6_reads_0 : decode cX6_reads 0 = .ok (.aload_n 0, 1) := dk_42 (dk_at dksX6_reads_0 0 rfl rfl)
theorem dX6_reads_1 : decode cX6_reads 1 = .ok (.getfield 13, 3) := dk_180 0 13 (dk_at dksX6_reads_0 1 rfl rfl)
theorem dX6_reads_4 : decode cX6_reads 4 = .ok (.bipush 9, 2) := dk_16 9 (dk_at dksX6_reads_0 4 rfl rfl)
theorem dX6_reads_6 : decode cX6_reads 6 = .ok (.iload_n 1, 1) := dk_27 (dk_at dksX6_reads_0 6 rfl rfl)
theorem dX6_reads_7 : decode cX6_reads 7 = .ok (.iadd, 1) := dk_96 (dk_at dksX6_reads_0 7 rfl rfl)
theorem dX6_reads_8 : decode cX6_reads 8 = .ok (.iload_n 2, 1) := dk_28 (dk_at dksX6_reads_0 8 rfl rfl)
theorem dX6_reads_9 : decode cX6_reads 9 = .ok (.iastore, 1) := dk_79 (dk_at dksX6_reads_0 9 rfl rfl)
theorem dX6_reads_10 : decode cX6_reads 10 = .ok (.return_, 1) := dk_177 (dk_at dksX6_reads_0 10 rfl rfl)
abbrev cX6_takeText : ByteArray := prog_18_method_29_code
def yX6_takeText : MethodName := ⟨RX6, "takeText", "()V"⟩
def dkwX6_takeText_9 : List UInt8 := [180, 0, 50, 27, 42, 180, 0, 50, 16, 40, 27, 96, 46, 79, 132, 1, 1, 167, 255, 232, 177]
abbrev dktX6_takeText_9 : List UInt8 := dkwX6_takeText_9 ++ []
def dkwX6_takeText_8 : List UInt8 := [180, 0, 47, 16, 8, 27, 96, 46, 79, 132, 1, 1, 167, 255, 187, 3, 60, 27, 16, 40, 162, 0, 24, 42]
abbrev dktX6_takeText_8 : List UInt8 := dkwX6_takeText_8 ++ dktX6_takeText_9
def dkwX6_takeText_7 : List UInt8 := [46, 79, 42, 180, 0, 44, 27, 42, 180, 0, 44, 16, 8, 27, 96, 51, 84, 42, 180, 0, 47, 27, 42]
abbrev dktX6_takeText_7 : List UInt8 := dkwX6_takeText_7 ++ dktX6_takeText_8
def dkwX6_takeText_6 : List UInt8 := [27, 42, 180, 0, 38, 16, 8, 27, 96, 46, 79, 42, 180, 0, 41, 27, 42, 180, 0, 41, 16, 8, 27, 96]
abbrev dktX6_takeText_6 : List UInt8 := dkwX6_takeText_6 ++ dktX6_takeText_7
def dkwX6_takeText_5 : List UInt8 := [16, 10, 27, 96, 46, 79, 132, 1, 1, 167, 255, 157, 3, 60, 27, 16, 8, 162, 0, 69, 42, 180, 0, 38]
abbrev dktX6_takeText_5 : List UInt8 := dkwX6_takeText_5 ++ dktX6_takeText_6
def dkwX6_takeText_4 : List UInt8 := [42, 180, 0, 32, 27, 42, 180, 0, 32, 16, 10, 27, 96, 46, 79, 42, 180, 0, 35, 27, 42, 180, 0, 35]
abbrev dktX6_takeText_4 : List UInt8 := dkwX6_takeText_4 ++ dktX6_takeText_5
def dkwX6_takeText_3 : List UInt8 := [180, 0, 26, 16, 10, 27, 96, 46, 79, 42, 180, 0, 29, 27, 42, 180, 0, 29, 16, 10, 27, 96, 46, 79]
abbrev dktX6_takeText_3 : List UInt8 := dkwX6_takeText_3 ++ dktX6_takeText_4
def dkwX6_takeText_2 : List UInt8 := [46, 79, 42, 180, 0, 23, 27, 42, 180, 0, 23, 16, 10, 27, 96, 46, 79, 42, 180, 0, 26, 27, 42]
abbrev dktX6_takeText_2 : List UInt8 := dkwX6_takeText_2 ++ dktX6_takeText_3
def dkwX6_takeText_1 : List UInt8 := [167, 255, 236, 3, 60, 27, 16, 10, 162, 0, 99, 42, 180, 0, 20, 27, 42, 180, 0, 20, 16, 10, 27, 96]
abbrev dktX6_takeText_1 : List UInt8 := dkwX6_takeText_1 ++ dktX6_takeText_2
def dkwX6_takeText_0 : List UInt8 := [3, 60, 27, 16, 9, 162, 0, 20, 42, 180, 0, 13, 27, 42, 27, 182, 0, 185, 79, 132, 1, 1]
abbrev dktX6_takeText_0 : List UInt8 := dkwX6_takeText_0 ++ dktX6_takeText_1
theorem dksX6_takeText_0 : cX6_takeText.data.toList.drop 0 = dktX6_takeText_0 := by decide +kernel
theorem dksX6_takeText_1 : cX6_takeText.data.toList.drop 22 = dktX6_takeText_1 := dk_seg dksX6_takeText_0 22 rfl rfl
theorem dksX6_takeText_2 : cX6_takeText.data.toList.drop 46 = dktX6_takeText_2 := dk_seg dksX6_takeText_1 24 rfl rfl
theorem dksX6_takeText_3 : cX6_takeText.data.toList.drop 69 = dktX6_takeText_3 := dk_seg dksX6_takeText_2 23 rfl rfl
theorem dksX6_takeText_4 : cX6_takeText.data.toList.drop 93 = dktX6_takeText_4 := dk_seg dksX6_takeText_3 24 rfl rfl
theorem dksX6_takeText_5 : cX6_takeText.data.toList.drop 117 = dktX6_takeText_5 := dk_seg dksX6_takeText_4 24 rfl rfl
theorem dksX6_takeText_6 : cX6_takeText.data.toList.drop 141 = dktX6_takeText_6 := dk_seg dksX6_takeText_5 24 rfl rfl
theorem dksX6_takeText_7 : cX6_takeText.data.toList.drop 165 = dktX6_takeText_7 := dk_seg dksX6_takeText_6 24 rfl rfl
theorem dksX6_takeText_8 : cX6_takeText.data.toList.drop 188 = dktX6_takeText_8 := dk_seg dksX6_takeText_7 23 rfl rfl
theorem dksX6_takeText_9 : cX6_takeText.data.toList.drop 212 = dktX6_takeText_9 := dk_seg dksX6_takeText_8 24 rfl rfl
theorem dX6_takeText_0 : decode cX6_takeText 0 = .ok (.iconst 0, 1) := dk_3 (dk_at dksX6_takeText_0 0 rfl rfl)
theorem dX6_takeText_1 : decode cX6_takeText 1 = .ok (.istore_n 1, 1) := dk_60 (dk_at dksX6_takeText_0 1 rfl rfl)
theorem dX6_takeText_2 : decode cX6_takeText 2 = .ok (.iload_n 1, 1) := dk_27 (dk_at dksX6_takeText_0 2 rfl rfl)
theorem dX6_takeText_3 : decode cX6_takeText 3 = .ok (.bipush 9, 2) := dk_16 9 (dk_at dksX6_takeText_0 3 rfl rfl)
theorem dX6_takeText_5 : decode cX6_takeText 5 = .ok (.if_icmp .ge 20, 3) := dk_162 0 20 (dk_at dksX6_takeText_0 5 rfl rfl)
theorem dX6_takeText_8 : decode cX6_takeText 8 = .ok (.aload_n 0, 1) := dk_42 (dk_at dksX6_takeText_0 8 rfl rfl)
theorem dX6_takeText_9 : decode cX6_takeText 9 = .ok (.getfield 13, 3) := dk_180 0 13 (dk_at dksX6_takeText_0 9 rfl rfl)
theorem dX6_takeText_12 : decode cX6_takeText 12 = .ok (.iload_n 1, 1) := dk_27 (dk_at dksX6_takeText_0 12 rfl rfl)
theorem dX6_takeText_13 : decode cX6_takeText 13 = .ok (.aload_n 0, 1) := dk_42 (dk_at dksX6_takeText_0 13 rfl rfl)
theorem dX6_takeText_14 : decode cX6_takeText 14 = .ok (.iload_n 1, 1) := dk_27 (dk_at dksX6_takeText_0 14 rfl rfl)
theorem dX6_takeText_15 : decode cX6_takeText 15 = .ok (.invokevirtual 185, 3) := dk_182 0 185 (dk_at dksX6_takeText_0 15 rfl rfl)
theorem dX6_takeText_18 : decode cX6_takeText 18 = .ok (.iastore, 1) := dk_79 (dk_at dksX6_takeText_0 18 rfl rfl)
theorem dX6_takeText_19 : decode cX6_takeText 19 = .ok (.iinc 1 1, 3) := dk_132 1 1 (dk_at dksX6_takeText_0 19 rfl rfl)
theorem dX6_takeText_22 : decode cX6_takeText 22 = .ok (.goto (-20), 3) := dk_167 255 236 (dk_at dksX6_takeText_1 0 rfl rfl)
theorem dX6_takeText_25 : decode cX6_takeText 25 = .ok (.iconst 0, 1) := dk_3 (dk_at dksX6_takeText_1 3 rfl rfl)
theorem dX6_takeText_26 : decode cX6_takeText 26 = .ok (.istore_n 1, 1) := dk_60 (dk_at dksX6_takeText_1 4 rfl rfl)
theorem dX6_takeText_27 : decode cX6_takeText 27 = .ok (.iload_n 1, 1) := dk_27 (dk_at dksX6_takeText_1 5 rfl rfl)
theorem dX6_takeText_28 : decode cX6_takeText 28 = .ok (.bipush 10, 2) := dk_16 10 (dk_at dksX6_takeText_1 6 rfl rfl)
theorem dX6_takeText_30 : decode cX6_takeText 30 = .ok (.if_icmp .ge 99, 3) := dk_162 0 99 (dk_at dksX6_takeText_1 8 rfl rfl)
theorem dX6_takeText_33 : decode cX6_takeText 33 = .ok (.aload_n 0, 1) := dk_42 (dk_at dksX6_takeText_1 11 rfl rfl)
theorem dX6_takeText_34 : decode cX6_takeText 34 = .ok (.getfield 20, 3) := dk_180 0 20 (dk_at dksX6_takeText_1 12 rfl rfl)
theorem dX6_takeText_37 : decode cX6_takeText 37 = .ok (.iload_n 1, 1) := dk_27 (dk_at dksX6_takeText_1 15 rfl rfl)
theorem dX6_takeText_38 : decode cX6_takeText 38 = .ok (.aload_n 0, 1) := dk_42 (dk_at dksX6_takeText_1 16 rfl rfl)
theorem dX6_takeText_39 : decode cX6_takeText 39 = .ok (.getfield 20, 3) := dk_180 0 20 (dk_at dksX6_takeText_1 17 rfl rfl)
theorem dX6_takeText_42 : decode cX6_takeText 42 = .ok (.bipush 10, 2) := dk_16 10 (dk_at dksX6_takeText_1 20 rfl rfl)
theorem dX6_takeText_44 : decode cX6_takeText 44 = .ok (.iload_n 1, 1) := dk_27 (dk_at dksX6_takeText_1 22 rfl rfl)
theorem dX6_takeText_45 : decode cX6_takeText 45 = .ok (.iadd, 1) := dk_96 (dk_at dksX6_takeText_1 23 rfl rfl)
theorem dX6_takeText_46 : decode cX6_takeText 46 = .ok (.iaload, 1) := dk_46 (dk_at dksX6_takeText_2 0 rfl rfl)
theorem dX6_takeText_47 : decode cX6_takeText 47 = .ok (.iastore, 1) := dk_79 (dk_at dksX6_takeText_2 1 rfl rfl)
theorem dX6_takeText_48 : decode cX6_takeText 48 = .ok (.aload_n 0, 1) := dk_42 (dk_at dksX6_takeText_2 2 rfl rfl)
theorem dX6_takeText_49 : decode cX6_takeText 49 = .ok (.getfield 23, 3) := dk_180 0 23 (dk_at dksX6_takeText_2 3 rfl rfl)
theorem dX6_takeText_52 : decode cX6_takeText 52 = .ok (.iload_n 1, 1) := dk_27 (dk_at dksX6_takeText_2 6 rfl rfl)
theorem dX6_takeText_53 : decode cX6_takeText 53 = .ok (.aload_n 0, 1) := dk_42 (dk_at dksX6_takeText_2 7 rfl rfl)
theorem dX6_takeText_54 : decode cX6_takeText 54 = .ok (.getfield 23, 3) := dk_180 0 23 (dk_at dksX6_takeText_2 8 rfl rfl)
theorem dX6_takeText_57 : decode cX6_takeText 57 = .ok (.bipush 10, 2) := dk_16 10 (dk_at dksX6_takeText_2 11 rfl rfl)
theorem dX6_takeText_59 : decode cX6_takeText 59 = .ok (.iload_n 1, 1) := dk_27 (dk_at dksX6_takeText_2 13 rfl rfl)
theorem dX6_takeText_60 : decode cX6_takeText 60 = .ok (.iadd, 1) := dk_96 (dk_at dksX6_takeText_2 14 rfl rfl)
theorem dX6_takeText_61 : decode cX6_takeText 61 = .ok (.iaload, 1) := dk_46 (dk_at dksX6_takeText_2 15 rfl rfl)
theorem dX6_takeText_62 : decode cX6_takeText 62 = .ok (.iastore, 1) := dk_79 (dk_at dksX6_takeText_2 16 rfl rfl)
theorem dX6_takeText_63 : decode cX6_takeText 63 = .ok (.aload_n 0, 1) := dk_42 (dk_at dksX6_takeText_2 17 rfl rfl)
theorem dX6_takeText_64 : decode cX6_takeText 64 = .ok (.getfield 26, 3) := dk_180 0 26 (dk_at dksX6_takeText_2 18 rfl rfl)
theorem dX6_takeText_67 : decode cX6_takeText 67 = .ok (.iload_n 1, 1) := dk_27 (dk_at dksX6_takeText_2 21 rfl rfl)
theorem dX6_takeText_68 : decode cX6_takeText 68 = .ok (.aload_n 0, 1) := dk_42 (dk_at dksX6_takeText_2 22 rfl rfl)
theorem dX6_takeText_69 : decode cX6_takeText 69 = .ok (.getfield 26, 3) := dk_180 0 26 (dk_at dksX6_takeText_3 0 rfl rfl)
theorem dX6_takeText_72 : decode cX6_takeText 72 = .ok (.bipush 10, 2) := dk_16 10 (dk_at dksX6_takeText_3 3 rfl rfl)
theorem dX6_takeText_74 : decode cX6_takeText 74 = .ok (.iload_n 1, 1) := dk_27 (dk_at dksX6_takeText_3 5 rfl rfl)
theorem dX6_takeText_75 : decode cX6_takeText 75 = .ok (.iadd, 1) := dk_96 (dk_at dksX6_takeText_3 6 rfl rfl)
theorem dX6_takeText_76 : decode cX6_takeText 76 = .ok (.iaload, 1) := dk_46 (dk_at dksX6_takeText_3 7 rfl rfl)
theorem dX6_takeText_77 : decode cX6_takeText 77 = .ok (.iastore, 1) := dk_79 (dk_at dksX6_takeText_3 8 rfl rfl)
theorem dX6_takeText_78 : decode cX6_takeText 78 = .ok (.aload_n 0, 1) := dk_42 (dk_at dksX6_takeText_3 9 rfl rfl)
theorem dX6_takeText_79 : decode cX6_takeText 79 = .ok (.getfield 29, 3) := dk_180 0 29 (dk_at dksX6_takeText_3 10 rfl rfl)
theorem dX6_takeText_82 : decode cX6_takeText 82 = .ok (.iload_n 1, 1) := dk_27 (dk_at dksX6_takeText_3 13 rfl rfl)
theorem dX6_takeText_83 : decode cX6_takeText 83 = .ok (.aload_n 0, 1) := dk_42 (dk_at dksX6_takeText_3 14 rfl rfl)
theorem dX6_takeText_84 : decode cX6_takeText 84 = .ok (.getfield 29, 3) := dk_180 0 29 (dk_at dksX6_takeText_3 15 rfl rfl)
theorem dX6_takeText_87 : decode cX6_takeText 87 = .ok (.bipush 10, 2) := dk_16 10 (dk_at dksX6_takeText_3 18 rfl rfl)
theorem dX6_takeText_89 : decode cX6_takeText 89 = .ok (.iload_n 1, 1) := dk_27 (dk_at dksX6_takeText_3 20 rfl rfl)
theorem dX6_takeText_90 : decode cX6_takeText 90 = .ok (.iadd, 1) := dk_96 (dk_at dksX6_takeText_3 21 rfl rfl)
theorem dX6_takeText_91 : decode cX6_takeText 91 = .ok (.iaload, 1) := dk_46 (dk_at dksX6_takeText_3 22 rfl rfl)
theorem dX6_takeText_92 : decode cX6_takeText 92 = .ok (.iastore, 1) := dk_79 (dk_at dksX6_takeText_3 23 rfl rfl)
theorem dX6_takeText_93 : decode cX6_takeText 93 = .ok (.aload_n 0, 1) := dk_42 (dk_at dksX6_takeText_4 0 rfl rfl)
theorem dX6_takeText_94 : decode cX6_takeText 94 = .ok (.getfield 32, 3) := dk_180 0 32 (dk_at dksX6_takeText_4 1 rfl rfl)
theorem dX6_takeText_97 : decode cX6_takeText 97 = .ok (.iload_n 1, 1) := dk_27 (dk_at dksX6_takeText_4 4 rfl rfl)
theorem dX6_takeText_98 : decode cX6_takeText 98 = .ok (.aload_n 0, 1) := dk_42 (dk_at dksX6_takeText_4 5 rfl rfl)
theorem dX6_takeText_99 : decode cX6_takeText 99 = .ok (.getfield 32, 3) := dk_180 0 32 (dk_at dksX6_takeText_4 6 rfl rfl)
theorem dX6_takeText_102 : decode cX6_takeText 102 = .ok (.bipush 10, 2) := dk_16 10 (dk_at dksX6_takeText_4 9 rfl rfl)
theorem dX6_takeText_104 : decode cX6_takeText 104 = .ok (.iload_n 1, 1) := dk_27 (dk_at dksX6_takeText_4 11 rfl rfl)
theorem dX6_takeText_105 : decode cX6_takeText 105 = .ok (.iadd, 1) := dk_96 (dk_at dksX6_takeText_4 12 rfl rfl)
theorem dX6_takeText_106 : decode cX6_takeText 106 = .ok (.iaload, 1) := dk_46 (dk_at dksX6_takeText_4 13 rfl rfl)
theorem dX6_takeText_107 : decode cX6_takeText 107 = .ok (.iastore, 1) := dk_79 (dk_at dksX6_takeText_4 14 rfl rfl)
theorem dX6_takeText_108 : decode cX6_takeText 108 = .ok (.aload_n 0, 1) := dk_42 (dk_at dksX6_takeText_4 15 rfl rfl)
theorem dX6_takeText_109 : decode cX6_takeText 109 = .ok (.getfield 35, 3) := dk_180 0 35 (dk_at dksX6_takeText_4 16 rfl rfl)
theorem dX6_takeText_112 : decode cX6_takeText 112 = .ok (.iload_n 1, 1) := dk_27 (dk_at dksX6_takeText_4 19 rfl rfl)
theorem dX6_takeText_113 : decode cX6_takeText 113 = .ok (.aload_n 0, 1) := dk_42 (dk_at dksX6_takeText_4 20 rfl rfl)
theorem dX6_takeText_114 : decode cX6_takeText 114 = .ok (.getfield 35, 3) := dk_180 0 35 (dk_at dksX6_takeText_4 21 rfl rfl)
theorem dX6_takeText_117 : decode cX6_takeText 117 = .ok (.bipush 10, 2) := dk_16 10 (dk_at dksX6_takeText_5 0 rfl rfl)
theorem dX6_takeText_119 : decode cX6_takeText 119 = .ok (.iload_n 1, 1) := dk_27 (dk_at dksX6_takeText_5 2 rfl rfl)
theorem dX6_takeText_120 : decode cX6_takeText 120 = .ok (.iadd, 1) := dk_96 (dk_at dksX6_takeText_5 3 rfl rfl)
theorem dX6_takeText_121 : decode cX6_takeText 121 = .ok (.iaload, 1) := dk_46 (dk_at dksX6_takeText_5 4 rfl rfl)
theorem dX6_takeText_122 : decode cX6_takeText 122 = .ok (.iastore, 1) := dk_79 (dk_at dksX6_takeText_5 5 rfl rfl)
theorem dX6_takeText_123 : decode cX6_takeText 123 = .ok (.iinc 1 1, 3) := dk_132 1 1 (dk_at dksX6_takeText_5 6 rfl rfl)
theorem dX6_takeText_126 : decode cX6_takeText 126 = .ok (.goto (-99), 3) := dk_167 255 157 (dk_at dksX6_takeText_5 9 rfl rfl)
theorem dX6_takeText_129 : decode cX6_takeText 129 = .ok (.iconst 0, 1) := dk_3 (dk_at dksX6_takeText_5 12 rfl rfl)
theorem dX6_takeText_130 : decode cX6_takeText 130 = .ok (.istore_n 1, 1) := dk_60 (dk_at dksX6_takeText_5 13 rfl rfl)
theorem dX6_takeText_131 : decode cX6_takeText 131 = .ok (.iload_n 1, 1) := dk_27 (dk_at dksX6_takeText_5 14 rfl rfl)
theorem dX6_takeText_132 : decode cX6_takeText 132 = .ok (.bipush 8, 2) := dk_16 8 (dk_at dksX6_takeText_5 15 rfl rfl)
theorem dX6_takeText_134 : decode cX6_takeText 134 = .ok (.if_icmp .ge 69, 3) := dk_162 0 69 (dk_at dksX6_takeText_5 17 rfl rfl)
theorem dX6_takeText_137 : decode cX6_takeText 137 = .ok (.aload_n 0, 1) := dk_42 (dk_at dksX6_takeText_5 20 rfl rfl)
theorem dX6_takeText_138 : decode cX6_takeText 138 = .ok (.getfield 38, 3) := dk_180 0 38 (dk_at dksX6_takeText_5 21 rfl rfl)
theorem dX6_takeText_141 : decode cX6_takeText 141 = .ok (.iload_n 1, 1) := dk_27 (dk_at dksX6_takeText_6 0 rfl rfl)
theorem dX6_takeText_142 : decode cX6_takeText 142 = .ok (.aload_n 0, 1) := dk_42 (dk_at dksX6_takeText_6 1 rfl rfl)
theorem dX6_takeText_143 : decode cX6_takeText 143 = .ok (.getfield 38, 3) := dk_180 0 38 (dk_at dksX6_takeText_6 2 rfl rfl)
theorem dX6_takeText_146 : decode cX6_takeText 146 = .ok (.bipush 8, 2) := dk_16 8 (dk_at dksX6_takeText_6 5 rfl rfl)
theorem dX6_takeText_148 : decode cX6_takeText 148 = .ok (.iload_n 1, 1) := dk_27 (dk_at dksX6_takeText_6 7 rfl rfl)
theorem dX6_takeText_149 : decode cX6_takeText 149 = .ok (.iadd, 1) := dk_96 (dk_at dksX6_takeText_6 8 rfl rfl)
theorem dX6_takeText_150 : decode cX6_takeText 150 = .ok (.iaload, 1) := dk_46 (dk_at dksX6_takeText_6 9 rfl rfl)
theorem dX6_takeText_151 : decode cX6_takeText 151 = .ok (.iastore, 1) := dk_79 (dk_at dksX6_takeText_6 10 rfl rfl)
theorem dX6_takeText_152 : decode cX6_takeText 152 = .ok (.aload_n 0, 1) := dk_42 (dk_at dksX6_takeText_6 11 rfl rfl)
theorem dX6_takeText_153 : decode cX6_takeText 153 = .ok (.getfield 41, 3) := dk_180 0 41 (dk_at dksX6_takeText_6 12 rfl rfl)
theorem dX6_takeText_156 : decode cX6_takeText 156 = .ok (.iload_n 1, 1) := dk_27 (dk_at dksX6_takeText_6 15 rfl rfl)
theorem dX6_takeText_157 : decode cX6_takeText 157 = .ok (.aload_n 0, 1) := dk_42 (dk_at dksX6_takeText_6 16 rfl rfl)
theorem dX6_takeText_158 : decode cX6_takeText 158 = .ok (.getfield 41, 3) := dk_180 0 41 (dk_at dksX6_takeText_6 17 rfl rfl)
theorem dX6_takeText_161 : decode cX6_takeText 161 = .ok (.bipush 8, 2) := dk_16 8 (dk_at dksX6_takeText_6 20 rfl rfl)
theorem dX6_takeText_163 : decode cX6_takeText 163 = .ok (.iload_n 1, 1) := dk_27 (dk_at dksX6_takeText_6 22 rfl rfl)
theorem dX6_takeText_164 : decode cX6_takeText 164 = .ok (.iadd, 1) := dk_96 (dk_at dksX6_takeText_6 23 rfl rfl)
theorem dX6_takeText_165 : decode cX6_takeText 165 = .ok (.iaload, 1) := dk_46 (dk_at dksX6_takeText_7 0 rfl rfl)
theorem dX6_takeText_166 : decode cX6_takeText 166 = .ok (.iastore, 1) := dk_79 (dk_at dksX6_takeText_7 1 rfl rfl)
theorem dX6_takeText_167 : decode cX6_takeText 167 = .ok (.aload_n 0, 1) := dk_42 (dk_at dksX6_takeText_7 2 rfl rfl)
theorem dX6_takeText_168 : decode cX6_takeText 168 = .ok (.getfield 44, 3) := dk_180 0 44 (dk_at dksX6_takeText_7 3 rfl rfl)
theorem dX6_takeText_171 : decode cX6_takeText 171 = .ok (.iload_n 1, 1) := dk_27 (dk_at dksX6_takeText_7 6 rfl rfl)
theorem dX6_takeText_172 : decode cX6_takeText 172 = .ok (.aload_n 0, 1) := dk_42 (dk_at dksX6_takeText_7 7 rfl rfl)
theorem dX6_takeText_173 : decode cX6_takeText 173 = .ok (.getfield 44, 3) := dk_180 0 44 (dk_at dksX6_takeText_7 8 rfl rfl)
theorem dX6_takeText_176 : decode cX6_takeText 176 = .ok (.bipush 8, 2) := dk_16 8 (dk_at dksX6_takeText_7 11 rfl rfl)
theorem dX6_takeText_178 : decode cX6_takeText 178 = .ok (.iload_n 1, 1) := dk_27 (dk_at dksX6_takeText_7 13 rfl rfl)
theorem dX6_takeText_179 : decode cX6_takeText 179 = .ok (.iadd, 1) := dk_96 (dk_at dksX6_takeText_7 14 rfl rfl)
theorem dX6_takeText_180 : decode cX6_takeText 180 = .ok (.baload, 1) := dk_51 (dk_at dksX6_takeText_7 15 rfl rfl)
theorem dX6_takeText_181 : decode cX6_takeText 181 = .ok (.bastore, 1) := dk_84 (dk_at dksX6_takeText_7 16 rfl rfl)
theorem dX6_takeText_182 : decode cX6_takeText 182 = .ok (.aload_n 0, 1) := dk_42 (dk_at dksX6_takeText_7 17 rfl rfl)
theorem dX6_takeText_183 : decode cX6_takeText 183 = .ok (.getfield 47, 3) := dk_180 0 47 (dk_at dksX6_takeText_7 18 rfl rfl)
theorem dX6_takeText_186 : decode cX6_takeText 186 = .ok (.iload_n 1, 1) := dk_27 (dk_at dksX6_takeText_7 21 rfl rfl)
theorem dX6_takeText_187 : decode cX6_takeText 187 = .ok (.aload_n 0, 1) := dk_42 (dk_at dksX6_takeText_7 22 rfl rfl)
theorem dX6_takeText_188 : decode cX6_takeText 188 = .ok (.getfield 47, 3) := dk_180 0 47 (dk_at dksX6_takeText_8 0 rfl rfl)
theorem dX6_takeText_191 : decode cX6_takeText 191 = .ok (.bipush 8, 2) := dk_16 8 (dk_at dksX6_takeText_8 3 rfl rfl)
theorem dX6_takeText_193 : decode cX6_takeText 193 = .ok (.iload_n 1, 1) := dk_27 (dk_at dksX6_takeText_8 5 rfl rfl)
theorem dX6_takeText_194 : decode cX6_takeText 194 = .ok (.iadd, 1) := dk_96 (dk_at dksX6_takeText_8 6 rfl rfl)
theorem dX6_takeText_195 : decode cX6_takeText 195 = .ok (.iaload, 1) := dk_46 (dk_at dksX6_takeText_8 7 rfl rfl)
theorem dX6_takeText_196 : decode cX6_takeText 196 = .ok (.iastore, 1) := dk_79 (dk_at dksX6_takeText_8 8 rfl rfl)
theorem dX6_takeText_197 : decode cX6_takeText 197 = .ok (.iinc 1 1, 3) := dk_132 1 1 (dk_at dksX6_takeText_8 9 rfl rfl)
theorem dX6_takeText_200 : decode cX6_takeText 200 = .ok (.goto (-69), 3) := dk_167 255 187 (dk_at dksX6_takeText_8 12 rfl rfl)
theorem dX6_takeText_203 : decode cX6_takeText 203 = .ok (.iconst 0, 1) := dk_3 (dk_at dksX6_takeText_8 15 rfl rfl)
theorem dX6_takeText_204 : decode cX6_takeText 204 = .ok (.istore_n 1, 1) := dk_60 (dk_at dksX6_takeText_8 16 rfl rfl)
theorem dX6_takeText_205 : decode cX6_takeText 205 = .ok (.iload_n 1, 1) := dk_27 (dk_at dksX6_takeText_8 17 rfl rfl)
theorem dX6_takeText_206 : decode cX6_takeText 206 = .ok (.bipush 40, 2) := dk_16 40 (dk_at dksX6_takeText_8 18 rfl rfl)
theorem dX6_takeText_208 : decode cX6_takeText 208 = .ok (.if_icmp .ge 24, 3) := dk_162 0 24 (dk_at dksX6_takeText_8 20 rfl rfl)
theorem dX6_takeText_211 : decode cX6_takeText 211 = .ok (.aload_n 0, 1) := dk_42 (dk_at dksX6_takeText_8 23 rfl rfl)
theorem dX6_takeText_212 : decode cX6_takeText 212 = .ok (.getfield 50, 3) := dk_180 0 50 (dk_at dksX6_takeText_9 0 rfl rfl)
theorem dX6_takeText_215 : decode cX6_takeText 215 = .ok (.iload_n 1, 1) := dk_27 (dk_at dksX6_takeText_9 3 rfl rfl)
theorem dX6_takeText_216 : decode cX6_takeText 216 = .ok (.aload_n 0, 1) := dk_42 (dk_at dksX6_takeText_9 4 rfl rfl)
theorem dX6_takeText_217 : decode cX6_takeText 217 = .ok (.getfield 50, 3) := dk_180 0 50 (dk_at dksX6_takeText_9 5 rfl rfl)
theorem dX6_takeText_220 : decode cX6_takeText 220 = .ok (.bipush 40, 2) := dk_16 40 (dk_at dksX6_takeText_9 8 rfl rfl)
theorem dX6_takeText_222 : decode cX6_takeText 222 = .ok (.iload_n 1, 1) := dk_27 (dk_at dksX6_takeText_9 10 rfl rfl)
theorem dX6_takeText_223 : decode cX6_takeText 223 = .ok (.iadd, 1) := dk_96 (dk_at dksX6_takeText_9 11 rfl rfl)
theorem dX6_takeText_224 : decode cX6_takeText 224 = .ok (.iaload, 1) := dk_46 (dk_at dksX6_takeText_9 12 rfl rfl)
theorem dX6_takeText_225 : decode cX6_takeText 225 = .ok (.iastore, 1) := dk_79 (dk_at dksX6_takeText_9 13 rfl rfl)
theorem dX6_takeText_226 : decode cX6_takeText 226 = .ok (.iinc 1 1, 3) := dk_132 1 1 (dk_at dksX6_takeText_9 14 rfl rfl)
theorem dX6_takeText_229 : decode cX6_takeText 229 = .ok (.goto (-24), 3) := dk_167 255 232 (dk_at dksX6_takeText_9 17 rfl rfl)
theorem dX6_takeText_232 : decode cX6_takeText 232 = .ok (.return_, 1) := dk_177 (dk_at dksX6_takeText_9 20 rfl rfl)
abbrev cX6_reading : ByteArray := prog_18_method_13_code
def yX6_reading : MethodName := ⟨RX6, "reading", "(I)I"⟩
def dkwX6_reading_0 : List UInt8 := [42, 180, 0, 13, 16, 9, 27, 96, 46, 172]
abbrev dktX6_reading_0 : List UInt8 := dkwX6_reading_0 ++ []
theorem dksX6_reading_0 : cX6_reading.data.toList.drop 0 = dktX6_reading_0 := by decide +kernel
theorem dX6_reading_0 : decode cX6_reading 0 = .ok (.aload_n 0, 1) := dk_42 (dk_at dksX6_reading_0 0 rfl rfl)
theorem dX6_reading_1 : decode cX6_reading 1 = .ok (.getfield 13, 3) := dk_180 0 13 (dk_at dksX6_reading_0 1 rfl rfl)
theorem dX6_reading_4 : decode cX6_reading 4 = .ok (.bipush 9, 2) := dk_16 9 (dk_at dksX6_reading_0 4 rfl rfl)
theorem dX6_reading_6 : decode cX6_reading 6 = .ok (.iload_n 1, 1) := dk_27 (dk_at dksX6_reading_0 6 rfl rfl)
theorem dX6_reading_7 : decode cX6_reading 7 = .ok (.iadd, 1) := dk_96 (dk_at dksX6_reading_0 7 rfl rfl)
theorem dX6_reading_8 : decode cX6_reading 8 = .ok (.iaload, 1) := dk_46 (dk_at dksX6_reading_0 8 rfl rfl)
theorem dX6_reading_9 : decode cX6_reading 9 = .ok (.ireturn, 1) := dk_172 (dk_at dksX6_reading_0 9 rfl rfl)
abbrev cX6_begins : ByteArray := prog_18_method_36_code
def yX6_begins : MethodName := ⟨RX6, "begins", "()V"⟩
def dkwX6_begins_6 : List UInt8 := [42, 180, 0, 44, 27, 51, 153, 0, 7, 3, 167, 0, 4, 4, 79, 132, 1, 1, 167, 255, 185, 177]
abbrev dktX6_begins_6 : List UInt8 := dkwX6_begins_6 ++ []
def dkwX6_begins_5 : List UInt8 := [46, 79, 42, 180, 0, 57, 28, 4, 96, 42, 180, 0, 41, 27, 46, 79, 42, 180, 0, 57, 28, 16, 7, 96]
abbrev dktX6_begins_5 : List UInt8 := dkwX6_begins_5 ++ dktX6_begins_6
def dkwX6_begins_4 : List UInt8 := [162, 0, 69, 17, 0, 240, 16, 12, 27, 104, 96, 61, 42, 180, 0, 57, 28, 3, 96, 42, 180, 0, 41, 27]
abbrev dktX6_begins_4 : List UInt8 := dkwX6_begins_4 ++ dktX6_begins_5
def dkwX6_begins_3 : List UInt8 := [27, 104, 5, 96, 42, 180, 0, 35, 27, 46, 79, 132, 1, 1, 167, 255, 194, 3, 60, 27, 42, 182, 0, 251]
abbrev dktX6_begins_3 : List UInt8 := dkwX6_begins_3 ++ dktX6_begins_4
def dkwX6_begins_2 : List UInt8 := [79, 42, 180, 0, 57, 16, 24, 27, 104, 4, 96, 42, 180, 0, 32, 27, 46, 79, 42, 180, 0, 57, 16, 24]
abbrev dktX6_begins_2 : List UInt8 := dkwX6_begins_2 ++ dktX6_begins_3
def dkwX6_begins_1 : List UInt8 := [27, 42, 182, 0, 248, 162, 0, 60, 42, 180, 0, 57, 16, 24, 27, 104, 3, 96, 42, 180, 0, 29, 27, 46]
abbrev dktX6_begins_1 : List UInt8 := dkwX6_begins_1 ++ dktX6_begins_2
def dkwX6_begins_0 : List UInt8 := [3, 60, 27, 17, 1, 81, 162, 0, 16, 42, 180, 0, 57, 27, 3, 79, 132, 1, 1, 167, 255, 239, 3, 60]
abbrev dktX6_begins_0 : List UInt8 := dkwX6_begins_0 ++ dktX6_begins_1
theorem dksX6_begins_0 : cX6_begins.data.toList.drop 0 = dktX6_begins_0 := by decide +kernel
theorem dksX6_begins_1 : cX6_begins.data.toList.drop 24 = dktX6_begins_1 := dk_seg dksX6_begins_0 24 rfl rfl
theorem dksX6_begins_2 : cX6_begins.data.toList.drop 48 = dktX6_begins_2 := dk_seg dksX6_begins_1 24 rfl rfl
theorem dksX6_begins_3 : cX6_begins.data.toList.drop 72 = dktX6_begins_3 := dk_seg dksX6_begins_2 24 rfl rfl
theorem dksX6_begins_4 : cX6_begins.data.toList.drop 96 = dktX6_begins_4 := dk_seg dksX6_begins_3 24 rfl rfl
theorem dksX6_begins_5 : cX6_begins.data.toList.drop 120 = dktX6_begins_5 := dk_seg dksX6_begins_4 24 rfl rfl
theorem dksX6_begins_6 : cX6_begins.data.toList.drop 144 = dktX6_begins_6 := dk_seg dksX6_begins_5 24 rfl rfl
theorem dX6_begins_0 : decode cX6_begins 0 = .ok (.iconst 0, 1) := dk_3 (dk_at dksX6_begins_0 0 rfl rfl)
theorem dX6_begins_1 : decode cX6_begins 1 = .ok (.istore_n 1, 1) := dk_60 (dk_at dksX6_begins_0 1 rfl rfl)
theorem dX6_begins_2 : decode cX6_begins 2 = .ok (.iload_n 1, 1) := dk_27 (dk_at dksX6_begins_0 2 rfl rfl)
theorem dX6_begins_3 : decode cX6_begins 3 = .ok (.sipush 337, 3) := dk_17 1 81 (dk_at dksX6_begins_0 3 rfl rfl)
theorem dX6_begins_6 : decode cX6_begins 6 = .ok (.if_icmp .ge 16, 3) := dk_162 0 16 (dk_at dksX6_begins_0 6 rfl rfl)
theorem dX6_begins_9 : decode cX6_begins 9 = .ok (.aload_n 0, 1) := dk_42 (dk_at dksX6_begins_0 9 rfl rfl)
theorem dX6_begins_10 : decode cX6_begins 10 = .ok (.getfield 57, 3) := dk_180 0 57 (dk_at dksX6_begins_0 10 rfl rfl)
theorem dX6_begins_13 : decode cX6_begins 13 = .ok (.iload_n 1, 1) := dk_27 (dk_at dksX6_begins_0 13 rfl rfl)
theorem dX6_begins_14 : decode cX6_begins 14 = .ok (.iconst 0, 1) := dk_3 (dk_at dksX6_begins_0 14 rfl rfl)
theorem dX6_begins_15 : decode cX6_begins 15 = .ok (.iastore, 1) := dk_79 (dk_at dksX6_begins_0 15 rfl rfl)
theorem dX6_begins_16 : decode cX6_begins 16 = .ok (.iinc 1 1, 3) := dk_132 1 1 (dk_at dksX6_begins_0 16 rfl rfl)
theorem dX6_begins_19 : decode cX6_begins 19 = .ok (.goto (-17), 3) := dk_167 255 239 (dk_at dksX6_begins_0 19 rfl rfl)
theorem dX6_begins_22 : decode cX6_begins 22 = .ok (.iconst 0, 1) := dk_3 (dk_at dksX6_begins_0 22 rfl rfl)
theorem dX6_begins_23 : decode cX6_begins 23 = .ok (.istore_n 1, 1) := dk_60 (dk_at dksX6_begins_0 23 rfl rfl)
theorem dX6_begins_24 : decode cX6_begins 24 = .ok (.iload_n 1, 1) := dk_27 (dk_at dksX6_begins_1 0 rfl rfl)
theorem dX6_begins_25 : decode cX6_begins 25 = .ok (.aload_n 0, 1) := dk_42 (dk_at dksX6_begins_1 1 rfl rfl)
theorem dX6_begins_26 : decode cX6_begins 26 = .ok (.invokevirtual 248, 3) := dk_182 0 248 (dk_at dksX6_begins_1 2 rfl rfl)
theorem dX6_begins_29 : decode cX6_begins 29 = .ok (.if_icmp .ge 60, 3) := dk_162 0 60 (dk_at dksX6_begins_1 5 rfl rfl)
theorem dX6_begins_32 : decode cX6_begins 32 = .ok (.aload_n 0, 1) := dk_42 (dk_at dksX6_begins_1 8 rfl rfl)
theorem dX6_begins_33 : decode cX6_begins 33 = .ok (.getfield 57, 3) := dk_180 0 57 (dk_at dksX6_begins_1 9 rfl rfl)
theorem dX6_begins_36 : decode cX6_begins 36 = .ok (.bipush 24, 2) := dk_16 24 (dk_at dksX6_begins_1 12 rfl rfl)
theorem dX6_begins_38 : decode cX6_begins 38 = .ok (.iload_n 1, 1) := dk_27 (dk_at dksX6_begins_1 14 rfl rfl)
theorem dX6_begins_39 : decode cX6_begins 39 = .ok (.imul, 1) := dk_104 (dk_at dksX6_begins_1 15 rfl rfl)
theorem dX6_begins_40 : decode cX6_begins 40 = .ok (.iconst 0, 1) := dk_3 (dk_at dksX6_begins_1 16 rfl rfl)
theorem dX6_begins_41 : decode cX6_begins 41 = .ok (.iadd, 1) := dk_96 (dk_at dksX6_begins_1 17 rfl rfl)
theorem dX6_begins_42 : decode cX6_begins 42 = .ok (.aload_n 0, 1) := dk_42 (dk_at dksX6_begins_1 18 rfl rfl)
theorem dX6_begins_43 : decode cX6_begins 43 = .ok (.getfield 29, 3) := dk_180 0 29 (dk_at dksX6_begins_1 19 rfl rfl)
theorem dX6_begins_46 : decode cX6_begins 46 = .ok (.iload_n 1, 1) := dk_27 (dk_at dksX6_begins_1 22 rfl rfl)
theorem dX6_begins_47 : decode cX6_begins 47 = .ok (.iaload, 1) := dk_46 (dk_at dksX6_begins_1 23 rfl rfl)
theorem dX6_begins_48 : decode cX6_begins 48 = .ok (.iastore, 1) := dk_79 (dk_at dksX6_begins_2 0 rfl rfl)
theorem dX6_begins_49 : decode cX6_begins 49 = .ok (.aload_n 0, 1) := dk_42 (dk_at dksX6_begins_2 1 rfl rfl)
theorem dX6_begins_50 : decode cX6_begins 50 = .ok (.getfield 57, 3) := dk_180 0 57 (dk_at dksX6_begins_2 2 rfl rfl)
theorem dX6_begins_53 : decode cX6_begins 53 = .ok (.bipush 24, 2) := dk_16 24 (dk_at dksX6_begins_2 5 rfl rfl)
theorem dX6_begins_55 : decode cX6_begins 55 = .ok (.iload_n 1, 1) := dk_27 (dk_at dksX6_begins_2 7 rfl rfl)
theorem dX6_begins_56 : decode cX6_begins 56 = .ok (.imul, 1) := dk_104 (dk_at dksX6_begins_2 8 rfl rfl)
theorem dX6_begins_57 : decode cX6_begins 57 = .ok (.iconst 1, 1) := dk_4 (dk_at dksX6_begins_2 9 rfl rfl)
theorem dX6_begins_58 : decode cX6_begins 58 = .ok (.iadd, 1) := dk_96 (dk_at dksX6_begins_2 10 rfl rfl)
theorem dX6_begins_59 : decode cX6_begins 59 = .ok (.aload_n 0, 1) := dk_42 (dk_at dksX6_begins_2 11 rfl rfl)
theorem dX6_begins_60 : decode cX6_begins 60 = .ok (.getfield 32, 3) := dk_180 0 32 (dk_at dksX6_begins_2 12 rfl rfl)
theorem dX6_begins_63 : decode cX6_begins 63 = .ok (.iload_n 1, 1) := dk_27 (dk_at dksX6_begins_2 15 rfl rfl)
theorem dX6_begins_64 : decode cX6_begins 64 = .ok (.iaload, 1) := dk_46 (dk_at dksX6_begins_2 16 rfl rfl)
theorem dX6_begins_65 : decode cX6_begins 65 = .ok (.iastore, 1) := dk_79 (dk_at dksX6_begins_2 17 rfl rfl)
theorem dX6_begins_66 : decode cX6_begins 66 = .ok (.aload_n 0, 1) := dk_42 (dk_at dksX6_begins_2 18 rfl rfl)
theorem dX6_begins_67 : decode cX6_begins 67 = .ok (.getfield 57, 3) := dk_180 0 57 (dk_at dksX6_begins_2 19 rfl rfl)
theorem dX6_begins_70 : decode cX6_begins 70 = .ok (.bipush 24, 2) := dk_16 24 (dk_at dksX6_begins_2 22 rfl rfl)
theorem dX6_begins_72 : decode cX6_begins 72 = .ok (.iload_n 1, 1) := dk_27 (dk_at dksX6_begins_3 0 rfl rfl)
theorem dX6_begins_73 : decode cX6_begins 73 = .ok (.imul, 1) := dk_104 (dk_at dksX6_begins_3 1 rfl rfl)
theorem dX6_begins_74 : decode cX6_begins 74 = .ok (.iconst 2, 1) := dk_5 (dk_at dksX6_begins_3 2 rfl rfl)
theorem dX6_begins_75 : decode cX6_begins 75 = .ok (.iadd, 1) := dk_96 (dk_at dksX6_begins_3 3 rfl rfl)
theorem dX6_begins_76 : decode cX6_begins 76 = .ok (.aload_n 0, 1) := dk_42 (dk_at dksX6_begins_3 4 rfl rfl)
theorem dX6_begins_77 : decode cX6_begins 77 = .ok (.getfield 35, 3) := dk_180 0 35 (dk_at dksX6_begins_3 5 rfl rfl)
theorem dX6_begins_80 : decode cX6_begins 80 = .ok (.iload_n 1, 1) := dk_27 (dk_at dksX6_begins_3 8 rfl rfl)
theorem dX6_begins_81 : decode cX6_begins 81 = .ok (.iaload, 1) := dk_46 (dk_at dksX6_begins_3 9 rfl rfl)
theorem dX6_begins_82 : decode cX6_begins 82 = .ok (.iastore, 1) := dk_79 (dk_at dksX6_begins_3 10 rfl rfl)
theorem dX6_begins_83 : decode cX6_begins 83 = .ok (.iinc 1 1, 3) := dk_132 1 1 (dk_at dksX6_begins_3 11 rfl rfl)
theorem dX6_begins_86 : decode cX6_begins 86 = .ok (.goto (-62), 3) := dk_167 255 194 (dk_at dksX6_begins_3 14 rfl rfl)
theorem dX6_begins_89 : decode cX6_begins 89 = .ok (.iconst 0, 1) := dk_3 (dk_at dksX6_begins_3 17 rfl rfl)
theorem dX6_begins_90 : decode cX6_begins 90 = .ok (.istore_n 1, 1) := dk_60 (dk_at dksX6_begins_3 18 rfl rfl)
theorem dX6_begins_91 : decode cX6_begins 91 = .ok (.iload_n 1, 1) := dk_27 (dk_at dksX6_begins_3 19 rfl rfl)
theorem dX6_begins_92 : decode cX6_begins 92 = .ok (.aload_n 0, 1) := dk_42 (dk_at dksX6_begins_3 20 rfl rfl)
theorem dX6_begins_93 : decode cX6_begins 93 = .ok (.invokevirtual 251, 3) := dk_182 0 251 (dk_at dksX6_begins_3 21 rfl rfl)
theorem dX6_begins_96 : decode cX6_begins 96 = .ok (.if_icmp .ge 69, 3) := dk_162 0 69 (dk_at dksX6_begins_4 0 rfl rfl)
theorem dX6_begins_99 : decode cX6_begins 99 = .ok (.sipush 240, 3) := dk_17 0 240 (dk_at dksX6_begins_4 3 rfl rfl)
theorem dX6_begins_102 : decode cX6_begins 102 = .ok (.bipush 12, 2) := dk_16 12 (dk_at dksX6_begins_4 6 rfl rfl)
theorem dX6_begins_104 : decode cX6_begins 104 = .ok (.iload_n 1, 1) := dk_27 (dk_at dksX6_begins_4 8 rfl rfl)
theorem dX6_begins_105 : decode cX6_begins 105 = .ok (.imul, 1) := dk_104 (dk_at dksX6_begins_4 9 rfl rfl)
theorem dX6_begins_106 : decode cX6_begins 106 = .ok (.iadd, 1) := dk_96 (dk_at dksX6_begins_4 10 rfl rfl)
theorem dX6_begins_107 : decode cX6_begins 107 = .ok (.istore_n 2, 1) := dk_61 (dk_at dksX6_begins_4 11 rfl rfl)
theorem dX6_begins_108 : decode cX6_begins 108 = .ok (.aload_n 0, 1) := dk_42 (dk_at dksX6_begins_4 12 rfl rfl)
theorem dX6_begins_109 : decode cX6_begins 109 = .ok (.getfield 57, 3) := dk_180 0 57 (dk_at dksX6_begins_4 13 rfl rfl)
theorem dX6_begins_112 : decode cX6_begins 112 = .ok (.iload_n 2, 1) := dk_28 (dk_at dksX6_begins_4 16 rfl rfl)
theorem dX6_begins_113 : decode cX6_begins 113 = .ok (.iconst 0, 1) := dk_3 (dk_at dksX6_begins_4 17 rfl rfl)
theorem dX6_begins_114 : decode cX6_begins 114 = .ok (.iadd, 1) := dk_96 (dk_at dksX6_begins_4 18 rfl rfl)
theorem dX6_begins_115 : decode cX6_begins 115 = .ok (.aload_n 0, 1) := dk_42 (dk_at dksX6_begins_4 19 rfl rfl)
theorem dX6_begins_116 : decode cX6_begins 116 = .ok (.getfield 41, 3) := dk_180 0 41 (dk_at dksX6_begins_4 20 rfl rfl)
theorem dX6_begins_119 : decode cX6_begins 119 = .ok (.iload_n 1, 1) := dk_27 (dk_at dksX6_begins_4 23 rfl rfl)
theorem dX6_begins_120 : decode cX6_begins 120 = .ok (.iaload, 1) := dk_46 (dk_at dksX6_begins_5 0 rfl rfl)
theorem dX6_begins_121 : decode cX6_begins 121 = .ok (.iastore, 1) := dk_79 (dk_at dksX6_begins_5 1 rfl rfl)
theorem dX6_begins_122 : decode cX6_begins 122 = .ok (.aload_n 0, 1) := dk_42 (dk_at dksX6_begins_5 2 rfl rfl)
theorem dX6_begins_123 : decode cX6_begins 123 = .ok (.getfield 57, 3) := dk_180 0 57 (dk_at dksX6_begins_5 3 rfl rfl)
theorem dX6_begins_126 : decode cX6_begins 126 = .ok (.iload_n 2, 1) := dk_28 (dk_at dksX6_begins_5 6 rfl rfl)
theorem dX6_begins_127 : decode cX6_begins 127 = .ok (.iconst 1, 1) := dk_4 (dk_at dksX6_begins_5 7 rfl rfl)
theorem dX6_begins_128 : decode cX6_begins 128 = .ok (.iadd, 1) := dk_96 (dk_at dksX6_begins_5 8 rfl rfl)
theorem dX6_begins_129 : decode cX6_begins 129 = .ok (.aload_n 0, 1) := dk_42 (dk_at dksX6_begins_5 9 rfl rfl)
theorem dX6_begins_130 : decode cX6_begins 130 = .ok (.getfield 41, 3) := dk_180 0 41 (dk_at dksX6_begins_5 10 rfl rfl)
theorem dX6_begins_133 : decode cX6_begins 133 = .ok (.iload_n 1, 1) := dk_27 (dk_at dksX6_begins_5 13 rfl rfl)
theorem dX6_begins_134 : decode cX6_begins 134 = .ok (.iaload, 1) := dk_46 (dk_at dksX6_begins_5 14 rfl rfl)
theorem dX6_begins_135 : decode cX6_begins 135 = .ok (.iastore, 1) := dk_79 (dk_at dksX6_begins_5 15 rfl rfl)
theorem dX6_begins_136 : decode cX6_begins 136 = .ok (.aload_n 0, 1) := dk_42 (dk_at dksX6_begins_5 16 rfl rfl)
theorem dX6_begins_137 : decode cX6_begins 137 = .ok (.getfield 57, 3) := dk_180 0 57 (dk_at dksX6_begins_5 17 rfl rfl)
theorem dX6_begins_140 : decode cX6_begins 140 = .ok (.iload_n 2, 1) := dk_28 (dk_at dksX6_begins_5 20 rfl rfl)
theorem dX6_begins_141 : decode cX6_begins 141 = .ok (.bipush 7, 2) := dk_16 7 (dk_at dksX6_begins_5 21 rfl rfl)
theorem dX6_begins_143 : decode cX6_begins 143 = .ok (.iadd, 1) := dk_96 (dk_at dksX6_begins_5 23 rfl rfl)
theorem dX6_begins_144 : decode cX6_begins 144 = .ok (.aload_n 0, 1) := dk_42 (dk_at dksX6_begins_6 0 rfl rfl)
theorem dX6_begins_145 : decode cX6_begins 145 = .ok (.getfield 44, 3) := dk_180 0 44 (dk_at dksX6_begins_6 1 rfl rfl)
theorem dX6_begins_148 : decode cX6_begins 148 = .ok (.iload_n 1, 1) := dk_27 (dk_at dksX6_begins_6 4 rfl rfl)
theorem dX6_begins_149 : decode cX6_begins 149 = .ok (.baload, 1) := dk_51 (dk_at dksX6_begins_6 5 rfl rfl)
theorem dX6_begins_150 : decode cX6_begins 150 = .ok (.ifCond .eq 7, 3) := dk_153 0 7 (dk_at dksX6_begins_6 6 rfl rfl)
theorem dX6_begins_153 : decode cX6_begins 153 = .ok (.iconst 0, 1) := dk_3 (dk_at dksX6_begins_6 9 rfl rfl)
theorem dX6_begins_154 : decode cX6_begins 154 = .ok (.goto 4, 3) := dk_167 0 4 (dk_at dksX6_begins_6 10 rfl rfl)
theorem dX6_begins_157 : decode cX6_begins 157 = .ok (.iconst 1, 1) := dk_4 (dk_at dksX6_begins_6 13 rfl rfl)
theorem dX6_begins_158 : decode cX6_begins 158 = .ok (.iastore, 1) := dk_79 (dk_at dksX6_begins_6 14 rfl rfl)
theorem dX6_begins_159 : decode cX6_begins 159 = .ok (.iinc 1 1, 3) := dk_132 1 1 (dk_at dksX6_begins_6 15 rfl rfl)
theorem dX6_begins_162 : decode cX6_begins 162 = .ok (.goto (-71), 3) := dk_167 255 185 (dk_at dksX6_begins_6 18 rfl rfl)
theorem dX6_begins_165 : decode cX6_begins 165 = .ok (.return_, 1) := dk_177 (dk_at dksX6_begins_6 21 rfl rfl)
abbrev cX6_links : ByteArray := prog_18_method_32_code
def yX6_links : MethodName := ⟨RX6, "links", "()I"⟩
def dkwX6_links_0 : List UInt8 := [42, 180, 0, 13, 3, 46, 172]
abbrev dktX6_links_0 : List UInt8 := dkwX6_links_0 ++ []
theorem dksX6_links_0 : cX6_links.data.toList.drop 0 = dktX6_links_0 := by decide +kernel
theorem dX6_links_0 : decode cX6_links 0 = .ok (.aload_n 0, 1) := dk_42 (dk_at dksX6_links_0 0 rfl rfl)
theorem dX6_links_1 : decode cX6_links 1 = .ok (.getfield 13, 3) := dk_180 0 13 (dk_at dksX6_links_0 1 rfl rfl)
theorem dX6_links_4 : decode cX6_links 4 = .ok (.iconst 0, 1) := dk_3 (dk_at dksX6_links_0 4 rfl rfl)
theorem dX6_links_5 : decode cX6_links 5 = .ok (.iaload, 1) := dk_46 (dk_at dksX6_links_0 5 rfl rfl)
theorem dX6_links_6 : decode cX6_links 6 = .ok (.ireturn, 1) := dk_172 (dk_at dksX6_links_0 6 rfl rfl)
abbrev cX6_flows : ByteArray := prog_18_method_33_code
def yX6_flows : MethodName := ⟨RX6, "flows", "()I"⟩
def dkwX6_flows_0 : List UInt8 := [42, 180, 0, 13, 4, 46, 172]
abbrev dktX6_flows_0 : List UInt8 := dkwX6_flows_0 ++ []
theorem dksX6_flows_0 : cX6_flows.data.toList.drop 0 = dktX6_flows_0 := by decide +kernel
theorem dX6_flows_0 : decode cX6_flows 0 = .ok (.aload_n 0, 1) := dk_42 (dk_at dksX6_flows_0 0 rfl rfl)
theorem dX6_flows_1 : decode cX6_flows 1 = .ok (.getfield 13, 3) := dk_180 0 13 (dk_at dksX6_flows_0 1 rfl rfl)
theorem dX6_flows_4 : decode cX6_flows 4 = .ok (.iconst 1, 1) := dk_4 (dk_at dksX6_flows_0 4 rfl rfl)
theorem dX6_flows_5 : decode cX6_flows 5 = .ok (.iaload, 1) := dk_46 (dk_at dksX6_flows_0 5 rfl rfl)
theorem dX6_flows_6 : decode cX6_flows 6 = .ok (.ireturn, 1) := dk_172 (dk_at dksX6_flows_0 6 rfl rfl)
abbrev cX6_thrown : ByteArray := prog_18_method_2_code
def yX6_thrown : MethodName := ⟨RX6, "thrown", "()I"⟩
theorem dX6_thrown_0 : decode cX6_thrown 0 = .ok (.aload_n 0, 1) := by decide +kernel
theorem dX6_thrown_1 : decode cX6_thrown 1 = .ok (.getfield 115, 3) := by decide +kernel
theorem dX6_thrown_4 : decode cX6_thrown 4 = .ok (.ireturn, 1) := by decide +kernel
abbrev cX6_feed : ByteArray := prog_18_method_3_code
def yX6_feed : MethodName := ⟨RX6, "feed", "(IIIII)I"⟩
def dkwX6_feed_5 : List UInt8 := [181, 0, 118, 42, 180, 0, 118, 172]
abbrev dktX6_feed_5 : List UInt8 := dkwX6_feed_5 ++ []
def dkwX6_feed_4 : List UInt8 := [112, 104, 100, 122, 17, 0, 255, 126, 79, 132, 6, 1, 167, 255, 169, 42, 89, 180, 0, 118, 16, 20, 96]
abbrev dktX6_feed_4 : List UInt8 := dkwX6_feed_4 ++ dktX6_feed_5
def dkwX6_feed_3 : List UInt8 := [21, 5, 54, 7, 42, 180, 0, 7, 42, 180, 0, 118, 21, 6, 96, 21, 7, 16, 24, 16, 8, 21, 6, 7]
abbrev dktX6_feed_3 : List UInt8 := dkwX6_feed_3 ++ dktX6_feed_4
def dkwX6_feed_2 : List UInt8 := [21, 6, 16, 12, 162, 0, 7, 29, 167, 0, 17, 21, 6, 16, 16, 162, 0, 8, 21, 4, 167, 0, 5]
abbrev dktX6_feed_2 : List UInt8 := dkwX6_feed_2 ++ dktX6_feed_3
def dkwX6_feed_1 : List UInt8 := [162, 0, 86, 21, 6, 7, 162, 0, 7, 27, 167, 0, 39, 21, 6, 16, 8, 162, 0, 7, 28, 167, 0, 28]
abbrev dktX6_feed_1 : List UInt8 := dkwX6_feed_1 ++ dktX6_feed_2
def dkwX6_feed_0 : List UInt8 := [42, 3, 181, 0, 115, 42, 180, 0, 118, 17, 2, 168, 164, 0, 5, 2, 172, 3, 54, 6, 21, 6, 16, 20]
abbrev dktX6_feed_0 : List UInt8 := dkwX6_feed_0 ++ dktX6_feed_1
theorem dksX6_feed_0 : cX6_feed.data.toList.drop 0 = dktX6_feed_0 := by decide +kernel
theorem dksX6_feed_1 : cX6_feed.data.toList.drop 24 = dktX6_feed_1 := dk_seg dksX6_feed_0 24 rfl rfl
theorem dksX6_feed_2 : cX6_feed.data.toList.drop 48 = dktX6_feed_2 := dk_seg dksX6_feed_1 24 rfl rfl
theorem dksX6_feed_3 : cX6_feed.data.toList.drop 71 = dktX6_feed_3 := dk_seg dksX6_feed_2 23 rfl rfl
theorem dksX6_feed_4 : cX6_feed.data.toList.drop 95 = dktX6_feed_4 := dk_seg dksX6_feed_3 24 rfl rfl
theorem dksX6_feed_5 : cX6_feed.data.toList.drop 118 = dktX6_feed_5 := dk_seg dksX6_feed_4 23 rfl rfl
theorem dX6_feed_0 : decode cX6_feed 0 = .ok (.aload_n 0, 1) := dk_42 (dk_at dksX6_feed_0 0 rfl rfl)
theorem dX6_feed_1 : decode cX6_feed 1 = .ok (.iconst 0, 1) := dk_3 (dk_at dksX6_feed_0 1 rfl rfl)
theorem dX6_feed_2 : decode cX6_feed 2 = .ok (.putfield 115, 3) := dk_181 0 115 (dk_at dksX6_feed_0 2 rfl rfl)
theorem dX6_feed_5 : decode cX6_feed 5 = .ok (.aload_n 0, 1) := dk_42 (dk_at dksX6_feed_0 5 rfl rfl)
theorem dX6_feed_6 : decode cX6_feed 6 = .ok (.getfield 118, 3) := dk_180 0 118 (dk_at dksX6_feed_0 6 rfl rfl)
theorem dX6_feed_9 : decode cX6_feed 9 = .ok (.sipush 680, 3) := dk_17 2 168 (dk_at dksX6_feed_0 9 rfl rfl)
theorem dX6_feed_12 : decode cX6_feed 12 = .ok (.if_icmp .le 5, 3) := dk_164 0 5 (dk_at dksX6_feed_0 12 rfl rfl)
theorem dX6_feed_15 : decode cX6_feed 15 = .ok (.iconst (-1), 1) := dk_2 (dk_at dksX6_feed_0 15 rfl rfl)
theorem dX6_feed_16 : decode cX6_feed 16 = .ok (.ireturn, 1) := dk_172 (dk_at dksX6_feed_0 16 rfl rfl)
theorem dX6_feed_17 : decode cX6_feed 17 = .ok (.iconst 0, 1) := dk_3 (dk_at dksX6_feed_0 17 rfl rfl)
theorem dX6_feed_18 : decode cX6_feed 18 = .ok (.istore 6, 2) := dk_54 6 (dk_at dksX6_feed_0 18 rfl rfl)
theorem dX6_feed_20 : decode cX6_feed 20 = .ok (.iload 6, 2) := dk_21 6 (dk_at dksX6_feed_0 20 rfl rfl)
theorem dX6_feed_22 : decode cX6_feed 22 = .ok (.bipush 20, 2) := dk_16 20 (dk_at dksX6_feed_0 22 rfl rfl)
theorem dX6_feed_24 : decode cX6_feed 24 = .ok (.if_icmp .ge 86, 3) := dk_162 0 86 (dk_at dksX6_feed_1 0 rfl rfl)
theorem dX6_feed_27 : decode cX6_feed 27 = .ok (.iload 6, 2) := dk_21 6 (dk_at dksX6_feed_1 3 rfl rfl)
theorem dX6_feed_29 : decode cX6_feed 29 = .ok (.iconst 4, 1) := dk_7 (dk_at dksX6_feed_1 5 rfl rfl)
theorem dX6_feed_30 : decode cX6_feed 30 = .ok (.if_icmp .ge 7, 3) := dk_162 0 7 (dk_at dksX6_feed_1 6 rfl rfl)
theorem dX6_feed_33 : decode cX6_feed 33 = .ok (.iload_n 1, 1) := dk_27 (dk_at dksX6_feed_1 9 rfl rfl)
theorem dX6_feed_34 : decode cX6_feed 34 = .ok (.goto 39, 3) := dk_167 0 39 (dk_at dksX6_feed_1 10 rfl rfl)
theorem dX6_feed_37 : decode cX6_feed 37 = .ok (.iload 6, 2) := dk_21 6 (dk_at dksX6_feed_1 13 rfl rfl)
theorem dX6_feed_39 : decode cX6_feed 39 = .ok (.bipush 8, 2) := dk_16 8 (dk_at dksX6_feed_1 15 rfl rfl)
theorem dX6_feed_41 : decode cX6_feed 41 = .ok (.if_icmp .ge 7, 3) := dk_162 0 7 (dk_at dksX6_feed_1 17 rfl rfl)
theorem dX6_feed_44 : decode cX6_feed 44 = .ok (.iload_n 2, 1) := dk_28 (dk_at dksX6_feed_1 20 rfl rfl)
theorem dX6_feed_45 : decode cX6_feed 45 = .ok (.goto 28, 3) := dk_167 0 28 (dk_at dksX6_feed_1 21 rfl rfl)
theorem dX6_feed_48 : decode cX6_feed 48 = .ok (.iload 6, 2) := dk_21 6 (dk_at dksX6_feed_2 0 rfl rfl)
theorem dX6_feed_50 : decode cX6_feed 50 = .ok (.bipush 12, 2) := dk_16 12 (dk_at dksX6_feed_2 2 rfl rfl)
theorem dX6_feed_52 : decode cX6_feed 52 = .ok (.if_icmp .ge 7, 3) := dk_162 0 7 (dk_at dksX6_feed_2 4 rfl rfl)
theorem dX6_feed_55 : decode cX6_feed 55 = .ok (.iload_n 3, 1) := dk_29 (dk_at dksX6_feed_2 7 rfl rfl)
theorem dX6_feed_56 : decode cX6_feed 56 = .ok (.goto 17, 3) := dk_167 0 17 (dk_at dksX6_feed_2 8 rfl rfl)
theorem dX6_feed_59 : decode cX6_feed 59 = .ok (.iload 6, 2) := dk_21 6 (dk_at dksX6_feed_2 11 rfl rfl)
theorem dX6_feed_61 : decode cX6_feed 61 = .ok (.bipush 16, 2) := dk_16 16 (dk_at dksX6_feed_2 13 rfl rfl)
theorem dX6_feed_63 : decode cX6_feed 63 = .ok (.if_icmp .ge 8, 3) := dk_162 0 8 (dk_at dksX6_feed_2 15 rfl rfl)
theorem dX6_feed_66 : decode cX6_feed 66 = .ok (.iload 4, 2) := dk_21 4 (dk_at dksX6_feed_2 18 rfl rfl)
theorem dX6_feed_68 : decode cX6_feed 68 = .ok (.goto 5, 3) := dk_167 0 5 (dk_at dksX6_feed_2 20 rfl rfl)
theorem dX6_feed_71 : decode cX6_feed 71 = .ok (.iload 5, 2) := dk_21 5 (dk_at dksX6_feed_3 0 rfl rfl)
theorem dX6_feed_73 : decode cX6_feed 73 = .ok (.istore 7, 2) := dk_54 7 (dk_at dksX6_feed_3 2 rfl rfl)
theorem dX6_feed_75 : decode cX6_feed 75 = .ok (.aload_n 0, 1) := dk_42 (dk_at dksX6_feed_3 4 rfl rfl)
theorem dX6_feed_76 : decode cX6_feed 76 = .ok (.getfield 7, 3) := dk_180 0 7 (dk_at dksX6_feed_3 5 rfl rfl)
theorem dX6_feed_79 : decode cX6_feed 79 = .ok (.aload_n 0, 1) := dk_42 (dk_at dksX6_feed_3 8 rfl rfl)
theorem dX6_feed_80 : decode cX6_feed 80 = .ok (.getfield 118, 3) := dk_180 0 118 (dk_at dksX6_feed_3 9 rfl rfl)
theorem dX6_feed_83 : decode cX6_feed 83 = .ok (.iload 6, 2) := dk_21 6 (dk_at dksX6_feed_3 12 rfl rfl)
theorem dX6_feed_85 : decode cX6_feed 85 = .ok (.iadd, 1) := dk_96 (dk_at dksX6_feed_3 14 rfl rfl)
theorem dX6_feed_86 : decode cX6_feed 86 = .ok (.iload 7, 2) := dk_21 7 (dk_at dksX6_feed_3 15 rfl rfl)
theorem dX6_feed_88 : decode cX6_feed 88 = .ok (.bipush 24, 2) := dk_16 24 (dk_at dksX6_feed_3 17 rfl rfl)
theorem dX6_feed_90 : decode cX6_feed 90 = .ok (.bipush 8, 2) := dk_16 8 (dk_at dksX6_feed_3 19 rfl rfl)
theorem dX6_feed_92 : decode cX6_feed 92 = .ok (.iload 6, 2) := dk_21 6 (dk_at dksX6_feed_3 21 rfl rfl)
theorem dX6_feed_94 : decode cX6_feed 94 = .ok (.iconst 4, 1) := dk_7 (dk_at dksX6_feed_3 23 rfl rfl)
theorem dX6_feed_95 : decode cX6_feed 95 = .ok (.irem, 1) := dk_112 (dk_at dksX6_feed_4 0 rfl rfl)
theorem dX6_feed_96 : decode cX6_feed 96 = .ok (.imul, 1) := dk_104 (dk_at dksX6_feed_4 1 rfl rfl)
theorem dX6_feed_97 : decode cX6_feed 97 = .ok (.isub, 1) := dk_100 (dk_at dksX6_feed_4 2 rfl rfl)
theorem dX6_feed_98 : decode cX6_feed 98 = .ok (.ishr, 1) := dk_122 (dk_at dksX6_feed_4 3 rfl rfl)
theorem dX6_feed_99 : decode cX6_feed 99 = .ok (.sipush 255, 3) := dk_17 0 255 (dk_at dksX6_feed_4 4 rfl rfl)
theorem dX6_feed_102 : decode cX6_feed 102 = .ok (.iand, 1) := dk_126 (dk_at dksX6_feed_4 7 rfl rfl)
theorem dX6_feed_103 : decode cX6_feed 103 = .ok (.iastore, 1) := dk_79 (dk_at dksX6_feed_4 8 rfl rfl)
theorem dX6_feed_104 : decode cX6_feed 104 = .ok (.iinc 6 1, 3) := dk_132 6 1 (dk_at dksX6_feed_4 9 rfl rfl)
theorem dX6_feed_107 : decode cX6_feed 107 = .ok (.goto (-87), 3) := dk_167 255 169 (dk_at dksX6_feed_4 12 rfl rfl)
theorem dX6_feed_110 : decode cX6_feed 110 = .ok (.aload_n 0, 1) := dk_42 (dk_at dksX6_feed_4 15 rfl rfl)
theorem dX6_feed_111 : decode cX6_feed 111 = .ok (.dup, 1) := dk_89 (dk_at dksX6_feed_4 16 rfl rfl)
theorem dX6_feed_112 : decode cX6_feed 112 = .ok (.getfield 118, 3) := dk_180 0 118 (dk_at dksX6_feed_4 17 rfl rfl)
theorem dX6_feed_115 : decode cX6_feed 115 = .ok (.bipush 20, 2) := dk_16 20 (dk_at dksX6_feed_4 20 rfl rfl)
theorem dX6_feed_117 : decode cX6_feed 117 = .ok (.iadd, 1) := dk_96 (dk_at dksX6_feed_4 22 rfl rfl)
theorem dX6_feed_118 : decode cX6_feed 118 = .ok (.putfield 118, 3) := dk_181 0 118 (dk_at dksX6_feed_5 0 rfl rfl)
theorem dX6_feed_121 : decode cX6_feed 121 = .ok (.aload_n 0, 1) := dk_42 (dk_at dksX6_feed_5 3 rfl rfl)
theorem dX6_feed_122 : decode cX6_feed 122 = .ok (.getfield 118, 3) := dk_180 0 118 (dk_at dksX6_feed_5 4 rfl rfl)
theorem dX6_feed_125 : decode cX6_feed 125 = .ok (.ireturn, 1) := dk_172 (dk_at dksX6_feed_5 7 rfl rfl)
abbrev cX6_text : ByteArray := prog_18_method_30_code
def yX6_text : MethodName := ⟨RX6, "text", "(I)I"⟩
def dkwX6_text_3 : List UInt8 := [42, 182, 0, 112, 42, 3, 181, 0, 241, 42, 3, 181, 0, 244, 42, 180, 0, 229, 172]
abbrev dktX6_text_3 : List UInt8 := dkwX6_text_3 ++ []
def dkwX6_text_2 : List UInt8 := [2, 167, 0, 7, 42, 180, 0, 168, 181, 0, 53, 42, 180, 0, 165, 153, 0, 5, 2, 172, 42, 182, 0, 109]
abbrev dktX6_text_2 : List UInt8 := dkwX6_text_2 ++ dktX6_text_3
def dkwX6_text_1 : List UInt8 := [182, 0, 235, 42, 3, 181, 0, 118, 42, 42, 180, 0, 165, 181, 0, 238, 42, 42, 180, 0, 165, 154, 0, 7]
abbrev dktX6_text_1 : List UInt8 := dkwX6_text_1 ++ dktX6_text_2
def dkwX6_text_0 : List UInt8 := [42, 3, 181, 0, 115, 27, 155, 0, 11, 27, 42, 180, 0, 118, 164, 0, 6, 16, 254, 172, 42, 27]
abbrev dktX6_text_0 : List UInt8 := dkwX6_text_0 ++ dktX6_text_1
theorem dksX6_text_0 : cX6_text.data.toList.drop 0 = dktX6_text_0 := by decide +kernel
theorem dksX6_text_1 : cX6_text.data.toList.drop 22 = dktX6_text_1 := dk_seg dksX6_text_0 22 rfl rfl
theorem dksX6_text_2 : cX6_text.data.toList.drop 46 = dktX6_text_2 := dk_seg dksX6_text_1 24 rfl rfl
theorem dksX6_text_3 : cX6_text.data.toList.drop 70 = dktX6_text_3 := dk_seg dksX6_text_2 24 rfl rfl
theorem dX6_text_0 : decode cX6_text 0 = .ok (.aload_n 0, 1) := dk_42 (dk_at dksX6_text_0 0 rfl rfl)
theorem dX6_text_1 : decode cX6_text 1 = .ok (.iconst 0, 1) := dk_3 (dk_at dksX6_text_0 1 rfl rfl)
theorem dX6_text_2 : decode cX6_text 2 = .ok (.putfield 115, 3) := dk_181 0 115 (dk_at dksX6_text_0 2 rfl rfl)
theorem dX6_text_5 : decode cX6_text 5 = .ok (.iload_n 1, 1) := dk_27 (dk_at dksX6_text_0 5 rfl rfl)
theorem dX6_text_6 : decode cX6_text 6 = .ok (.ifCond .lt 11, 3) := dk_155 0 11 (dk_at dksX6_text_0 6 rfl rfl)
theorem dX6_text_9 : decode cX6_text 9 = .ok (.iload_n 1, 1) := dk_27 (dk_at dksX6_text_0 9 rfl rfl)
theorem dX6_text_10 : decode cX6_text 10 = .ok (.aload_n 0, 1) := dk_42 (dk_at dksX6_text_0 10 rfl rfl)
theorem dX6_text_11 : decode cX6_text 11 = .ok (.getfield 118, 3) := dk_180 0 118 (dk_at dksX6_text_0 11 rfl rfl)
theorem dX6_text_14 : decode cX6_text 14 = .ok (.if_icmp .le 6, 3) := dk_164 0 6 (dk_at dksX6_text_0 14 rfl rfl)
theorem dX6_text_17 : decode cX6_text 17 = .ok (.bipush (-2), 2) := dk_16 254 (dk_at dksX6_text_0 17 rfl rfl)
theorem dX6_text_19 : decode cX6_text 19 = .ok (.ireturn, 1) := dk_172 (dk_at dksX6_text_0 19 rfl rfl)
theorem dX6_text_20 : decode cX6_text 20 = .ok (.aload_n 0, 1) := dk_42 (dk_at dksX6_text_0 20 rfl rfl)
theorem dX6_text_21 : decode cX6_text 21 = .ok (.iload_n 1, 1) := dk_27 (dk_at dksX6_text_0 21 rfl rfl)
theorem dX6_text_22 : decode cX6_text 22 = .ok (.invokevirtual 235, 3) := dk_182 0 235 (dk_at dksX6_text_1 0 rfl rfl)
theorem dX6_text_25 : decode cX6_text 25 = .ok (.aload_n 0, 1) := dk_42 (dk_at dksX6_text_1 3 rfl rfl)
theorem dX6_text_26 : decode cX6_text 26 = .ok (.iconst 0, 1) := dk_3 (dk_at dksX6_text_1 4 rfl rfl)
theorem dX6_text_27 : decode cX6_text 27 = .ok (.putfield 118, 3) := dk_181 0 118 (dk_at dksX6_text_1 5 rfl rfl)
theorem dX6_text_30 : decode cX6_text 30 = .ok (.aload_n 0, 1) := dk_42 (dk_at dksX6_text_1 8 rfl rfl)
theorem dX6_text_31 : decode cX6_text 31 = .ok (.aload_n 0, 1) := dk_42 (dk_at dksX6_text_1 9 rfl rfl)
theorem dX6_text_32 : decode cX6_text 32 = .ok (.getfield 165, 3) := dk_180 0 165 (dk_at dksX6_text_1 10 rfl rfl)
theorem dX6_text_35 : decode cX6_text 35 = .ok (.putfield 238, 3) := dk_181 0 238 (dk_at dksX6_text_1 13 rfl rfl)
theorem dX6_text_38 : decode cX6_text 38 = .ok (.aload_n 0, 1) := dk_42 (dk_at dksX6_text_1 16 rfl rfl)
theorem dX6_text_39 : decode cX6_text 39 = .ok (.aload_n 0, 1) := dk_42 (dk_at dksX6_text_1 17 rfl rfl)
theorem dX6_text_40 : decode cX6_text 40 = .ok (.getfield 165, 3) := dk_180 0 165 (dk_at dksX6_text_1 18 rfl rfl)
theorem dX6_text_43 : decode cX6_text 43 = .ok (.ifCond .ne 7, 3) := dk_154 0 7 (dk_at dksX6_text_1 21 rfl rfl)
theorem dX6_text_46 : decode cX6_text 46 = .ok (.iconst (-1), 1) := dk_2 (dk_at dksX6_text_2 0 rfl rfl)
theorem dX6_text_47 : decode cX6_text 47 = .ok (.goto 7, 3) := dk_167 0 7 (dk_at dksX6_text_2 1 rfl rfl)
theorem dX6_text_50 : decode cX6_text 50 = .ok (.aload_n 0, 1) := dk_42 (dk_at dksX6_text_2 4 rfl rfl)
theorem dX6_text_51 : decode cX6_text 51 = .ok (.getfield 168, 3) := dk_180 0 168 (dk_at dksX6_text_2 5 rfl rfl)
theorem dX6_text_54 : decode cX6_text 54 = .ok (.putfield 53, 3) := dk_181 0 53 (dk_at dksX6_text_2 8 rfl rfl)
theorem dX6_text_57 : decode cX6_text 57 = .ok (.aload_n 0, 1) := dk_42 (dk_at dksX6_text_2 11 rfl rfl)
theorem dX6_text_58 : decode cX6_text 58 = .ok (.getfield 165, 3) := dk_180 0 165 (dk_at dksX6_text_2 12 rfl rfl)
theorem dX6_text_61 : decode cX6_text 61 = .ok (.ifCond .eq 5, 3) := dk_153 0 5 (dk_at dksX6_text_2 15 rfl rfl)
theorem dX6_text_64 : decode cX6_text 64 = .ok (.iconst (-1), 1) := dk_2 (dk_at dksX6_text_2 18 rfl rfl)
theorem dX6_text_65 : decode cX6_text 65 = .ok (.ireturn, 1) := dk_172 (dk_at dksX6_text_2 19 rfl rfl)
theorem dX6_text_66 : decode cX6_text 66 = .ok (.aload_n 0, 1) := dk_42 (dk_at dksX6_text_2 20 rfl rfl)
theorem dX6_text_67 : decode cX6_text 67 = .ok (.invokevirtual 109, 3) := dk_182 0 109 (dk_at dksX6_text_2 21 rfl rfl)
theorem dX6_text_70 : decode cX6_text 70 = .ok (.aload_n 0, 1) := dk_42 (dk_at dksX6_text_3 0 rfl rfl)
theorem dX6_text_71 : decode cX6_text 71 = .ok (.invokevirtual 112, 3) := dk_182 0 112 (dk_at dksX6_text_3 1 rfl rfl)
theorem dX6_text_74 : decode cX6_text 74 = .ok (.aload_n 0, 1) := dk_42 (dk_at dksX6_text_3 4 rfl rfl)
theorem dX6_text_75 : decode cX6_text 75 = .ok (.iconst 0, 1) := dk_3 (dk_at dksX6_text_3 5 rfl rfl)
theorem dX6_text_76 : decode cX6_text 76 = .ok (.putfield 241, 3) := dk_181 0 241 (dk_at dksX6_text_3 6 rfl rfl)
theorem dX6_text_79 : decode cX6_text 79 = .ok (.aload_n 0, 1) := dk_42 (dk_at dksX6_text_3 9 rfl rfl)
theorem dX6_text_80 : decode cX6_text 80 = .ok (.iconst 0, 1) := dk_3 (dk_at dksX6_text_3 10 rfl rfl)
theorem dX6_text_81 : decode cX6_text 81 = .ok (.putfield 244, 3) := dk_181 0 244 (dk_at dksX6_text_3 11 rfl rfl)
theorem dX6_text_84 : decode cX6_text 84 = .ok (.aload_n 0, 1) := dk_42 (dk_at dksX6_text_3 14 rfl rfl)
theorem dX6_text_85 : decode cX6_text 85 = .ok (.getfield 229, 3) := dk_180 0 229 (dk_at dksX6_text_3 15 rfl rfl)
theorem dX6_text_88 : decode cX6_text 88 = .ok (.ireturn, 1) := dk_172 (dk_at dksX6_text_3 18 rfl rfl)
abbrev cX6_readText : ByteArray := prog_18_method_28_code
def yX6_readText : MethodName := ⟨RX6, "readText", "(I)V"⟩
def dkwX6_readText_2 : List UInt8 := [167, 255, 237, 177]
abbrev dktX6_readText_2 : List UInt8 := dkwX6_readText_2 ++ []
def dkwX6_readText_1 : List UInt8 := [42, 182, 0, 171, 42, 180, 0, 165, 154, 0, 18, 42, 180, 0, 134, 7, 159, 0, 10, 42, 182, 0, 232]
abbrev dktX6_readText_1 : List UInt8 := dkwX6_readText_1 ++ dktX6_readText_2
def dkwX6_readText_0 : List UInt8 := [42, 27, 181, 0, 124, 42, 3, 181, 0, 121, 42, 3, 181, 0, 165, 42, 3, 181, 0, 229, 42, 182, 0, 106]
abbrev dktX6_readText_0 : List UInt8 := dkwX6_readText_0 ++ dktX6_readText_1
theorem dksX6_readText_0 : cX6_readText.data.toList.drop 0 = dktX6_readText_0 := by decide +kernel
theorem dksX6_readText_1 : cX6_readText.data.toList.drop 24 = dktX6_readText_1 := dk_seg dksX6_readText_0 24 rfl rfl
theorem dksX6_readText_2 : cX6_readText.data.toList.drop 47 = dktX6_readText_2 := dk_seg dksX6_readText_1 23 rfl rfl
theorem dX6_readText_0 : decode cX6_readText 0 = .ok (.aload_n 0, 1) := dk_42 (dk_at dksX6_readText_0 0 rfl rfl)
theorem dX6_readText_1 : decode cX6_readText 1 = .ok (.iload_n 1, 1) := dk_27 (dk_at dksX6_readText_0 1 rfl rfl)
theorem dX6_readText_2 : decode cX6_readText 2 = .ok (.putfield 124, 3) := dk_181 0 124 (dk_at dksX6_readText_0 2 rfl rfl)
theorem dX6_readText_5 : decode cX6_readText 5 = .ok (.aload_n 0, 1) := dk_42 (dk_at dksX6_readText_0 5 rfl rfl)
theorem dX6_readText_6 : decode cX6_readText 6 = .ok (.iconst 0, 1) := dk_3 (dk_at dksX6_readText_0 6 rfl rfl)
theorem dX6_readText_7 : decode cX6_readText 7 = .ok (.putfield 121, 3) := dk_181 0 121 (dk_at dksX6_readText_0 7 rfl rfl)
theorem dX6_readText_10 : decode cX6_readText 10 = .ok (.aload_n 0, 1) := dk_42 (dk_at dksX6_readText_0 10 rfl rfl)
theorem dX6_readText_11 : decode cX6_readText 11 = .ok (.iconst 0, 1) := dk_3 (dk_at dksX6_readText_0 11 rfl rfl)
theorem dX6_readText_12 : decode cX6_readText 12 = .ok (.putfield 165, 3) := dk_181 0 165 (dk_at dksX6_readText_0 12 rfl rfl)
theorem dX6_readText_15 : decode cX6_readText 15 = .ok (.aload_n 0, 1) := dk_42 (dk_at dksX6_readText_0 15 rfl rfl)
theorem dX6_readText_16 : decode cX6_readText 16 = .ok (.iconst 0, 1) := dk_3 (dk_at dksX6_readText_0 16 rfl rfl)
theorem dX6_readText_17 : decode cX6_readText 17 = .ok (.putfield 229, 3) := dk_181 0 229 (dk_at dksX6_readText_0 17 rfl rfl)
theorem dX6_readText_20 : decode cX6_readText 20 = .ok (.aload_n 0, 1) := dk_42 (dk_at dksX6_readText_0 20 rfl rfl)
theorem dX6_readText_21 : decode cX6_readText 21 = .ok (.invokevirtual 106, 3) := dk_182 0 106 (dk_at dksX6_readText_0 21 rfl rfl)
theorem dX6_readText_24 : decode cX6_readText 24 = .ok (.aload_n 0, 1) := dk_42 (dk_at dksX6_readText_1 0 rfl rfl)
theorem dX6_readText_25 : decode cX6_readText 25 = .ok (.invokevirtual 171, 3) := dk_182 0 171 (dk_at dksX6_readText_1 1 rfl rfl)
theorem dX6_readText_28 : decode cX6_readText 28 = .ok (.aload_n 0, 1) := dk_42 (dk_at dksX6_readText_1 4 rfl rfl)
theorem dX6_readText_29 : decode cX6_readText 29 = .ok (.getfield 165, 3) := dk_180 0 165 (dk_at dksX6_readText_1 5 rfl rfl)
theorem dX6_readText_32 : decode cX6_readText 32 = .ok (.ifCond .ne 18, 3) := dk_154 0 18 (dk_at dksX6_readText_1 8 rfl rfl)
theorem dX6_readText_35 : decode cX6_readText 35 = .ok (.aload_n 0, 1) := dk_42 (dk_at dksX6_readText_1 11 rfl rfl)
theorem dX6_readText_36 : decode cX6_readText 36 = .ok (.getfield 134, 3) := dk_180 0 134 (dk_at dksX6_readText_1 12 rfl rfl)
theorem dX6_readText_39 : decode cX6_readText 39 = .ok (.iconst 4, 1) := dk_7 (dk_at dksX6_readText_1 15 rfl rfl)
theorem dX6_readText_40 : decode cX6_readText 40 = .ok (.if_icmp .eq 10, 3) := dk_159 0 10 (dk_at dksX6_readText_1 16 rfl rfl)
theorem dX6_readText_43 : decode cX6_readText 43 = .ok (.aload_n 0, 1) := dk_42 (dk_at dksX6_readText_1 19 rfl rfl)
theorem dX6_readText_44 : decode cX6_readText 44 = .ok (.invokevirtual 232, 3) := dk_182 0 232 (dk_at dksX6_readText_1 20 rfl rfl)
theorem dX6_readText_47 : decode cX6_readText 47 = .ok (.goto (-19), 3) := dk_167 255 237 (dk_at dksX6_readText_2 0 rfl rfl)
theorem dX6_readText_50 : decode cX6_readText 50 = .ok (.return_, 1) := dk_177 (dk_at dksX6_readText_2 3 rfl rfl)
abbrev cX6_token : ByteArray := prog_18_method_7_code
def yX6_token : MethodName := ⟨RX6, "token", "()V"⟩
def dkwX6_token_10 : List UInt8 := [181, 0, 134, 42, 89, 180, 0, 121, 4, 96, 181, 0, 121, 177]
abbrev dktX6_token_10 : List UInt8 := dkwX6_token_10 ++ []
def dkwX6_token_9 : List UInt8 := [180, 0, 121, 4, 96, 181, 0, 121, 167, 255, 201, 42, 27, 16, 59, 160, 0, 7, 6, 167, 0, 4, 8]
abbrev dktX6_token_9 : List UInt8 := dkwX6_token_9 ++ dktX6_token_10
def dkwX6_token_8 : List UInt8 := [167, 0, 18, 16, 10, 42, 180, 0, 144, 104, 42, 182, 0, 127, 96, 16, 48, 100, 181, 0, 144, 42, 89]
abbrev dktX6_token_8 : List UInt8 := dkwX6_token_8 ++ dktX6_token_9
def dkwX6_token_7 : List UInt8 := [182, 0, 127, 184, 0, 150, 153, 0, 76, 42, 42, 180, 0, 144, 18, 153, 164, 0, 10, 42, 180, 0, 144]
abbrev dktX6_token_7 : List UInt8 := dkwX6_token_7 ++ dktX6_token_8
def dkwX6_token_6 : List UInt8 := [182, 0, 147, 167, 0, 103, 27, 184, 0, 150, 153, 0, 71, 42, 5, 181, 0, 134, 42, 3, 181, 0, 144, 42]
abbrev dktX6_token_6 : List UInt8 := dkwX6_token_6 ++ dktX6_token_7
def dkwX6_token_5 : List UInt8 := [100, 16, 6, 164, 0, 7, 8, 167, 0, 4, 4, 181, 0, 134, 42, 180, 0, 134, 4, 160, 0, 110, 42]
abbrev dktX6_token_5 : List UInt8 := dkwX6_token_5 ++ dktX6_token_6
def dkwX6_token_4 : List UInt8 := [181, 0, 144, 42, 42, 180, 0, 144, 2, 159, 0, 7, 3, 167, 0, 22, 42, 180, 0, 121, 42, 180, 0, 131]
abbrev dktX6_token_4 : List UInt8 := dkwX6_token_4 ++ dktX6_token_5
def dkwX6_token_3 : List UInt8 := [184, 0, 137, 153, 0, 16, 42, 89, 180, 0, 121, 4, 96, 181, 0, 121, 167, 255, 236, 42, 42, 182, 0, 141]
abbrev dktX6_token_3 : List UInt8 := dkwX6_token_3 ++ dktX6_token_4
def dkwX6_token_2 : List UInt8 := [160, 0, 11, 42, 7, 181, 0, 134, 167, 0, 191, 27, 184, 0, 137, 153, 0, 84, 42, 182, 0, 127]
abbrev dktX6_token_2 : List UInt8 := dkwX6_token_2 ++ dktX6_token_3
def dkwX6_token_1 : List UInt8 := [96, 181, 0, 121, 167, 255, 228, 42, 42, 180, 0, 121, 181, 0, 131, 42, 182, 0, 127, 60, 27, 2]
abbrev dktX6_token_1 : List UInt8 := dkwX6_token_1 ++ dktX6_token_2
def dkwX6_token_0 : List UInt8 := [42, 182, 0, 127, 16, 10, 159, 0, 12, 42, 182, 0, 127, 16, 32, 160, 0, 16, 42, 89, 180, 0, 121, 4]
abbrev dktX6_token_0 : List UInt8 := dkwX6_token_0 ++ dktX6_token_1
theorem dksX6_token_0 : cX6_token.data.toList.drop 0 = dktX6_token_0 := by decide +kernel
theorem dksX6_token_1 : cX6_token.data.toList.drop 24 = dktX6_token_1 := dk_seg dksX6_token_0 24 rfl rfl
theorem dksX6_token_2 : cX6_token.data.toList.drop 46 = dktX6_token_2 := dk_seg dksX6_token_1 22 rfl rfl
theorem dksX6_token_3 : cX6_token.data.toList.drop 68 = dktX6_token_3 := dk_seg dksX6_token_2 22 rfl rfl
theorem dksX6_token_4 : cX6_token.data.toList.drop 92 = dktX6_token_4 := dk_seg dksX6_token_3 24 rfl rfl
theorem dksX6_token_5 : cX6_token.data.toList.drop 116 = dktX6_token_5 := dk_seg dksX6_token_4 24 rfl rfl
theorem dksX6_token_6 : cX6_token.data.toList.drop 139 = dktX6_token_6 := dk_seg dksX6_token_5 23 rfl rfl
theorem dksX6_token_7 : cX6_token.data.toList.drop 163 = dktX6_token_7 := dk_seg dksX6_token_6 24 rfl rfl
theorem dksX6_token_8 : cX6_token.data.toList.drop 186 = dktX6_token_8 := dk_seg dksX6_token_7 23 rfl rfl
theorem dksX6_token_9 : cX6_token.data.toList.drop 209 = dktX6_token_9 := dk_seg dksX6_token_8 23 rfl rfl
theorem dksX6_token_10 : cX6_token.data.toList.drop 232 = dktX6_token_10 := dk_seg dksX6_token_9 23 rfl rfl
theorem dX6_token_0 : decode cX6_token 0 = .ok (.aload_n 0, 1) := dk_42 (dk_at dksX6_token_0 0 rfl rfl)
theorem dX6_token_1 : decode cX6_token 1 = .ok (.invokevirtual 127, 3) := dk_182 0 127 (dk_at dksX6_token_0 1 rfl rfl)
theorem dX6_token_4 : decode cX6_token 4 = .ok (.bipush 10, 2) := dk_16 10 (dk_at dksX6_token_0 4 rfl rfl)
theorem dX6_token_6 : decode cX6_token 6 = .ok (.if_icmp .eq 12, 3) := dk_159 0 12 (dk_at dksX6_token_0 6 rfl rfl)
theorem dX6_token_9 : decode cX6_token 9 = .ok (.aload_n 0, 1) := dk_42 (dk_at dksX6_token_0 9 rfl rfl)
theorem dX6_token_10 : decode cX6_token 10 = .ok (.invokevirtual 127, 3) := dk_182 0 127 (dk_at dksX6_token_0 10 rfl rfl)
theorem dX6_token_13 : decode cX6_token 13 = .ok (.bipush 32, 2) := dk_16 32 (dk_at dksX6_token_0 13 rfl rfl)
theorem dX6_token_15 : decode cX6_token 15 = .ok (.if_icmp .ne 16, 3) := dk_160 0 16 (dk_at dksX6_token_0 15 rfl rfl)
theorem dX6_token_18 : decode cX6_token 18 = .ok (.aload_n 0, 1) := dk_42 (dk_at dksX6_token_0 18 rfl rfl)
theorem dX6_token_19 : decode cX6_token 19 = .ok (.dup, 1) := dk_89 (dk_at dksX6_token_0 19 rfl rfl)
theorem dX6_token_20 : decode cX6_token 20 = .ok (.getfield 121, 3) := dk_180 0 121 (dk_at dksX6_token_0 20 rfl rfl)
theorem dX6_token_23 : decode cX6_token 23 = .ok (.iconst 1, 1) := dk_4 (dk_at dksX6_token_0 23 rfl rfl)
theorem dX6_token_24 : decode cX6_token 24 = .ok (.iadd, 1) := dk_96 (dk_at dksX6_token_1 0 rfl rfl)
theorem dX6_token_25 : decode cX6_token 25 = .ok (.putfield 121, 3) := dk_181 0 121 (dk_at dksX6_token_1 1 rfl rfl)
theorem dX6_token_28 : decode cX6_token 28 = .ok (.goto (-28), 3) := dk_167 255 228 (dk_at dksX6_token_1 4 rfl rfl)
theorem dX6_token_31 : decode cX6_token 31 = .ok (.aload_n 0, 1) := dk_42 (dk_at dksX6_token_1 7 rfl rfl)
theorem dX6_token_32 : decode cX6_token 32 = .ok (.aload_n 0, 1) := dk_42 (dk_at dksX6_token_1 8 rfl rfl)
theorem dX6_token_33 : decode cX6_token 33 = .ok (.getfield 121, 3) := dk_180 0 121 (dk_at dksX6_token_1 9 rfl rfl)
theorem dX6_token_36 : decode cX6_token 36 = .ok (.putfield 131, 3) := dk_181 0 131 (dk_at dksX6_token_1 12 rfl rfl)
theorem dX6_token_39 : decode cX6_token 39 = .ok (.aload_n 0, 1) := dk_42 (dk_at dksX6_token_1 15 rfl rfl)
theorem dX6_token_40 : decode cX6_token 40 = .ok (.invokevirtual 127, 3) := dk_182 0 127 (dk_at dksX6_token_1 16 rfl rfl)
theorem dX6_token_43 : decode cX6_token 43 = .ok (.istore_n 1, 1) := dk_60 (dk_at dksX6_token_1 19 rfl rfl)
theorem dX6_token_44 : decode cX6_token 44 = .ok (.iload_n 1, 1) := dk_27 (dk_at dksX6_token_1 20 rfl rfl)
theorem dX6_token_45 : decode cX6_token 45 = .ok (.iconst (-1), 1) := dk_2 (dk_at dksX6_token_1 21 rfl rfl)
theorem dX6_token_46 : decode cX6_token 46 = .ok (.if_icmp .ne 11, 3) := dk_160 0 11 (dk_at dksX6_token_2 0 rfl rfl)
theorem dX6_token_49 : decode cX6_token 49 = .ok (.aload_n 0, 1) := dk_42 (dk_at dksX6_token_2 3 rfl rfl)
theorem dX6_token_50 : decode cX6_token 50 = .ok (.iconst 4, 1) := dk_7 (dk_at dksX6_token_2 4 rfl rfl)
theorem dX6_token_51 : decode cX6_token 51 = .ok (.putfield 134, 3) := dk_181 0 134 (dk_at dksX6_token_2 5 rfl rfl)
theorem dX6_token_54 : decode cX6_token 54 = .ok (.goto 191, 3) := dk_167 0 191 (dk_at dksX6_token_2 8 rfl rfl)
theorem dX6_token_57 : decode cX6_token 57 = .ok (.iload_n 1, 1) := dk_27 (dk_at dksX6_token_2 11 rfl rfl)
theorem dX6_token_58 : decode cX6_token 58 = .ok (.invokestatic 137, 3) := dk_184 0 137 (dk_at dksX6_token_2 12 rfl rfl)
theorem dX6_token_61 : decode cX6_token 61 = .ok (.ifCond .eq 84, 3) := dk_153 0 84 (dk_at dksX6_token_2 15 rfl rfl)
theorem dX6_token_64 : decode cX6_token 64 = .ok (.aload_n 0, 1) := dk_42 (dk_at dksX6_token_2 18 rfl rfl)
theorem dX6_token_65 : decode cX6_token 65 = .ok (.invokevirtual 127, 3) := dk_182 0 127 (dk_at dksX6_token_2 19 rfl rfl)
theorem dX6_token_68 : decode cX6_token 68 = .ok (.invokestatic 137, 3) := dk_184 0 137 (dk_at dksX6_token_3 0 rfl rfl)
theorem dX6_token_71 : decode cX6_token 71 = .ok (.ifCond .eq 16, 3) := dk_153 0 16 (dk_at dksX6_token_3 3 rfl rfl)
theorem dX6_token_74 : decode cX6_token 74 = .ok (.aload_n 0, 1) := dk_42 (dk_at dksX6_token_3 6 rfl rfl)
theorem dX6_token_75 : decode cX6_token 75 = .ok (.dup, 1) := dk_89 (dk_at dksX6_token_3 7 rfl rfl)
theorem dX6_token_76 : decode cX6_token 76 = .ok (.getfield 121, 3) := dk_180 0 121 (dk_at dksX6_token_3 8 rfl rfl)
theorem dX6_token_79 : decode cX6_token 79 = .ok (.iconst 1, 1) := dk_4 (dk_at dksX6_token_3 11 rfl rfl)
theorem dX6_token_80 : decode cX6_token 80 = .ok (.iadd, 1) := dk_96 (dk_at dksX6_token_3 12 rfl rfl)
theorem dX6_token_81 : decode cX6_token 81 = .ok (.putfield 121, 3) := dk_181 0 121 (dk_at dksX6_token_3 13 rfl rfl)
theorem dX6_token_84 : decode cX6_token 84 = .ok (.goto (-20), 3) := dk_167 255 236 (dk_at dksX6_token_3 16 rfl rfl)
theorem dX6_token_87 : decode cX6_token 87 = .ok (.aload_n 0, 1) := dk_42 (dk_at dksX6_token_3 19 rfl rfl)
theorem dX6_token_88 : decode cX6_token 88 = .ok (.aload_n 0, 1) := dk_42 (dk_at dksX6_token_3 20 rfl rfl)
theorem dX6_token_89 : decode cX6_token 89 = .ok (.invokevirtual 141, 3) := dk_182 0 141 (dk_at dksX6_token_3 21 rfl rfl)
theorem dX6_token_92 : decode cX6_token 92 = .ok (.putfield 144, 3) := dk_181 0 144 (dk_at dksX6_token_4 0 rfl rfl)
theorem dX6_token_95 : decode cX6_token 95 = .ok (.aload_n 0, 1) := dk_42 (dk_at dksX6_token_4 3 rfl rfl)
theorem dX6_token_96 : decode cX6_token 96 = .ok (.aload_n 0, 1) := dk_42 (dk_at dksX6_token_4 4 rfl rfl)
theorem dX6_token_97 : decode cX6_token 97 = .ok (.getfield 144, 3) := dk_180 0 144 (dk_at dksX6_token_4 5 rfl rfl)
theorem dX6_token_100 : decode cX6_token 100 = .ok (.iconst (-1), 1) := dk_2 (dk_at dksX6_token_4 8 rfl rfl)
theorem dX6_token_101 : decode cX6_token 101 = .ok (.if_icmp .eq 7, 3) := dk_159 0 7 (dk_at dksX6_token_4 9 rfl rfl)
theorem dX6_token_104 : decode cX6_token 104 = .ok (.iconst 0, 1) := dk_3 (dk_at dksX6_token_4 12 rfl rfl)
theorem dX6_token_105 : decode cX6_token 105 = .ok (.goto 22, 3) := dk_167 0 22 (dk_at dksX6_token_4 13 rfl rfl)
theorem dX6_token_108 : decode cX6_token 108 = .ok (.aload_n 0, 1) := dk_42 (dk_at dksX6_token_4 16 rfl rfl)
theorem dX6_token_109 : decode cX6_token 109 = .ok (.getfield 121, 3) := dk_180 0 121 (dk_at dksX6_token_4 17 rfl rfl)
theorem dX6_token_112 : decode cX6_token 112 = .ok (.aload_n 0, 1) := dk_42 (dk_at dksX6_token_4 20 rfl rfl)
theorem dX6_token_113 : decode cX6_token 113 = .ok (.getfield 131, 3) := dk_180 0 131 (dk_at dksX6_token_4 21 rfl rfl)
theorem dX6_token_116 : decode cX6_token 116 = .ok (.isub, 1) := dk_100 (dk_at dksX6_token_5 0 rfl rfl)
theorem dX6_token_117 : decode cX6_token 117 = .ok (.bipush 6, 2) := dk_16 6 (dk_at dksX6_token_5 1 rfl rfl)
theorem dX6_token_119 : decode cX6_token 119 = .ok (.if_icmp .le 7, 3) := dk_164 0 7 (dk_at dksX6_token_5 3 rfl rfl)
theorem dX6_token_122 : decode cX6_token 122 = .ok (.iconst 5, 1) := dk_8 (dk_at dksX6_token_5 6 rfl rfl)
theorem dX6_token_123 : decode cX6_token 123 = .ok (.goto 4, 3) := dk_167 0 4 (dk_at dksX6_token_5 7 rfl rfl)
theorem dX6_token_126 : decode cX6_token 126 = .ok (.iconst 1, 1) := dk_4 (dk_at dksX6_token_5 10 rfl rfl)
theorem dX6_token_127 : decode cX6_token 127 = .ok (.putfield 134, 3) := dk_181 0 134 (dk_at dksX6_token_5 11 rfl rfl)
theorem dX6_token_130 : decode cX6_token 130 = .ok (.aload_n 0, 1) := dk_42 (dk_at dksX6_token_5 14 rfl rfl)
theorem dX6_token_131 : decode cX6_token 131 = .ok (.getfield 134, 3) := dk_180 0 134 (dk_at dksX6_token_5 15 rfl rfl)
theorem dX6_token_134 : decode cX6_token 134 = .ok (.iconst 1, 1) := dk_4 (dk_at dksX6_token_5 18 rfl rfl)
theorem dX6_token_135 : decode cX6_token 135 = .ok (.if_icmp .ne 110, 3) := dk_160 0 110 (dk_at dksX6_token_5 19 rfl rfl)
theorem dX6_token_138 : decode cX6_token 138 = .ok (.aload_n 0, 1) := dk_42 (dk_at dksX6_token_5 22 rfl rfl)
theorem dX6_token_139 : decode cX6_token 139 = .ok (.invokevirtual 147, 3) := dk_182 0 147 (dk_at dksX6_token_6 0 rfl rfl)
theorem dX6_token_142 : decode cX6_token 142 = .ok (.goto 103, 3) := dk_167 0 103 (dk_at dksX6_token_6 3 rfl rfl)
theorem dX6_token_145 : decode cX6_token 145 = .ok (.iload_n 1, 1) := dk_27 (dk_at dksX6_token_6 6 rfl rfl)
theorem dX6_token_146 : decode cX6_token 146 = .ok (.invokestatic 150, 3) := dk_184 0 150 (dk_at dksX6_token_6 7 rfl rfl)
theorem dX6_token_149 : decode cX6_token 149 = .ok (.ifCond .eq 71, 3) := dk_153 0 71 (dk_at dksX6_token_6 10 rfl rfl)
theorem dX6_token_152 : decode cX6_token 152 = .ok (.aload_n 0, 1) := dk_42 (dk_at dksX6_token_6 13 rfl rfl)
theorem dX6_token_153 : decode cX6_token 153 = .ok (.iconst 2, 1) := dk_5 (dk_at dksX6_token_6 14 rfl rfl)
theorem dX6_token_154 : decode cX6_token 154 = .ok (.putfield 134, 3) := dk_181 0 134 (dk_at dksX6_token_6 15 rfl rfl)
theorem dX6_token_157 : decode cX6_token 157 = .ok (.aload_n 0, 1) := dk_42 (dk_at dksX6_token_6 18 rfl rfl)
theorem dX6_token_158 : decode cX6_token 158 = .ok (.iconst 0, 1) := dk_3 (dk_at dksX6_token_6 19 rfl rfl)
theorem dX6_token_159 : decode cX6_token 159 = .ok (.putfield 144, 3) := dk_181 0 144 (dk_at dksX6_token_6 20 rfl rfl)
theorem dX6_token_162 : decode cX6_token 162 = .ok (.aload_n 0, 1) := dk_42 (dk_at dksX6_token_6 23 rfl rfl)
theorem dX6_token_163 : decode cX6_token 163 = .ok (.invokevirtual 127, 3) := dk_182 0 127 (dk_at dksX6_token_7 0 rfl rfl)
theorem dX6_token_166 : decode cX6_token 166 = .ok (.invokestatic 150, 3) := dk_184 0 150 (dk_at dksX6_token_7 3 rfl rfl)
theorem dX6_token_169 : decode cX6_token 169 = .ok (.ifCond .eq 76, 3) := dk_153 0 76 (dk_at dksX6_token_7 6 rfl rfl)
theorem dX6_token_172 : decode cX6_token 172 = .ok (.aload_n 0, 1) := dk_42 (dk_at dksX6_token_7 9 rfl rfl)
theorem dX6_token_173 : decode cX6_token 173 = .ok (.aload_n 0, 1) := dk_42 (dk_at dksX6_token_7 10 rfl rfl)
theorem dX6_token_174 : decode cX6_token 174 = .ok (.getfield 144, 3) := dk_180 0 144 (dk_at dksX6_token_7 11 rfl rfl)
theorem dX6_token_177 : decode cX6_token 177 = .ok (.ldc 153, 2) := dk_18 153 (dk_at dksX6_token_7 14 rfl rfl)
theorem dX6_token_179 : decode cX6_token 179 = .ok (.if_icmp .le 10, 3) := dk_164 0 10 (dk_at dksX6_token_7 16 rfl rfl)
theorem dX6_token_182 : decode cX6_token 182 = .ok (.aload_n 0, 1) := dk_42 (dk_at dksX6_token_7 19 rfl rfl)
theorem dX6_token_183 : decode cX6_token 183 = .ok (.getfield 144, 3) := dk_180 0 144 (dk_at dksX6_token_7 20 rfl rfl)
theorem dX6_token_186 : decode cX6_token 186 = .ok (.goto 18, 3) := dk_167 0 18 (dk_at dksX6_token_8 0 rfl rfl)
theorem dX6_token_189 : decode cX6_token 189 = .ok (.bipush 10, 2) := dk_16 10 (dk_at dksX6_token_8 3 rfl rfl)
theorem dX6_token_191 : decode cX6_token 191 = .ok (.aload_n 0, 1) := dk_42 (dk_at dksX6_token_8 5 rfl rfl)
theorem dX6_token_192 : decode cX6_token 192 = .ok (.getfield 144, 3) := dk_180 0 144 (dk_at dksX6_token_8 6 rfl rfl)
theorem dX6_token_195 : decode cX6_token 195 = .ok (.imul, 1) := dk_104 (dk_at dksX6_token_8 9 rfl rfl)
theorem dX6_token_196 : decode cX6_token 196 = .ok (.aload_n 0, 1) := dk_42 (dk_at dksX6_token_8 10 rfl rfl)
theorem dX6_token_197 : decode cX6_token 197 = .ok (.invokevirtual 127, 3) := dk_182 0 127 (dk_at dksX6_token_8 11 rfl rfl)
theorem dX6_token_200 : decode cX6_token 200 = .ok (.iadd, 1) := dk_96 (dk_at dksX6_token_8 14 rfl rfl)
theorem dX6_token_201 : decode cX6_token 201 = .ok (.bipush 48, 2) := dk_16 48 (dk_at dksX6_token_8 15 rfl rfl)
theorem dX6_token_203 : decode cX6_token 203 = .ok (.isub, 1) := dk_100 (dk_at dksX6_token_8 17 rfl rfl)
theorem dX6_token_204 : decode cX6_token 204 = .ok (.putfield 144, 3) := dk_181 0 144 (dk_at dksX6_token_8 18 rfl rfl)
theorem dX6_token_207 : decode cX6_token 207 = .ok (.aload_n 0, 1) := dk_42 (dk_at dksX6_token_8 21 rfl rfl)
theorem dX6_token_208 : decode cX6_token 208 = .ok (.dup, 1) := dk_89 (dk_at dksX6_token_8 22 rfl rfl)
theorem dX6_token_209 : decode cX6_token 209 = .ok (.getfield 121, 3) := dk_180 0 121 (dk_at dksX6_token_9 0 rfl rfl)
theorem dX6_token_212 : decode cX6_token 212 = .ok (.iconst 1, 1) := dk_4 (dk_at dksX6_token_9 3 rfl rfl)
theorem dX6_token_213 : decode cX6_token 213 = .ok (.iadd, 1) := dk_96 (dk_at dksX6_token_9 4 rfl rfl)
theorem dX6_token_214 : decode cX6_token 214 = .ok (.putfield 121, 3) := dk_181 0 121 (dk_at dksX6_token_9 5 rfl rfl)
theorem dX6_token_217 : decode cX6_token 217 = .ok (.goto (-55), 3) := dk_167 255 201 (dk_at dksX6_token_9 8 rfl rfl)
theorem dX6_token_220 : decode cX6_token 220 = .ok (.aload_n 0, 1) := dk_42 (dk_at dksX6_token_9 11 rfl rfl)
theorem dX6_token_221 : decode cX6_token 221 = .ok (.iload_n 1, 1) := dk_27 (dk_at dksX6_token_9 12 rfl rfl)
theorem dX6_token_222 : decode cX6_token 222 = .ok (.bipush 59, 2) := dk_16 59 (dk_at dksX6_token_9 13 rfl rfl)
theorem dX6_token_224 : decode cX6_token 224 = .ok (.if_icmp .ne 7, 3) := dk_160 0 7 (dk_at dksX6_token_9 15 rfl rfl)
theorem dX6_token_227 : decode cX6_token 227 = .ok (.iconst 3, 1) := dk_6 (dk_at dksX6_token_9 18 rfl rfl)
theorem dX6_token_228 : decode cX6_token 228 = .ok (.goto 4, 3) := dk_167 0 4 (dk_at dksX6_token_9 19 rfl rfl)
theorem dX6_token_231 : decode cX6_token 231 = .ok (.iconst 5, 1) := dk_8 (dk_at dksX6_token_9 22 rfl rfl)
theorem dX6_token_232 : decode cX6_token 232 = .ok (.putfield 134, 3) := dk_181 0 134 (dk_at dksX6_token_10 0 rfl rfl)
theorem dX6_token_235 : decode cX6_token 235 = .ok (.aload_n 0, 1) := dk_42 (dk_at dksX6_token_10 3 rfl rfl)
theorem dX6_token_236 : decode cX6_token 236 = .ok (.dup, 1) := dk_89 (dk_at dksX6_token_10 4 rfl rfl)
theorem dX6_token_237 : decode cX6_token 237 = .ok (.getfield 121, 3) := dk_180 0 121 (dk_at dksX6_token_10 5 rfl rfl)
theorem dX6_token_240 : decode cX6_token 240 = .ok (.iconst 1, 1) := dk_4 (dk_at dksX6_token_10 8 rfl rfl)
theorem dX6_token_241 : decode cX6_token 241 = .ok (.iadd, 1) := dk_96 (dk_at dksX6_token_10 9 rfl rfl)
theorem dX6_token_242 : decode cX6_token 242 = .ok (.putfield 121, 3) := dk_181 0 121 (dk_at dksX6_token_10 10 rfl rfl)
theorem dX6_token_245 : decode cX6_token 245 = .ok (.return_, 1) := dk_177 (dk_at dksX6_token_10 13 rfl rfl)
abbrev cX6_here : ByteArray := prog_18_method_4_code
def yX6_here : MethodName := ⟨RX6, "here", "()I"⟩
def dkwX6_here_1 : List UInt8 := [172]
abbrev dktX6_here_1 : List UInt8 := dkwX6_here_1 ++ []
def dkwX6_here_0 : List UInt8 := [42, 180, 0, 121, 42, 180, 0, 124, 162, 0, 15, 42, 180, 0, 7, 42, 180, 0, 121, 46, 167, 0, 4, 2]
abbrev dktX6_here_0 : List UInt8 := dkwX6_here_0 ++ dktX6_here_1
theorem dksX6_here_0 : cX6_here.data.toList.drop 0 = dktX6_here_0 := by decide +kernel
theorem dksX6_here_1 : cX6_here.data.toList.drop 24 = dktX6_here_1 := dk_seg dksX6_here_0 24 rfl rfl
theorem dX6_here_0 : decode cX6_here 0 = .ok (.aload_n 0, 1) := dk_42 (dk_at dksX6_here_0 0 rfl rfl)
theorem dX6_here_1 : decode cX6_here 1 = .ok (.getfield 121, 3) := dk_180 0 121 (dk_at dksX6_here_0 1 rfl rfl)
theorem dX6_here_4 : decode cX6_here 4 = .ok (.aload_n 0, 1) := dk_42 (dk_at dksX6_here_0 4 rfl rfl)
theorem dX6_here_5 : decode cX6_here 5 = .ok (.getfield 124, 3) := dk_180 0 124 (dk_at dksX6_here_0 5 rfl rfl)
theorem dX6_here_8 : decode cX6_here 8 = .ok (.if_icmp .ge 15, 3) := dk_162 0 15 (dk_at dksX6_here_0 8 rfl rfl)
theorem dX6_here_11 : decode cX6_here 11 = .ok (.aload_n 0, 1) := dk_42 (dk_at dksX6_here_0 11 rfl rfl)
theorem dX6_here_12 : decode cX6_here 12 = .ok (.getfield 7, 3) := dk_180 0 7 (dk_at dksX6_here_0 12 rfl rfl)
theorem dX6_here_15 : decode cX6_here 15 = .ok (.aload_n 0, 1) := dk_42 (dk_at dksX6_here_0 15 rfl rfl)
theorem dX6_here_16 : decode cX6_here 16 = .ok (.getfield 121, 3) := dk_180 0 121 (dk_at dksX6_here_0 16 rfl rfl)
theorem dX6_here_19 : decode cX6_here 19 = .ok (.iaload, 1) := dk_46 (dk_at dksX6_here_0 19 rfl rfl)
theorem dX6_here_20 : decode cX6_here 20 = .ok (.goto 4, 3) := dk_167 0 4 (dk_at dksX6_here_0 20 rfl rfl)
theorem dX6_here_23 : decode cX6_here 23 = .ok (.iconst (-1), 1) := dk_2 (dk_at dksX6_here_0 23 rfl rfl)
theorem dX6_here_24 : decode cX6_here 24 = .ok (.ireturn, 1) := dk_172 (dk_at dksX6_here_1 0 rfl rfl)
abbrev cX6_isSmall : ByteArray := prog_18_method_5_code
def yX6_isSmall : MethodName := ⟨RX6, "isSmall", "(I)Z"⟩
def dkwX6_isSmall_0 : List UInt8 := [26, 16, 97, 161, 0, 13, 26, 16, 122, 163, 0, 7, 4, 167, 0, 4, 3, 172]
abbrev dktX6_isSmall_0 : List UInt8 := dkwX6_isSmall_0 ++ []
theorem dksX6_isSmall_0 : cX6_isSmall.data.toList.drop 0 = dktX6_isSmall_0 := by decide +kernel
theorem dX6_isSmall_0 : decode cX6_isSmall 0 = .ok (.iload_n 0, 1) := dk_26 (dk_at dksX6_isSmall_0 0 rfl rfl)
theorem dX6_isSmall_1 : decode cX6_isSmall 1 = .ok (.bipush 97, 2) := dk_16 97 (dk_at dksX6_isSmall_0 1 rfl rfl)
theorem dX6_isSmall_3 : decode cX6_isSmall 3 = .ok (.if_icmp .lt 13, 3) := dk_161 0 13 (dk_at dksX6_isSmall_0 3 rfl rfl)
theorem dX6_isSmall_6 : decode cX6_isSmall 6 = .ok (.iload_n 0, 1) := dk_26 (dk_at dksX6_isSmall_0 6 rfl rfl)
theorem dX6_isSmall_7 : decode cX6_isSmall 7 = .ok (.bipush 122, 2) := dk_16 122 (dk_at dksX6_isSmall_0 7 rfl rfl)
theorem dX6_isSmall_9 : decode cX6_isSmall 9 = .ok (.if_icmp .gt 7, 3) := dk_163 0 7 (dk_at dksX6_isSmall_0 9 rfl rfl)
theorem dX6_isSmall_12 : decode cX6_isSmall 12 = .ok (.iconst 1, 1) := dk_4 (dk_at dksX6_isSmall_0 12 rfl rfl)
theorem dX6_isSmall_13 : decode cX6_isSmall 13 = .ok (.goto 4, 3) := dk_167 0 4 (dk_at dksX6_isSmall_0 13 rfl rfl)
theorem dX6_isSmall_16 : decode cX6_isSmall 16 = .ok (.iconst 0, 1) := dk_3 (dk_at dksX6_isSmall_0 16 rfl rfl)
theorem dX6_isSmall_17 : decode cX6_isSmall 17 = .ok (.ireturn, 1) := dk_172 (dk_at dksX6_isSmall_0 17 rfl rfl)
abbrev cX6_wordHere : ByteArray := prog_18_method_8_code
def yX6_wordHere : MethodName := ⟨RX6, "wordHere", "()I"⟩
def dkwX6_wordHere_5 : List UInt8 := [132, 2, 1, 132, 1, 1, 167, 255, 140, 2, 172]
abbrev dktX6_wordHere_5 : List UInt8 := dkwX6_wordHere_5 ++ []
def dkwX6_wordHere_4 : List UInt8 := [160, 0, 5, 27, 172, 18, 154, 28, 182, 0, 161, 16, 32, 159, 0, 9, 132, 2, 1, 167, 255, 242]
abbrev dktX6_wordHere_4 : List UInt8 := dkwX6_wordHere_4 ++ dktX6_wordHere_5
def dkwX6_wordHere_3 : List UInt8 := [18, 154, 28, 29, 96, 182, 0, 161, 16, 32, 160, 0, 18, 42, 180, 0, 131, 29, 96, 42, 180, 0, 121]
abbrev dktX6_wordHere_3 : List UInt8 := dkwX6_wordHere_3 ++ dktX6_wordHere_4
def dkwX6_wordHere_2 : List UInt8 := [180, 0, 131, 29, 96, 46, 18, 154, 28, 29, 96, 182, 0, 161, 160, 0, 9, 132, 3, 1, 167, 255, 205]
abbrev dktX6_wordHere_2 : List UInt8 := dkwX6_wordHere_2 ++ dktX6_wordHere_3
def dkwX6_wordHere_1 : List UInt8 := [16, 32, 159, 0, 44, 42, 180, 0, 131, 29, 96, 42, 180, 0, 121, 162, 0, 31, 42, 180, 0, 7, 42]
abbrev dktX6_wordHere_1 : List UInt8 := dkwX6_wordHere_1 ++ dktX6_wordHere_2
def dkwX6_wordHere_0 : List UInt8 := [3, 60, 3, 61, 28, 18, 154, 182, 0, 156, 162, 0, 113, 3, 62, 18, 154, 28, 29, 96, 182, 0, 161]
abbrev dktX6_wordHere_0 : List UInt8 := dkwX6_wordHere_0 ++ dktX6_wordHere_1
theorem dksX6_wordHere_0 : cX6_wordHere.data.toList.drop 0 = dktX6_wordHere_0 := by decide +kernel
theorem dksX6_wordHere_1 : cX6_wordHere.data.toList.drop 23 = dktX6_wordHere_1 := dk_seg dksX6_wordHere_0 23 rfl rfl
theorem dksX6_wordHere_2 : cX6_wordHere.data.toList.drop 46 = dktX6_wordHere_2 := dk_seg dksX6_wordHere_1 23 rfl rfl
theorem dksX6_wordHere_3 : cX6_wordHere.data.toList.drop 69 = dktX6_wordHere_3 := dk_seg dksX6_wordHere_2 23 rfl rfl
theorem dksX6_wordHere_4 : cX6_wordHere.data.toList.drop 92 = dktX6_wordHere_4 := dk_seg dksX6_wordHere_3 23 rfl rfl
theorem dksX6_wordHere_5 : cX6_wordHere.data.toList.drop 114 = dktX6_wordHere_5 := dk_seg dksX6_wordHere_4 22 rfl rfl
theorem dX6_wordHere_0 : decode cX6_wordHere 0 = .ok (.iconst 0, 1) := dk_3 (dk_at dksX6_wordHere_0 0 rfl rfl)
theorem dX6_wordHere_1 : decode cX6_wordHere 1 = .ok (.istore_n 1, 1) := dk_60 (dk_at dksX6_wordHere_0 1 rfl rfl)
theorem dX6_wordHere_2 : decode cX6_wordHere 2 = .ok (.iconst 0, 1) := dk_3 (dk_at dksX6_wordHere_0 2 rfl rfl)
theorem dX6_wordHere_3 : decode cX6_wordHere 3 = .ok (.istore_n 2, 1) := dk_61 (dk_at dksX6_wordHere_0 3 rfl rfl)
theorem dX6_wordHere_4 : decode cX6_wordHere 4 = .ok (.iload_n 2, 1) := dk_28 (dk_at dksX6_wordHere_0 4 rfl rfl)
theorem dX6_wordHere_5 : decode cX6_wordHere 5 = .ok (.ldc 154, 2) := dk_18 154 (dk_at dksX6_wordHere_0 5 rfl rfl)
theorem dX6_wordHere_7 : decode cX6_wordHere 7 = .ok (.invokevirtual 156, 3) := dk_182 0 156 (dk_at dksX6_wordHere_0 7 rfl rfl)
theorem dX6_wordHere_10 : decode cX6_wordHere 10 = .ok (.if_icmp .ge 113, 3) := dk_162 0 113 (dk_at dksX6_wordHere_0 10 rfl rfl)
theorem dX6_wordHere_13 : decode cX6_wordHere 13 = .ok (.iconst 0, 1) := dk_3 (dk_at dksX6_wordHere_0 13 rfl rfl)
theorem dX6_wordHere_14 : decode cX6_wordHere 14 = .ok (.istore_n 3, 1) := dk_62 (dk_at dksX6_wordHere_0 14 rfl rfl)
theorem dX6_wordHere_15 : decode cX6_wordHere 15 = .ok (.ldc 154, 2) := dk_18 154 (dk_at dksX6_wordHere_0 15 rfl rfl)
theorem dX6_wordHere_17 : decode cX6_wordHere 17 = .ok (.iload_n 2, 1) := dk_28 (dk_at dksX6_wordHere_0 17 rfl rfl)
theorem dX6_wordHere_18 : decode cX6_wordHere 18 = .ok (.iload_n 3, 1) := dk_29 (dk_at dksX6_wordHere_0 18 rfl rfl)
theorem dX6_wordHere_19 : decode cX6_wordHere 19 = .ok (.iadd, 1) := dk_96 (dk_at dksX6_wordHere_0 19 rfl rfl)
theorem dX6_wordHere_20 : decode cX6_wordHere 20 = .ok (.invokevirtual 161, 3) := dk_182 0 161 (dk_at dksX6_wordHere_0 20 rfl rfl)
theorem dX6_wordHere_23 : decode cX6_wordHere 23 = .ok (.bipush 32, 2) := dk_16 32 (dk_at dksX6_wordHere_1 0 rfl rfl)
theorem dX6_wordHere_25 : decode cX6_wordHere 25 = .ok (.if_icmp .eq 44, 3) := dk_159 0 44 (dk_at dksX6_wordHere_1 2 rfl rfl)
theorem dX6_wordHere_28 : decode cX6_wordHere 28 = .ok (.aload_n 0, 1) := dk_42 (dk_at dksX6_wordHere_1 5 rfl rfl)
theorem dX6_wordHere_29 : decode cX6_wordHere 29 = .ok (.getfield 131, 3) := dk_180 0 131 (dk_at dksX6_wordHere_1 6 rfl rfl)
theorem dX6_wordHere_32 : decode cX6_wordHere 32 = .ok (.iload_n 3, 1) := dk_29 (dk_at dksX6_wordHere_1 9 rfl rfl)
theorem dX6_wordHere_33 : decode cX6_wordHere 33 = .ok (.iadd, 1) := dk_96 (dk_at dksX6_wordHere_1 10 rfl rfl)
theorem dX6_wordHere_34 : decode cX6_wordHere 34 = .ok (.aload_n 0, 1) := dk_42 (dk_at dksX6_wordHere_1 11 rfl rfl)
theorem dX6_wordHere_35 : decode cX6_wordHere 35 = .ok (.getfield 121, 3) := dk_180 0 121 (dk_at dksX6_wordHere_1 12 rfl rfl)
theorem dX6_wordHere_38 : decode cX6_wordHere 38 = .ok (.if_icmp .ge 31, 3) := dk_162 0 31 (dk_at dksX6_wordHere_1 15 rfl rfl)
theorem dX6_wordHere_41 : decode cX6_wordHere 41 = .ok (.aload_n 0, 1) := dk_42 (dk_at dksX6_wordHere_1 18 rfl rfl)
theorem dX6_wordHere_42 : decode cX6_wordHere 42 = .ok (.getfield 7, 3) := dk_180 0 7 (dk_at dksX6_wordHere_1 19 rfl rfl)
theorem dX6_wordHere_45 : decode cX6_wordHere 45 = .ok (.aload_n 0, 1) := dk_42 (dk_at dksX6_wordHere_1 22 rfl rfl)
theorem dX6_wordHere_46 : decode cX6_wordHere 46 = .ok (.getfield 131, 3) := dk_180 0 131 (dk_at dksX6_wordHere_2 0 rfl rfl)
theorem dX6_wordHere_49 : decode cX6_wordHere 49 = .ok (.iload_n 3, 1) := dk_29 (dk_at dksX6_wordHere_2 3 rfl rfl)
theorem dX6_wordHere_50 : decode cX6_wordHere 50 = .ok (.iadd, 1) := dk_96 (dk_at dksX6_wordHere_2 4 rfl rfl)
theorem dX6_wordHere_51 : decode cX6_wordHere 51 = .ok (.iaload, 1) := dk_46 (dk_at dksX6_wordHere_2 5 rfl rfl)
theorem dX6_wordHere_52 : decode cX6_wordHere 52 = .ok (.ldc 154, 2) := dk_18 154 (dk_at dksX6_wordHere_2 6 rfl rfl)
theorem dX6_wordHere_54 : decode cX6_wordHere 54 = .ok (.iload_n 2, 1) := dk_28 (dk_at dksX6_wordHere_2 8 rfl rfl)
theorem dX6_wordHere_55 : decode cX6_wordHere 55 = .ok (.iload_n 3, 1) := dk_29 (dk_at dksX6_wordHere_2 9 rfl rfl)
theorem dX6_wordHere_56 : decode cX6_wordHere 56 = .ok (.iadd, 1) := dk_96 (dk_at dksX6_wordHere_2 10 rfl rfl)
theorem dX6_wordHere_57 : decode cX6_wordHere 57 = .ok (.invokevirtual 161, 3) := dk_182 0 161 (dk_at dksX6_wordHere_2 11 rfl rfl)
theorem dX6_wordHere_60 : decode cX6_wordHere 60 = .ok (.if_icmp .ne 9, 3) := dk_160 0 9 (dk_at dksX6_wordHere_2 14 rfl rfl)
theorem dX6_wordHere_63 : decode cX6_wordHere 63 = .ok (.iinc 3 1, 3) := dk_132 3 1 (dk_at dksX6_wordHere_2 17 rfl rfl)
theorem dX6_wordHere_66 : decode cX6_wordHere 66 = .ok (.goto (-51), 3) := dk_167 255 205 (dk_at dksX6_wordHere_2 20 rfl rfl)
theorem dX6_wordHere_69 : decode cX6_wordHere 69 = .ok (.ldc 154, 2) := dk_18 154 (dk_at dksX6_wordHere_3 0 rfl rfl)
theorem dX6_wordHere_71 : decode cX6_wordHere 71 = .ok (.iload_n 2, 1) := dk_28 (dk_at dksX6_wordHere_3 2 rfl rfl)
theorem dX6_wordHere_72 : decode cX6_wordHere 72 = .ok (.iload_n 3, 1) := dk_29 (dk_at dksX6_wordHere_3 3 rfl rfl)
theorem dX6_wordHere_73 : decode cX6_wordHere 73 = .ok (.iadd, 1) := dk_96 (dk_at dksX6_wordHere_3 4 rfl rfl)
theorem dX6_wordHere_74 : decode cX6_wordHere 74 = .ok (.invokevirtual 161, 3) := dk_182 0 161 (dk_at dksX6_wordHere_3 5 rfl rfl)
theorem dX6_wordHere_77 : decode cX6_wordHere 77 = .ok (.bipush 32, 2) := dk_16 32 (dk_at dksX6_wordHere_3 8 rfl rfl)
theorem dX6_wordHere_79 : decode cX6_wordHere 79 = .ok (.if_icmp .ne 18, 3) := dk_160 0 18 (dk_at dksX6_wordHere_3 10 rfl rfl)
theorem dX6_wordHere_82 : decode cX6_wordHere 82 = .ok (.aload_n 0, 1) := dk_42 (dk_at dksX6_wordHere_3 13 rfl rfl)
theorem dX6_wordHere_83 : decode cX6_wordHere 83 = .ok (.getfield 131, 3) := dk_180 0 131 (dk_at dksX6_wordHere_3 14 rfl rfl)
theorem dX6_wordHere_86 : decode cX6_wordHere 86 = .ok (.iload_n 3, 1) := dk_29 (dk_at dksX6_wordHere_3 17 rfl rfl)
theorem dX6_wordHere_87 : decode cX6_wordHere 87 = .ok (.iadd, 1) := dk_96 (dk_at dksX6_wordHere_3 18 rfl rfl)
theorem dX6_wordHere_88 : decode cX6_wordHere 88 = .ok (.aload_n 0, 1) := dk_42 (dk_at dksX6_wordHere_3 19 rfl rfl)
theorem dX6_wordHere_89 : decode cX6_wordHere 89 = .ok (.getfield 121, 3) := dk_180 0 121 (dk_at dksX6_wordHere_3 20 rfl rfl)
theorem dX6_wordHere_92 : decode cX6_wordHere 92 = .ok (.if_icmp .ne 5, 3) := dk_160 0 5 (dk_at dksX6_wordHere_4 0 rfl rfl)
theorem dX6_wordHere_95 : decode cX6_wordHere 95 = .ok (.iload_n 1, 1) := dk_27 (dk_at dksX6_wordHere_4 3 rfl rfl)
theorem dX6_wordHere_96 : decode cX6_wordHere 96 = .ok (.ireturn, 1) := dk_172 (dk_at dksX6_wordHere_4 4 rfl rfl)
theorem dX6_wordHere_97 : decode cX6_wordHere 97 = .ok (.ldc 154, 2) := dk_18 154 (dk_at dksX6_wordHere_4 5 rfl rfl)
theorem dX6_wordHere_99 : decode cX6_wordHere 99 = .ok (.iload_n 2, 1) := dk_28 (dk_at dksX6_wordHere_4 7 rfl rfl)
theorem dX6_wordHere_100 : decode cX6_wordHere 100 = .ok (.invokevirtual 161, 3) := dk_182 0 161 (dk_at dksX6_wordHere_4 8 rfl rfl)
theorem dX6_wordHere_103 : decode cX6_wordHere 103 = .ok (.bipush 32, 2) := dk_16 32 (dk_at dksX6_wordHere_4 11 rfl rfl)
theorem dX6_wordHere_105 : decode cX6_wordHere 105 = .ok (.if_icmp .eq 9, 3) := dk_159 0 9 (dk_at dksX6_wordHere_4 13 rfl rfl)
theorem dX6_wordHere_108 : decode cX6_wordHere 108 = .ok (.iinc 2 1, 3) := dk_132 2 1 (dk_at dksX6_wordHere_4 16 rfl rfl)
theorem dX6_wordHere_111 : decode cX6_wordHere 111 = .ok (.goto (-14), 3) := dk_167 255 242 (dk_at dksX6_wordHere_4 19 rfl rfl)
theorem dX6_wordHere_114 : decode cX6_wordHere 114 = .ok (.iinc 2 1, 3) := dk_132 2 1 (dk_at dksX6_wordHere_5 0 rfl rfl)
theorem dX6_wordHere_117 : decode cX6_wordHere 117 = .ok (.iinc 1 1, 3) := dk_132 1 1 (dk_at dksX6_wordHere_5 3 rfl rfl)
theorem dX6_wordHere_120 : decode cX6_wordHere 120 = .ok (.goto (-116), 3) := dk_167 255 140 (dk_at dksX6_wordHere_5 6 rfl rfl)
theorem dX6_wordHere_123 : decode cX6_wordHere 123 = .ok (.iconst (-1), 1) := dk_2 (dk_at dksX6_wordHere_5 9 rfl rfl)
theorem dX6_wordHere_124 : decode cX6_wordHere 124 = .ok (.ireturn, 1) := dk_172 (dk_at dksX6_wordHere_5 10 rfl rfl)
abbrev cX6_nameHere : ByteArray := prog_18_method_9_code
def yX6_nameHere : MethodName := ⟨RX6, "nameHere", "()V"⟩
def dkwX6_nameHere_2 : List UInt8 := [96, 167, 0, 4, 3, 128, 181, 0, 144, 132, 1, 1, 167, 255, 203, 177]
abbrev dktX6_nameHere_2 : List UInt8 := dkwX6_nameHere_2 ++ []
def dkwX6_nameHere_1 : List UInt8 := [27, 96, 42, 180, 0, 121, 162, 0, 22, 42, 180, 0, 7, 42, 180, 0, 131, 27, 96, 46, 16, 97, 100, 4]
abbrev dktX6_nameHere_1 : List UInt8 := dkwX6_nameHere_1 ++ dktX6_nameHere_2
def dkwX6_nameHere_0 : List UInt8 := [42, 3, 181, 0, 144, 3, 60, 27, 16, 6, 162, 0, 53, 42, 42, 180, 0, 144, 8, 120, 42, 180, 0, 131]
abbrev dktX6_nameHere_0 : List UInt8 := dkwX6_nameHere_0 ++ dktX6_nameHere_1
theorem dksX6_nameHere_0 : cX6_nameHere.data.toList.drop 0 = dktX6_nameHere_0 := by decide +kernel
theorem dksX6_nameHere_1 : cX6_nameHere.data.toList.drop 24 = dktX6_nameHere_1 := dk_seg dksX6_nameHere_0 24 rfl rfl
theorem dksX6_nameHere_2 : cX6_nameHere.data.toList.drop 48 = dktX6_nameHere_2 := dk_seg dksX6_nameHere_1 24 rfl rfl
theorem dX6_nameHere_0 : decode cX6_nameHere 0 = .ok (.aload_n 0, 1) := dk_42 (dk_at dksX6_nameHere_0 0 rfl rfl)
theorem dX6_nameHere_1 : decode cX6_nameHere 1 = .ok (.iconst 0, 1) := dk_3 (dk_at dksX6_nameHere_0 1 rfl rfl)
theorem dX6_nameHere_2 : decode cX6_nameHere 2 = .ok (.putfield 144, 3) := dk_181 0 144 (dk_at dksX6_nameHere_0 2 rfl rfl)
theorem dX6_nameHere_5 : decode cX6_nameHere 5 = .ok (.iconst 0, 1) := dk_3 (dk_at dksX6_nameHere_0 5 rfl rfl)
theorem dX6_nameHere_6 : decode cX6_nameHere 6 = .ok (.istore_n 1, 1) := dk_60 (dk_at dksX6_nameHere_0 6 rfl rfl)
theorem dX6_nameHere_7 : decode cX6_nameHere 7 = .ok (.iload_n 1, 1) := dk_27 (dk_at dksX6_nameHere_0 7 rfl rfl)
theorem dX6_nameHere_8 : decode cX6_nameHere 8 = .ok (.bipush 6, 2) := dk_16 6 (dk_at dksX6_nameHere_0 8 rfl rfl)
theorem dX6_nameHere_10 : decode cX6_nameHere 10 = .ok (.if_icmp .ge 53, 3) := dk_162 0 53 (dk_at dksX6_nameHere_0 10 rfl rfl)
theorem dX6_nameHere_13 : decode cX6_nameHere 13 = .ok (.aload_n 0, 1) := dk_42 (dk_at dksX6_nameHere_0 13 rfl rfl)
theorem dX6_nameHere_14 : decode cX6_nameHere 14 = .ok (.aload_n 0, 1) := dk_42 (dk_at dksX6_nameHere_0 14 rfl rfl)
theorem dX6_nameHere_15 : decode cX6_nameHere 15 = .ok (.getfield 144, 3) := dk_180 0 144 (dk_at dksX6_nameHere_0 15 rfl rfl)
theorem dX6_nameHere_18 : decode cX6_nameHere 18 = .ok (.iconst 5, 1) := dk_8 (dk_at dksX6_nameHere_0 18 rfl rfl)
theorem dX6_nameHere_19 : decode cX6_nameHere 19 = .ok (.ishl, 1) := dk_120 (dk_at dksX6_nameHere_0 19 rfl rfl)
theorem dX6_nameHere_20 : decode cX6_nameHere 20 = .ok (.aload_n 0, 1) := dk_42 (dk_at dksX6_nameHere_0 20 rfl rfl)
theorem dX6_nameHere_21 : decode cX6_nameHere 21 = .ok (.getfield 131, 3) := dk_180 0 131 (dk_at dksX6_nameHere_0 21 rfl rfl)
theorem dX6_nameHere_24 : decode cX6_nameHere 24 = .ok (.iload_n 1, 1) := dk_27 (dk_at dksX6_nameHere_1 0 rfl rfl)
theorem dX6_nameHere_25 : decode cX6_nameHere 25 = .ok (.iadd, 1) := dk_96 (dk_at dksX6_nameHere_1 1 rfl rfl)
theorem dX6_nameHere_26 : decode cX6_nameHere 26 = .ok (.aload_n 0, 1) := dk_42 (dk_at dksX6_nameHere_1 2 rfl rfl)
theorem dX6_nameHere_27 : decode cX6_nameHere 27 = .ok (.getfield 121, 3) := dk_180 0 121 (dk_at dksX6_nameHere_1 3 rfl rfl)
theorem dX6_nameHere_30 : decode cX6_nameHere 30 = .ok (.if_icmp .ge 22, 3) := dk_162 0 22 (dk_at dksX6_nameHere_1 6 rfl rfl)
theorem dX6_nameHere_33 : decode cX6_nameHere 33 = .ok (.aload_n 0, 1) := dk_42 (dk_at dksX6_nameHere_1 9 rfl rfl)
theorem dX6_nameHere_34 : decode cX6_nameHere 34 = .ok (.getfield 7, 3) := dk_180 0 7 (dk_at dksX6_nameHere_1 10 rfl rfl)
theorem dX6_nameHere_37 : decode cX6_nameHere 37 = .ok (.aload_n 0, 1) := dk_42 (dk_at dksX6_nameHere_1 13 rfl rfl)
theorem dX6_nameHere_38 : decode cX6_nameHere 38 = .ok (.getfield 131, 3) := dk_180 0 131 (dk_at dksX6_nameHere_1 14 rfl rfl)
theorem dX6_nameHere_41 : decode cX6_nameHere 41 = .ok (.iload_n 1, 1) := dk_27 (dk_at dksX6_nameHere_1 17 rfl rfl)
theorem dX6_nameHere_42 : decode cX6_nameHere 42 = .ok (.iadd, 1) := dk_96 (dk_at dksX6_nameHere_1 18 rfl rfl)
theorem dX6_nameHere_43 : decode cX6_nameHere 43 = .ok (.iaload, 1) := dk_46 (dk_at dksX6_nameHere_1 19 rfl rfl)
theorem dX6_nameHere_44 : decode cX6_nameHere 44 = .ok (.bipush 97, 2) := dk_16 97 (dk_at dksX6_nameHere_1 20 rfl rfl)
theorem dX6_nameHere_46 : decode cX6_nameHere 46 = .ok (.isub, 1) := dk_100 (dk_at dksX6_nameHere_1 22 rfl rfl)
theorem dX6_nameHere_47 : decode cX6_nameHere 47 = .ok (.iconst 1, 1) := dk_4 (dk_at dksX6_nameHere_1 23 rfl rfl)
theorem dX6_nameHere_48 : decode cX6_nameHere 48 = .ok (.iadd, 1) := dk_96 (dk_at dksX6_nameHere_2 0 rfl rfl)
theorem dX6_nameHere_49 : decode cX6_nameHere 49 = .ok (.goto 4, 3) := dk_167 0 4 (dk_at dksX6_nameHere_2 1 rfl rfl)
theorem dX6_nameHere_52 : decode cX6_nameHere 52 = .ok (.iconst 0, 1) := dk_3 (dk_at dksX6_nameHere_2 4 rfl rfl)
theorem dX6_nameHere_53 : decode cX6_nameHere 53 = .ok (.ior, 1) := dk_128 (dk_at dksX6_nameHere_2 5 rfl rfl)
theorem dX6_nameHere_54 : decode cX6_nameHere 54 = .ok (.putfield 144, 3) := dk_181 0 144 (dk_at dksX6_nameHere_2 6 rfl rfl)
theorem dX6_nameHere_57 : decode cX6_nameHere 57 = .ok (.iinc 1 1, 3) := dk_132 1 1 (dk_at dksX6_nameHere_2 9 rfl rfl)
theorem dX6_nameHere_60 : decode cX6_nameHere 60 = .ok (.goto (-53), 3) := dk_167 255 203 (dk_at dksX6_nameHere_2 12 rfl rfl)
theorem dX6_nameHere_63 : decode cX6_nameHere 63 = .ok (.return_, 1) := dk_177 (dk_at dksX6_nameHere_2 15 rfl rfl)
abbrev cX6_isDigit : ByteArray := prog_18_method_6_code
def yX6_isDigit : MethodName := ⟨RX6, "isDigit", "(I)Z"⟩
def dkwX6_isDigit_0 : List UInt8 := [26, 16, 48, 161, 0, 13, 26, 16, 57, 163, 0, 7, 4, 167, 0, 4, 3, 172]
abbrev dktX6_isDigit_0 : List UInt8 := dkwX6_isDigit_0 ++ []
theorem dksX6_isDigit_0 : cX6_isDigit.data.toList.drop 0 = dktX6_isDigit_0 := by decide +kernel
theorem dX6_isDigit_0 : decode cX6_isDigit 0 = .ok (.iload_n 0, 1) := dk_26 (dk_at dksX6_isDigit_0 0 rfl rfl)
theorem dX6_isDigit_1 : decode cX6_isDigit 1 = .ok (.bipush 48, 2) := dk_16 48 (dk_at dksX6_isDigit_0 1 rfl rfl)
theorem dX6_isDigit_3 : decode cX6_isDigit 3 = .ok (.if_icmp .lt 13, 3) := dk_161 0 13 (dk_at dksX6_isDigit_0 3 rfl rfl)
theorem dX6_isDigit_6 : decode cX6_isDigit 6 = .ok (.iload_n 0, 1) := dk_26 (dk_at dksX6_isDigit_0 6 rfl rfl)
theorem dX6_isDigit_7 : decode cX6_isDigit 7 = .ok (.bipush 57, 2) := dk_16 57 (dk_at dksX6_isDigit_0 7 rfl rfl)
theorem dX6_isDigit_9 : decode cX6_isDigit 9 = .ok (.if_icmp .gt 7, 3) := dk_163 0 7 (dk_at dksX6_isDigit_0 9 rfl rfl)
theorem dX6_isDigit_12 : decode cX6_isDigit 12 = .ok (.iconst 1, 1) := dk_4 (dk_at dksX6_isDigit_0 12 rfl rfl)
theorem dX6_isDigit_13 : decode cX6_isDigit 13 = .ok (.goto 4, 3) := dk_167 0 4 (dk_at dksX6_isDigit_0 13 rfl rfl)
theorem dX6_isDigit_16 : decode cX6_isDigit 16 = .ok (.iconst 0, 1) := dk_3 (dk_at dksX6_isDigit_0 16 rfl rfl)
theorem dX6_isDigit_17 : decode cX6_isDigit 17 = .ok (.ireturn, 1) := dk_172 (dk_at dksX6_isDigit_0 17 rfl rfl)
abbrev cX6_readLine : ByteArray := prog_18_method_26_code
def yX6_readLine : MethodName := ⟨RX6, "readLine", "()V"⟩
def dkwX6_readLine_5 : List UInt8 := [182, 0, 178, 42, 89, 180, 0, 229, 4, 96, 181, 0, 229, 177]
abbrev dktX6_readLine_5 : List UInt8 := dkwX6_readLine_5 ++ []
def dkwX6_readLine_4 : List UInt8 := [182, 0, 226, 42, 180, 0, 165, 154, 0, 16, 42, 180, 0, 134, 6, 159, 0, 8, 42, 4, 182, 0, 174, 42]
abbrev dktX6_readLine_4 : List UInt8 := dkwX6_readLine_4 ++ dktX6_readLine_5
def dkwX6_readLine_3 : List UInt8 := [182, 0, 220, 167, 0, 22, 42, 180, 0, 144, 7, 160, 0, 10, 42, 182, 0, 223, 167, 0, 7, 42]
abbrev dktX6_readLine_3 : List UInt8 := dkwX6_readLine_3 ++ dktX6_readLine_4
def dkwX6_readLine_2 : List UInt8 := [180, 0, 144, 5, 160, 0, 10, 42, 182, 0, 217, 167, 0, 37, 42, 180, 0, 144, 6, 160, 0, 10, 42]
abbrev dktX6_readLine_2 : List UInt8 := dkwX6_readLine_2 ++ dktX6_readLine_3
def dkwX6_readLine_1 : List UInt8 := [182, 0, 211, 167, 0, 67, 42, 180, 0, 144, 4, 160, 0, 10, 42, 182, 0, 214, 167, 0, 52, 42]
abbrev dktX6_readLine_1 : List UInt8 := dkwX6_readLine_1 ++ dktX6_readLine_2
def dkwX6_readLine_0 : List UInt8 := [42, 180, 0, 134, 153, 0, 11, 42, 4, 182, 0, 174, 167, 0, 81, 42, 180, 0, 144, 154, 0, 10, 42]
abbrev dktX6_readLine_0 : List UInt8 := dkwX6_readLine_0 ++ dktX6_readLine_1
theorem dksX6_readLine_0 : cX6_readLine.data.toList.drop 0 = dktX6_readLine_0 := by decide +kernel
theorem dksX6_readLine_1 : cX6_readLine.data.toList.drop 23 = dktX6_readLine_1 := dk_seg dksX6_readLine_0 23 rfl rfl
theorem dksX6_readLine_2 : cX6_readLine.data.toList.drop 45 = dktX6_readLine_2 := dk_seg dksX6_readLine_1 22 rfl rfl
theorem dksX6_readLine_3 : cX6_readLine.data.toList.drop 68 = dktX6_readLine_3 := dk_seg dksX6_readLine_2 23 rfl rfl
theorem dksX6_readLine_4 : cX6_readLine.data.toList.drop 90 = dktX6_readLine_4 := dk_seg dksX6_readLine_3 22 rfl rfl
theorem dksX6_readLine_5 : cX6_readLine.data.toList.drop 114 = dktX6_readLine_5 := dk_seg dksX6_readLine_4 24 rfl rfl
theorem dX6_readLine_0 : decode cX6_readLine 0 = .ok (.aload_n 0, 1) := dk_42 (dk_at dksX6_readLine_0 0 rfl rfl)
theorem dX6_readLine_1 : decode cX6_readLine 1 = .ok (.getfield 134, 3) := dk_180 0 134 (dk_at dksX6_readLine_0 1 rfl rfl)
theorem dX6_readLine_4 : decode cX6_readLine 4 = .ok (.ifCond .eq 11, 3) := dk_153 0 11 (dk_at dksX6_readLine_0 4 rfl rfl)
theorem dX6_readLine_7 : decode cX6_readLine 7 = .ok (.aload_n 0, 1) := dk_42 (dk_at dksX6_readLine_0 7 rfl rfl)
theorem dX6_readLine_8 : decode cX6_readLine 8 = .ok (.iconst 1, 1) := dk_4 (dk_at dksX6_readLine_0 8 rfl rfl)
theorem dX6_readLine_9 : decode cX6_readLine 9 = .ok (.invokevirtual 174, 3) := dk_182 0 174 (dk_at dksX6_readLine_0 9 rfl rfl)
theorem dX6_readLine_12 : decode cX6_readLine 12 = .ok (.goto 81, 3) := dk_167 0 81 (dk_at dksX6_readLine_0 12 rfl rfl)
theorem dX6_readLine_15 : decode cX6_readLine 15 = .ok (.aload_n 0, 1) := dk_42 (dk_at dksX6_readLine_0 15 rfl rfl)
theorem dX6_readLine_16 : decode cX6_readLine 16 = .ok (.getfield 144, 3) := dk_180 0 144 (dk_at dksX6_readLine_0 16 rfl rfl)
theorem dX6_readLine_19 : decode cX6_readLine 19 = .ok (.ifCond .ne 10, 3) := dk_154 0 10 (dk_at dksX6_readLine_0 19 rfl rfl)
theorem dX6_readLine_22 : decode cX6_readLine 22 = .ok (.aload_n 0, 1) := dk_42 (dk_at dksX6_readLine_0 22 rfl rfl)
theorem dX6_readLine_23 : decode cX6_readLine 23 = .ok (.invokevirtual 211, 3) := dk_182 0 211 (dk_at dksX6_readLine_1 0 rfl rfl)
theorem dX6_readLine_26 : decode cX6_readLine 26 = .ok (.goto 67, 3) := dk_167 0 67 (dk_at dksX6_readLine_1 3 rfl rfl)
theorem dX6_readLine_29 : decode cX6_readLine 29 = .ok (.aload_n 0, 1) := dk_42 (dk_at dksX6_readLine_1 6 rfl rfl)
theorem dX6_readLine_30 : decode cX6_readLine 30 = .ok (.getfield 144, 3) := dk_180 0 144 (dk_at dksX6_readLine_1 7 rfl rfl)
theorem dX6_readLine_33 : decode cX6_readLine 33 = .ok (.iconst 1, 1) := dk_4 (dk_at dksX6_readLine_1 10 rfl rfl)
theorem dX6_readLine_34 : decode cX6_readLine 34 = .ok (.if_icmp .ne 10, 3) := dk_160 0 10 (dk_at dksX6_readLine_1 11 rfl rfl)
theorem dX6_readLine_37 : decode cX6_readLine 37 = .ok (.aload_n 0, 1) := dk_42 (dk_at dksX6_readLine_1 14 rfl rfl)
theorem dX6_readLine_38 : decode cX6_readLine 38 = .ok (.invokevirtual 214, 3) := dk_182 0 214 (dk_at dksX6_readLine_1 15 rfl rfl)
theorem dX6_readLine_41 : decode cX6_readLine 41 = .ok (.goto 52, 3) := dk_167 0 52 (dk_at dksX6_readLine_1 18 rfl rfl)
theorem dX6_readLine_44 : decode cX6_readLine 44 = .ok (.aload_n 0, 1) := dk_42 (dk_at dksX6_readLine_1 21 rfl rfl)
theorem dX6_readLine_45 : decode cX6_readLine 45 = .ok (.getfield 144, 3) := dk_180 0 144 (dk_at dksX6_readLine_2 0 rfl rfl)
theorem dX6_readLine_48 : decode cX6_readLine 48 = .ok (.iconst 2, 1) := dk_5 (dk_at dksX6_readLine_2 3 rfl rfl)
theorem dX6_readLine_49 : decode cX6_readLine 49 = .ok (.if_icmp .ne 10, 3) := dk_160 0 10 (dk_at dksX6_readLine_2 4 rfl rfl)
theorem dX6_readLine_52 : decode cX6_readLine 52 = .ok (.aload_n 0, 1) := dk_42 (dk_at dksX6_readLine_2 7 rfl rfl)
theorem dX6_readLine_53 : decode cX6_readLine 53 = .ok (.invokevirtual 217, 3) := dk_182 0 217 (dk_at dksX6_readLine_2 8 rfl rfl)
theorem dX6_readLine_56 : decode cX6_readLine 56 = .ok (.goto 37, 3) := dk_167 0 37 (dk_at dksX6_readLine_2 11 rfl rfl)
theorem dX6_readLine_59 : decode cX6_readLine 59 = .ok (.aload_n 0, 1) := dk_42 (dk_at dksX6_readLine_2 14 rfl rfl)
theorem dX6_readLine_60 : decode cX6_readLine 60 = .ok (.getfield 144, 3) := dk_180 0 144 (dk_at dksX6_readLine_2 15 rfl rfl)
theorem dX6_readLine_63 : decode cX6_readLine 63 = .ok (.iconst 3, 1) := dk_6 (dk_at dksX6_readLine_2 18 rfl rfl)
theorem dX6_readLine_64 : decode cX6_readLine 64 = .ok (.if_icmp .ne 10, 3) := dk_160 0 10 (dk_at dksX6_readLine_2 19 rfl rfl)
theorem dX6_readLine_67 : decode cX6_readLine 67 = .ok (.aload_n 0, 1) := dk_42 (dk_at dksX6_readLine_2 22 rfl rfl)
theorem dX6_readLine_68 : decode cX6_readLine 68 = .ok (.invokevirtual 220, 3) := dk_182 0 220 (dk_at dksX6_readLine_3 0 rfl rfl)
theorem dX6_readLine_71 : decode cX6_readLine 71 = .ok (.goto 22, 3) := dk_167 0 22 (dk_at dksX6_readLine_3 3 rfl rfl)
theorem dX6_readLine_74 : decode cX6_readLine 74 = .ok (.aload_n 0, 1) := dk_42 (dk_at dksX6_readLine_3 6 rfl rfl)
theorem dX6_readLine_75 : decode cX6_readLine 75 = .ok (.getfield 144, 3) := dk_180 0 144 (dk_at dksX6_readLine_3 7 rfl rfl)
theorem dX6_readLine_78 : decode cX6_readLine 78 = .ok (.iconst 4, 1) := dk_7 (dk_at dksX6_readLine_3 10 rfl rfl)
theorem dX6_readLine_79 : decode cX6_readLine 79 = .ok (.if_icmp .ne 10, 3) := dk_160 0 10 (dk_at dksX6_readLine_3 11 rfl rfl)
theorem dX6_readLine_82 : decode cX6_readLine 82 = .ok (.aload_n 0, 1) := dk_42 (dk_at dksX6_readLine_3 14 rfl rfl)
theorem dX6_readLine_83 : decode cX6_readLine 83 = .ok (.invokevirtual 223, 3) := dk_182 0 223 (dk_at dksX6_readLine_3 15 rfl rfl)
theorem dX6_readLine_86 : decode cX6_readLine 86 = .ok (.goto 7, 3) := dk_167 0 7 (dk_at dksX6_readLine_3 18 rfl rfl)
theorem dX6_readLine_89 : decode cX6_readLine 89 = .ok (.aload_n 0, 1) := dk_42 (dk_at dksX6_readLine_3 21 rfl rfl)
theorem dX6_readLine_90 : decode cX6_readLine 90 = .ok (.invokevirtual 226, 3) := dk_182 0 226 (dk_at dksX6_readLine_4 0 rfl rfl)
theorem dX6_readLine_93 : decode cX6_readLine 93 = .ok (.aload_n 0, 1) := dk_42 (dk_at dksX6_readLine_4 3 rfl rfl)
theorem dX6_readLine_94 : decode cX6_readLine 94 = .ok (.getfield 165, 3) := dk_180 0 165 (dk_at dksX6_readLine_4 4 rfl rfl)
theorem dX6_readLine_97 : decode cX6_readLine 97 = .ok (.ifCond .ne 16, 3) := dk_154 0 16 (dk_at dksX6_readLine_4 7 rfl rfl)
theorem dX6_readLine_100 : decode cX6_readLine 100 = .ok (.aload_n 0, 1) := dk_42 (dk_at dksX6_readLine_4 10 rfl rfl)
theorem dX6_readLine_101 : decode cX6_readLine 101 = .ok (.getfield 134, 3) := dk_180 0 134 (dk_at dksX6_readLine_4 11 rfl rfl)
theorem dX6_readLine_104 : decode cX6_readLine 104 = .ok (.iconst 3, 1) := dk_6 (dk_at dksX6_readLine_4 14 rfl rfl)
theorem dX6_readLine_105 : decode cX6_readLine 105 = .ok (.if_icmp .eq 8, 3) := dk_159 0 8 (dk_at dksX6_readLine_4 15 rfl rfl)
theorem dX6_readLine_108 : decode cX6_readLine 108 = .ok (.aload_n 0, 1) := dk_42 (dk_at dksX6_readLine_4 18 rfl rfl)
theorem dX6_readLine_109 : decode cX6_readLine 109 = .ok (.iconst 1, 1) := dk_4 (dk_at dksX6_readLine_4 19 rfl rfl)
theorem dX6_readLine_110 : decode cX6_readLine 110 = .ok (.invokevirtual 174, 3) := dk_182 0 174 (dk_at dksX6_readLine_4 20 rfl rfl)
theorem dX6_readLine_113 : decode cX6_readLine 113 = .ok (.aload_n 0, 1) := dk_42 (dk_at dksX6_readLine_4 23 rfl rfl)
theorem dX6_readLine_114 : decode cX6_readLine 114 = .ok (.invokevirtual 178, 3) := dk_182 0 178 (dk_at dksX6_readLine_5 0 rfl rfl)
theorem dX6_readLine_117 : decode cX6_readLine 117 = .ok (.aload_n 0, 1) := dk_42 (dk_at dksX6_readLine_5 3 rfl rfl)
theorem dX6_readLine_118 : decode cX6_readLine 118 = .ok (.dup, 1) := dk_89 (dk_at dksX6_readLine_5 4 rfl rfl)
theorem dX6_readLine_119 : decode cX6_readLine 119 = .ok (.getfield 229, 3) := dk_180 0 229 (dk_at dksX6_readLine_5 5 rfl rfl)
theorem dX6_readLine_122 : decode cX6_readLine 122 = .ok (.iconst 1, 1) := dk_4 (dk_at dksX6_readLine_5 8 rfl rfl)
theorem dX6_readLine_123 : decode cX6_readLine 123 = .ok (.iadd, 1) := dk_96 (dk_at dksX6_readLine_5 9 rfl rfl)
theorem dX6_readLine_124 : decode cX6_readLine 124 = .ok (.putfield 229, 3) := dk_181 0 229 (dk_at dksX6_readLine_5 10 rfl rfl)
theorem dX6_readLine_127 : decode cX6_readLine 127 = .ok (.return_, 1) := dk_177 (dk_at dksX6_readLine_5 13 rfl rfl)
abbrev cX6_wrong : ByteArray := prog_18_method_10_code
def yX6_wrong : MethodName := ⟨RX6, "wrong", "(I)V"⟩
def dkwX6_wrong_0 : List UInt8 := [42, 180, 0, 165, 153, 0, 4, 177, 42, 27, 181, 0, 165, 42, 42, 180, 0, 131, 181, 0, 168, 177]
abbrev dktX6_wrong_0 : List UInt8 := dkwX6_wrong_0 ++ []
theorem dksX6_wrong_0 : cX6_wrong.data.toList.drop 0 = dktX6_wrong_0 := by decide +kernel
theorem dX6_wrong_0 : decode cX6_wrong 0 = .ok (.aload_n 0, 1) := dk_42 (dk_at dksX6_wrong_0 0 rfl rfl)
theorem dX6_wrong_1 : decode cX6_wrong 1 = .ok (.getfield 165, 3) := dk_180 0 165 (dk_at dksX6_wrong_0 1 rfl rfl)
theorem dX6_wrong_4 : decode cX6_wrong 4 = .ok (.ifCond .eq 4, 3) := dk_153 0 4 (dk_at dksX6_wrong_0 4 rfl rfl)
theorem dX6_wrong_7 : decode cX6_wrong 7 = .ok (.return_, 1) := dk_177 (dk_at dksX6_wrong_0 7 rfl rfl)
theorem dX6_wrong_8 : decode cX6_wrong 8 = .ok (.aload_n 0, 1) := dk_42 (dk_at dksX6_wrong_0 8 rfl rfl)
theorem dX6_wrong_9 : decode cX6_wrong 9 = .ok (.iload_n 1, 1) := dk_27 (dk_at dksX6_wrong_0 9 rfl rfl)
theorem dX6_wrong_10 : decode cX6_wrong 10 = .ok (.putfield 165, 3) := dk_181 0 165 (dk_at dksX6_wrong_0 10 rfl rfl)
theorem dX6_wrong_13 : decode cX6_wrong 13 = .ok (.aload_n 0, 1) := dk_42 (dk_at dksX6_wrong_0 13 rfl rfl)
theorem dX6_wrong_14 : decode cX6_wrong 14 = .ok (.aload_n 0, 1) := dk_42 (dk_at dksX6_wrong_0 14 rfl rfl)
theorem dX6_wrong_15 : decode cX6_wrong 15 = .ok (.getfield 131, 3) := dk_180 0 131 (dk_at dksX6_wrong_0 15 rfl rfl)
theorem dX6_wrong_18 : decode cX6_wrong 18 = .ok (.putfield 168, 3) := dk_181 0 168 (dk_at dksX6_wrong_0 18 rfl rfl)
theorem dX6_wrong_21 : decode cX6_wrong 21 = .ok (.return_, 1) := dk_177 (dk_at dksX6_wrong_0 21 rfl rfl)
abbrev cX6_readLink : ByteArray := prog_18_method_18_code
def yX6_readLink : MethodName := ⟨RX6, "readLink", "()V"⟩
def dkwX6_readLink_6 : List UInt8 := [21, 6, 79, 42, 3, 42, 3, 182, 0, 185, 4, 96, 182, 0, 197, 177]
abbrev dktX6_readLink_6 : List UInt8 := dkwX6_readLink_6 ++ []
def dkwX6_readLink_5 : List UInt8 := [27, 29, 79, 42, 180, 0, 29, 27, 21, 4, 79, 42, 180, 0, 32, 27, 21, 5, 79, 42, 180, 0, 35, 27]
abbrev dktX6_readLink_5 : List UInt8 := dkwX6_readLink_5 ++ dktX6_readLink_6
def dkwX6_readLink_4 : List UInt8 := [182, 0, 193, 54, 6, 42, 180, 0, 165, 153, 0, 4, 177, 42, 180, 0, 23, 27, 28, 79, 42, 180, 0, 26]
abbrev dktX6_readLink_4 : List UInt8 := dkwX6_readLink_4 ++ dktX6_readLink_5
def dkwX6_readLink_3 : List UInt8 := [162, 0, 10, 21, 4, 4, 100, 167, 0, 6, 17, 3, 230, 182, 0, 193, 54, 5, 42, 4, 17, 7, 207]
abbrev dktX6_readLink_3 : List UInt8 := dkwX6_readLink_3 ++ dktX6_readLink_4
def dkwX6_readLink_2 : List UInt8 := [182, 0, 193, 62, 42, 4, 17, 3, 231, 182, 0, 193, 54, 4, 42, 3, 21, 4, 4, 100, 17, 3, 230]
abbrev dktX6_readLink_2 : List UInt8 := dkwX6_readLink_2 ++ dktX6_readLink_3
def dkwX6_readLink_1 : List UInt8 := [180, 0, 20, 16, 10, 42, 3, 182, 0, 185, 182, 0, 189, 42, 4, 16, 64, 182, 0, 193, 61, 42, 3, 7]
abbrev dktX6_readLink_1 : List UInt8 := dkwX6_readLink_1 ++ dktX6_readLink_2
def dkwX6_readLink_0 : List UInt8 := [16, 10, 42, 3, 182, 0, 185, 96, 60, 27, 16, 20, 160, 0, 8, 42, 5, 182, 0, 174, 42, 42]
abbrev dktX6_readLink_0 : List UInt8 := dkwX6_readLink_0 ++ dktX6_readLink_1
theorem dksX6_readLink_0 : cX6_readLink.data.toList.drop 0 = dktX6_readLink_0 := by decide +kernel
theorem dksX6_readLink_1 : cX6_readLink.data.toList.drop 22 = dktX6_readLink_1 := dk_seg dksX6_readLink_0 22 rfl rfl
theorem dksX6_readLink_2 : cX6_readLink.data.toList.drop 46 = dktX6_readLink_2 := dk_seg dksX6_readLink_1 24 rfl rfl
theorem dksX6_readLink_3 : cX6_readLink.data.toList.drop 69 = dktX6_readLink_3 := dk_seg dksX6_readLink_2 23 rfl rfl
theorem dksX6_readLink_4 : cX6_readLink.data.toList.drop 92 = dktX6_readLink_4 := dk_seg dksX6_readLink_3 23 rfl rfl
theorem dksX6_readLink_5 : cX6_readLink.data.toList.drop 116 = dktX6_readLink_5 := dk_seg dksX6_readLink_4 24 rfl rfl
theorem dksX6_readLink_6 : cX6_readLink.data.toList.drop 140 = dktX6_readLink_6 := dk_seg dksX6_readLink_5 24 rfl rfl
theorem dX6_readLink_0 : decode cX6_readLink 0 = .ok (.bipush 10, 2) := dk_16 10 (dk_at dksX6_readLink_0 0 rfl rfl)
theorem dX6_readLink_2 : decode cX6_readLink 2 = .ok (.aload_n 0, 1) := dk_42 (dk_at dksX6_readLink_0 2 rfl rfl)
theorem dX6_readLink_3 : decode cX6_readLink 3 = .ok (.iconst 0, 1) := dk_3 (dk_at dksX6_readLink_0 3 rfl rfl)
theorem dX6_readLink_4 : decode cX6_readLink 4 = .ok (.invokevirtual 185, 3) := dk_182 0 185 (dk_at dksX6_readLink_0 4 rfl rfl)
theorem dX6_readLink_7 : decode cX6_readLink 7 = .ok (.iadd, 1) := dk_96 (dk_at dksX6_readLink_0 7 rfl rfl)
theorem dX6_readLink_8 : decode cX6_readLink 8 = .ok (.istore_n 1, 1) := dk_60 (dk_at dksX6_readLink_0 8 rfl rfl)
theorem dX6_readLink_9 : decode cX6_readLink 9 = .ok (.iload_n 1, 1) := dk_27 (dk_at dksX6_readLink_0 9 rfl rfl)
theorem dX6_readLink_10 : decode cX6_readLink 10 = .ok (.bipush 20, 2) := dk_16 20 (dk_at dksX6_readLink_0 10 rfl rfl)
theorem dX6_readLink_12 : decode cX6_readLink 12 = .ok (.if_icmp .ne 8, 3) := dk_160 0 8 (dk_at dksX6_readLink_0 12 rfl rfl)
theorem dX6_readLink_15 : decode cX6_readLink 15 = .ok (.aload_n 0, 1) := dk_42 (dk_at dksX6_readLink_0 15 rfl rfl)
theorem dX6_readLink_16 : decode cX6_readLink 16 = .ok (.iconst 2, 1) := dk_5 (dk_at dksX6_readLink_0 16 rfl rfl)
theorem dX6_readLink_17 : decode cX6_readLink 17 = .ok (.invokevirtual 174, 3) := dk_182 0 174 (dk_at dksX6_readLink_0 17 rfl rfl)
theorem dX6_readLink_20 : decode cX6_readLink 20 = .ok (.aload_n 0, 1) := dk_42 (dk_at dksX6_readLink_0 20 rfl rfl)
theorem dX6_readLink_21 : decode cX6_readLink 21 = .ok (.aload_n 0, 1) := dk_42 (dk_at dksX6_readLink_0 21 rfl rfl)
theorem dX6_readLink_22 : decode cX6_readLink 22 = .ok (.getfield 20, 3) := dk_180 0 20 (dk_at dksX6_readLink_1 0 rfl rfl)
theorem dX6_readLink_25 : decode cX6_readLink 25 = .ok (.bipush 10, 2) := dk_16 10 (dk_at dksX6_readLink_1 3 rfl rfl)
theorem dX6_readLink_27 : decode cX6_readLink 27 = .ok (.aload_n 0, 1) := dk_42 (dk_at dksX6_readLink_1 5 rfl rfl)
theorem dX6_readLink_28 : decode cX6_readLink 28 = .ok (.iconst 0, 1) := dk_3 (dk_at dksX6_readLink_1 6 rfl rfl)
theorem dX6_readLink_29 : decode cX6_readLink 29 = .ok (.invokevirtual 185, 3) := dk_182 0 185 (dk_at dksX6_readLink_1 7 rfl rfl)
theorem dX6_readLink_32 : decode cX6_readLink 32 = .ok (.invokevirtual 189, 3) := dk_182 0 189 (dk_at dksX6_readLink_1 10 rfl rfl)
theorem dX6_readLink_35 : decode cX6_readLink 35 = .ok (.aload_n 0, 1) := dk_42 (dk_at dksX6_readLink_1 13 rfl rfl)
theorem dX6_readLink_36 : decode cX6_readLink 36 = .ok (.iconst 1, 1) := dk_4 (dk_at dksX6_readLink_1 14 rfl rfl)
theorem dX6_readLink_37 : decode cX6_readLink 37 = .ok (.bipush 64, 2) := dk_16 64 (dk_at dksX6_readLink_1 15 rfl rfl)
theorem dX6_readLink_39 : decode cX6_readLink 39 = .ok (.invokevirtual 193, 3) := dk_182 0 193 (dk_at dksX6_readLink_1 17 rfl rfl)
theorem dX6_readLink_42 : decode cX6_readLink 42 = .ok (.istore_n 2, 1) := dk_61 (dk_at dksX6_readLink_1 20 rfl rfl)
theorem dX6_readLink_43 : decode cX6_readLink 43 = .ok (.aload_n 0, 1) := dk_42 (dk_at dksX6_readLink_1 21 rfl rfl)
theorem dX6_readLink_44 : decode cX6_readLink 44 = .ok (.iconst 0, 1) := dk_3 (dk_at dksX6_readLink_1 22 rfl rfl)
theorem dX6_readLink_45 : decode cX6_readLink 45 = .ok (.iconst 4, 1) := dk_7 (dk_at dksX6_readLink_1 23 rfl rfl)
theorem dX6_readLink_46 : decode cX6_readLink 46 = .ok (.invokevirtual 193, 3) := dk_182 0 193 (dk_at dksX6_readLink_2 0 rfl rfl)
theorem dX6_readLink_49 : decode cX6_readLink 49 = .ok (.istore_n 3, 1) := dk_62 (dk_at dksX6_readLink_2 3 rfl rfl)
theorem dX6_readLink_50 : decode cX6_readLink 50 = .ok (.aload_n 0, 1) := dk_42 (dk_at dksX6_readLink_2 4 rfl rfl)
theorem dX6_readLink_51 : decode cX6_readLink 51 = .ok (.iconst 1, 1) := dk_4 (dk_at dksX6_readLink_2 5 rfl rfl)
theorem dX6_readLink_52 : decode cX6_readLink 52 = .ok (.sipush 999, 3) := dk_17 3 231 (dk_at dksX6_readLink_2 6 rfl rfl)
theorem dX6_readLink_55 : decode cX6_readLink 55 = .ok (.invokevirtual 193, 3) := dk_182 0 193 (dk_at dksX6_readLink_2 9 rfl rfl)
theorem dX6_readLink_58 : decode cX6_readLink 58 = .ok (.istore 4, 2) := dk_54 4 (dk_at dksX6_readLink_2 12 rfl rfl)
theorem dX6_readLink_60 : decode cX6_readLink 60 = .ok (.aload_n 0, 1) := dk_42 (dk_at dksX6_readLink_2 14 rfl rfl)
theorem dX6_readLink_61 : decode cX6_readLink 61 = .ok (.iconst 0, 1) := dk_3 (dk_at dksX6_readLink_2 15 rfl rfl)
theorem dX6_readLink_62 : decode cX6_readLink 62 = .ok (.iload 4, 2) := dk_21 4 (dk_at dksX6_readLink_2 16 rfl rfl)
theorem dX6_readLink_64 : decode cX6_readLink 64 = .ok (.iconst 1, 1) := dk_4 (dk_at dksX6_readLink_2 18 rfl rfl)
theorem dX6_readLink_65 : decode cX6_readLink 65 = .ok (.isub, 1) := dk_100 (dk_at dksX6_readLink_2 19 rfl rfl)
theorem dX6_readLink_66 : decode cX6_readLink 66 = .ok (.sipush 998, 3) := dk_17 3 230 (dk_at dksX6_readLink_2 20 rfl rfl)
theorem dX6_readLink_69 : decode cX6_readLink 69 = .ok (.if_icmp .ge 10, 3) := dk_162 0 10 (dk_at dksX6_readLink_3 0 rfl rfl)
theorem dX6_readLink_72 : decode cX6_readLink 72 = .ok (.iload 4, 2) := dk_21 4 (dk_at dksX6_readLink_3 3 rfl rfl)
theorem dX6_readLink_74 : decode cX6_readLink 74 = .ok (.iconst 1, 1) := dk_4 (dk_at dksX6_readLink_3 5 rfl rfl)
theorem dX6_readLink_75 : decode cX6_readLink 75 = .ok (.isub, 1) := dk_100 (dk_at dksX6_readLink_3 6 rfl rfl)
theorem dX6_readLink_76 : decode cX6_readLink 76 = .ok (.goto 6, 3) := dk_167 0 6 (dk_at dksX6_readLink_3 7 rfl rfl)
theorem dX6_readLink_79 : decode cX6_readLink 79 = .ok (.sipush 998, 3) := dk_17 3 230 (dk_at dksX6_readLink_3 10 rfl rfl)
theorem dX6_readLink_82 : decode cX6_readLink 82 = .ok (.invokevirtual 193, 3) := dk_182 0 193 (dk_at dksX6_readLink_3 13 rfl rfl)
theorem dX6_readLink_85 : decode cX6_readLink 85 = .ok (.istore 5, 2) := dk_54 5 (dk_at dksX6_readLink_3 16 rfl rfl)
theorem dX6_readLink_87 : decode cX6_readLink 87 = .ok (.aload_n 0, 1) := dk_42 (dk_at dksX6_readLink_3 18 rfl rfl)
theorem dX6_readLink_88 : decode cX6_readLink 88 = .ok (.iconst 1, 1) := dk_4 (dk_at dksX6_readLink_3 19 rfl rfl)
theorem dX6_readLink_89 : decode cX6_readLink 89 = .ok (.sipush 1999, 3) := dk_17 7 207 (dk_at dksX6_readLink_3 20 rfl rfl)
theorem dX6_readLink_92 : decode cX6_readLink 92 = .ok (.invokevirtual 193, 3) := dk_182 0 193 (dk_at dksX6_readLink_4 0 rfl rfl)
theorem dX6_readLink_95 : decode cX6_readLink 95 = .ok (.istore 6, 2) := dk_54 6 (dk_at dksX6_readLink_4 3 rfl rfl)
theorem dX6_readLink_97 : decode cX6_readLink 97 = .ok (.aload_n 0, 1) := dk_42 (dk_at dksX6_readLink_4 5 rfl rfl)
theorem dX6_readLink_98 : decode cX6_readLink 98 = .ok (.getfield 165, 3) := dk_180 0 165 (dk_at dksX6_readLink_4 6 rfl rfl)
theorem dX6_readLink_101 : decode cX6_readLink 101 = .ok (.ifCond .eq 4, 3) := dk_153 0 4 (dk_at dksX6_readLink_4 9 rfl rfl)
theorem dX6_readLink_104 : decode cX6_readLink 104 = .ok (.return_, 1) := dk_177 (dk_at dksX6_readLink_4 12 rfl rfl)
theorem dX6_readLink_105 : decode cX6_readLink 105 = .ok (.aload_n 0, 1) := dk_42 (dk_at dksX6_readLink_4 13 rfl rfl)
theorem dX6_readLink_106 : decode cX6_readLink 106 = .ok (.getfield 23, 3) := dk_180 0 23 (dk_at dksX6_readLink_4 14 rfl rfl)
theorem dX6_readLink_109 : decode cX6_readLink 109 = .ok (.iload_n 1, 1) := dk_27 (dk_at dksX6_readLink_4 17 rfl rfl)
theorem dX6_readLink_110 : decode cX6_readLink 110 = .ok (.iload_n 2, 1) := dk_28 (dk_at dksX6_readLink_4 18 rfl rfl)
theorem dX6_readLink_111 : decode cX6_readLink 111 = .ok (.iastore, 1) := dk_79 (dk_at dksX6_readLink_4 19 rfl rfl)
theorem dX6_readLink_112 : decode cX6_readLink 112 = .ok (.aload_n 0, 1) := dk_42 (dk_at dksX6_readLink_4 20 rfl rfl)
theorem dX6_readLink_113 : decode cX6_readLink 113 = .ok (.getfield 26, 3) := dk_180 0 26 (dk_at dksX6_readLink_4 21 rfl rfl)
theorem dX6_readLink_116 : decode cX6_readLink 116 = .ok (.iload_n 1, 1) := dk_27 (dk_at dksX6_readLink_5 0 rfl rfl)
theorem dX6_readLink_117 : decode cX6_readLink 117 = .ok (.iload_n 3, 1) := dk_29 (dk_at dksX6_readLink_5 1 rfl rfl)
theorem dX6_readLink_118 : decode cX6_readLink 118 = .ok (.iastore, 1) := dk_79 (dk_at dksX6_readLink_5 2 rfl rfl)
theorem dX6_readLink_119 : decode cX6_readLink 119 = .ok (.aload_n 0, 1) := dk_42 (dk_at dksX6_readLink_5 3 rfl rfl)
theorem dX6_readLink_120 : decode cX6_readLink 120 = .ok (.getfield 29, 3) := dk_180 0 29 (dk_at dksX6_readLink_5 4 rfl rfl)
theorem dX6_readLink_123 : decode cX6_readLink 123 = .ok (.iload_n 1, 1) := dk_27 (dk_at dksX6_readLink_5 7 rfl rfl)
theorem dX6_readLink_124 : decode cX6_readLink 124 = .ok (.iload 4, 2) := dk_21 4 (dk_at dksX6_readLink_5 8 rfl rfl)
theorem dX6_readLink_126 : decode cX6_readLink 126 = .ok (.iastore, 1) := dk_79 (dk_at dksX6_readLink_5 10 rfl rfl)
theorem dX6_readLink_127 : decode cX6_readLink 127 = .ok (.aload_n 0, 1) := dk_42 (dk_at dksX6_readLink_5 11 rfl rfl)
theorem dX6_readLink_128 : decode cX6_readLink 128 = .ok (.getfield 32, 3) := dk_180 0 32 (dk_at dksX6_readLink_5 12 rfl rfl)
theorem dX6_readLink_131 : decode cX6_readLink 131 = .ok (.iload_n 1, 1) := dk_27 (dk_at dksX6_readLink_5 15 rfl rfl)
theorem dX6_readLink_132 : decode cX6_readLink 132 = .ok (.iload 5, 2) := dk_21 5 (dk_at dksX6_readLink_5 16 rfl rfl)
theorem dX6_readLink_134 : decode cX6_readLink 134 = .ok (.iastore, 1) := dk_79 (dk_at dksX6_readLink_5 18 rfl rfl)
theorem dX6_readLink_135 : decode cX6_readLink 135 = .ok (.aload_n 0, 1) := dk_42 (dk_at dksX6_readLink_5 19 rfl rfl)
theorem dX6_readLink_136 : decode cX6_readLink 136 = .ok (.getfield 35, 3) := dk_180 0 35 (dk_at dksX6_readLink_5 20 rfl rfl)
theorem dX6_readLink_139 : decode cX6_readLink 139 = .ok (.iload_n 1, 1) := dk_27 (dk_at dksX6_readLink_5 23 rfl rfl)
theorem dX6_readLink_140 : decode cX6_readLink 140 = .ok (.iload 6, 2) := dk_21 6 (dk_at dksX6_readLink_6 0 rfl rfl)
theorem dX6_readLink_142 : decode cX6_readLink 142 = .ok (.iastore, 1) := dk_79 (dk_at dksX6_readLink_6 2 rfl rfl)
theorem dX6_readLink_143 : decode cX6_readLink 143 = .ok (.aload_n 0, 1) := dk_42 (dk_at dksX6_readLink_6 3 rfl rfl)
theorem dX6_readLink_144 : decode cX6_readLink 144 = .ok (.iconst 0, 1) := dk_3 (dk_at dksX6_readLink_6 4 rfl rfl)
theorem dX6_readLink_145 : decode cX6_readLink 145 = .ok (.aload_n 0, 1) := dk_42 (dk_at dksX6_readLink_6 5 rfl rfl)
theorem dX6_readLink_146 : decode cX6_readLink 146 = .ok (.iconst 0, 1) := dk_3 (dk_at dksX6_readLink_6 6 rfl rfl)
theorem dX6_readLink_147 : decode cX6_readLink 147 = .ok (.invokevirtual 185, 3) := dk_182 0 185 (dk_at dksX6_readLink_6 7 rfl rfl)
theorem dX6_readLink_150 : decode cX6_readLink 150 = .ok (.iconst 1, 1) := dk_4 (dk_at dksX6_readLink_6 10 rfl rfl)
theorem dX6_readLink_151 : decode cX6_readLink 151 = .ok (.iadd, 1) := dk_96 (dk_at dksX6_readLink_6 11 rfl rfl)
theorem dX6_readLink_152 : decode cX6_readLink 152 = .ok (.invokevirtual 197, 3) := dk_182 0 197 (dk_at dksX6_readLink_6 12 rfl rfl)
theorem dX6_readLink_155 : decode cX6_readLink 155 = .ok (.return_, 1) := dk_177 (dk_at dksX6_readLink_6 15 rfl rfl)
abbrev cX6_newName : ByteArray := prog_18_method_17_code
def yX6_newName : MethodName := ⟨RX6, "newName", "([III)V"⟩
def dkwX6_newName_3 : List UInt8 := [177]
abbrev dktX6_newName_3 : List UInt8 := dkwX6_newName_3 ++ []
def dkwX6_newName_2 : List UInt8 := [182, 0, 174, 42, 180, 0, 165, 153, 0, 4, 177, 43, 28, 29, 96, 42, 180, 0, 144, 79, 42, 182, 0, 171]
abbrev dktX6_newName_2 : List UInt8 := dkwX6_newName_2 ++ dktX6_newName_3
def dkwX6_newName_1 : List UInt8 := [182, 0, 174, 167, 0, 22, 43, 28, 29, 42, 180, 0, 144, 184, 0, 181, 2, 159, 0, 8, 42, 6]
abbrev dktX6_newName_1 : List UInt8 := dkwX6_newName_1 ++ dktX6_newName_2
def dkwX6_newName_0 : List UInt8 := [42, 182, 0, 178, 42, 180, 0, 165, 153, 0, 4, 177, 42, 180, 0, 134, 4, 159, 0, 11, 42, 4]
abbrev dktX6_newName_0 : List UInt8 := dkwX6_newName_0 ++ dktX6_newName_1
theorem dksX6_newName_0 : cX6_newName.data.toList.drop 0 = dktX6_newName_0 := by decide +kernel
theorem dksX6_newName_1 : cX6_newName.data.toList.drop 22 = dktX6_newName_1 := dk_seg dksX6_newName_0 22 rfl rfl
theorem dksX6_newName_2 : cX6_newName.data.toList.drop 44 = dktX6_newName_2 := dk_seg dksX6_newName_1 22 rfl rfl
theorem dksX6_newName_3 : cX6_newName.data.toList.drop 68 = dktX6_newName_3 := dk_seg dksX6_newName_2 24 rfl rfl
theorem dX6_newName_0 : decode cX6_newName 0 = .ok (.aload_n 0, 1) := dk_42 (dk_at dksX6_newName_0 0 rfl rfl)
theorem dX6_newName_1 : decode cX6_newName 1 = .ok (.invokevirtual 178, 3) := dk_182 0 178 (dk_at dksX6_newName_0 1 rfl rfl)
theorem dX6_newName_4 : decode cX6_newName 4 = .ok (.aload_n 0, 1) := dk_42 (dk_at dksX6_newName_0 4 rfl rfl)
theorem dX6_newName_5 : decode cX6_newName 5 = .ok (.getfield 165, 3) := dk_180 0 165 (dk_at dksX6_newName_0 5 rfl rfl)
theorem dX6_newName_8 : decode cX6_newName 8 = .ok (.ifCond .eq 4, 3) := dk_153 0 4 (dk_at dksX6_newName_0 8 rfl rfl)
theorem dX6_newName_11 : decode cX6_newName 11 = .ok (.return_, 1) := dk_177 (dk_at dksX6_newName_0 11 rfl rfl)
theorem dX6_newName_12 : decode cX6_newName 12 = .ok (.aload_n 0, 1) := dk_42 (dk_at dksX6_newName_0 12 rfl rfl)
theorem dX6_newName_13 : decode cX6_newName 13 = .ok (.getfield 134, 3) := dk_180 0 134 (dk_at dksX6_newName_0 13 rfl rfl)
theorem dX6_newName_16 : decode cX6_newName 16 = .ok (.iconst 1, 1) := dk_4 (dk_at dksX6_newName_0 16 rfl rfl)
theorem dX6_newName_17 : decode cX6_newName 17 = .ok (.if_icmp .eq 11, 3) := dk_159 0 11 (dk_at dksX6_newName_0 17 rfl rfl)
theorem dX6_newName_20 : decode cX6_newName 20 = .ok (.aload_n 0, 1) := dk_42 (dk_at dksX6_newName_0 20 rfl rfl)
theorem dX6_newName_21 : decode cX6_newName 21 = .ok (.iconst 1, 1) := dk_4 (dk_at dksX6_newName_0 21 rfl rfl)
theorem dX6_newName_22 : decode cX6_newName 22 = .ok (.invokevirtual 174, 3) := dk_182 0 174 (dk_at dksX6_newName_1 0 rfl rfl)
theorem dX6_newName_25 : decode cX6_newName 25 = .ok (.goto 22, 3) := dk_167 0 22 (dk_at dksX6_newName_1 3 rfl rfl)
theorem dX6_newName_28 : decode cX6_newName 28 = .ok (.aload_n 1, 1) := dk_43 (dk_at dksX6_newName_1 6 rfl rfl)
theorem dX6_newName_29 : decode cX6_newName 29 = .ok (.iload_n 2, 1) := dk_28 (dk_at dksX6_newName_1 7 rfl rfl)
theorem dX6_newName_30 : decode cX6_newName 30 = .ok (.iload_n 3, 1) := dk_29 (dk_at dksX6_newName_1 8 rfl rfl)
theorem dX6_newName_31 : decode cX6_newName 31 = .ok (.aload_n 0, 1) := dk_42 (dk_at dksX6_newName_1 9 rfl rfl)
theorem dX6_newName_32 : decode cX6_newName 32 = .ok (.getfield 144, 3) := dk_180 0 144 (dk_at dksX6_newName_1 10 rfl rfl)
theorem dX6_newName_35 : decode cX6_newName 35 = .ok (.invokestatic 181, 3) := dk_184 0 181 (dk_at dksX6_newName_1 13 rfl rfl)
theorem dX6_newName_38 : decode cX6_newName 38 = .ok (.iconst (-1), 1) := dk_2 (dk_at dksX6_newName_1 16 rfl rfl)
theorem dX6_newName_39 : decode cX6_newName 39 = .ok (.if_icmp .eq 8, 3) := dk_159 0 8 (dk_at dksX6_newName_1 17 rfl rfl)
theorem dX6_newName_42 : decode cX6_newName 42 = .ok (.aload_n 0, 1) := dk_42 (dk_at dksX6_newName_1 20 rfl rfl)
theorem dX6_newName_43 : decode cX6_newName 43 = .ok (.iconst 3, 1) := dk_6 (dk_at dksX6_newName_1 21 rfl rfl)
theorem dX6_newName_44 : decode cX6_newName 44 = .ok (.invokevirtual 174, 3) := dk_182 0 174 (dk_at dksX6_newName_2 0 rfl rfl)
theorem dX6_newName_47 : decode cX6_newName 47 = .ok (.aload_n 0, 1) := dk_42 (dk_at dksX6_newName_2 3 rfl rfl)
theorem dX6_newName_48 : decode cX6_newName 48 = .ok (.getfield 165, 3) := dk_180 0 165 (dk_at dksX6_newName_2 4 rfl rfl)
theorem dX6_newName_51 : decode cX6_newName 51 = .ok (.ifCond .eq 4, 3) := dk_153 0 4 (dk_at dksX6_newName_2 7 rfl rfl)
theorem dX6_newName_54 : decode cX6_newName 54 = .ok (.return_, 1) := dk_177 (dk_at dksX6_newName_2 10 rfl rfl)
theorem dX6_newName_55 : decode cX6_newName 55 = .ok (.aload_n 1, 1) := dk_43 (dk_at dksX6_newName_2 11 rfl rfl)
theorem dX6_newName_56 : decode cX6_newName 56 = .ok (.iload_n 2, 1) := dk_28 (dk_at dksX6_newName_2 12 rfl rfl)
theorem dX6_newName_57 : decode cX6_newName 57 = .ok (.iload_n 3, 1) := dk_29 (dk_at dksX6_newName_2 13 rfl rfl)
theorem dX6_newName_58 : decode cX6_newName 58 = .ok (.iadd, 1) := dk_96 (dk_at dksX6_newName_2 14 rfl rfl)
theorem dX6_newName_59 : decode cX6_newName 59 = .ok (.aload_n 0, 1) := dk_42 (dk_at dksX6_newName_2 15 rfl rfl)
theorem dX6_newName_60 : decode cX6_newName 60 = .ok (.getfield 144, 3) := dk_180 0 144 (dk_at dksX6_newName_2 16 rfl rfl)
theorem dX6_newName_63 : decode cX6_newName 63 = .ok (.iastore, 1) := dk_79 (dk_at dksX6_newName_2 19 rfl rfl)
theorem dX6_newName_64 : decode cX6_newName 64 = .ok (.aload_n 0, 1) := dk_42 (dk_at dksX6_newName_2 20 rfl rfl)
theorem dX6_newName_65 : decode cX6_newName 65 = .ok (.invokevirtual 171, 3) := dk_182 0 171 (dk_at dksX6_newName_2 21 rfl rfl)
theorem dX6_newName_68 : decode cX6_newName 68 = .ok (.return_, 1) := dk_177 (dk_at dksX6_newName_3 0 rfl rfl)
abbrev cX6_goOn : ByteArray := prog_18_method_11_code
def yX6_goOn : MethodName := ⟨RX6, "goOn", "()V"⟩
def dkwX6_goOn_0 : List UInt8 := [42, 180, 0, 165, 154, 0, 7, 42, 182, 0, 171, 177]
abbrev dktX6_goOn_0 : List UInt8 := dkwX6_goOn_0 ++ []
theorem dksX6_goOn_0 : cX6_goOn.data.toList.drop 0 = dktX6_goOn_0 := by decide +kernel
theorem dX6_goOn_0 : decode cX6_goOn 0 = .ok (.aload_n 0, 1) := dk_42 (dk_at dksX6_goOn_0 0 rfl rfl)
theorem dX6_goOn_1 : decode cX6_goOn 1 = .ok (.getfield 165, 3) := dk_180 0 165 (dk_at dksX6_goOn_0 1 rfl rfl)
theorem dX6_goOn_4 : decode cX6_goOn 4 = .ok (.ifCond .ne 7, 3) := dk_154 0 7 (dk_at dksX6_goOn_0 4 rfl rfl)
theorem dX6_goOn_7 : decode cX6_goOn 7 = .ok (.aload_n 0, 1) := dk_42 (dk_at dksX6_goOn_0 7 rfl rfl)
theorem dX6_goOn_8 : decode cX6_goOn 8 = .ok (.invokevirtual 171, 3) := dk_182 0 171 (dk_at dksX6_goOn_0 8 rfl rfl)
theorem dX6_goOn_11 : decode cX6_goOn 11 = .ok (.return_, 1) := dk_177 (dk_at dksX6_goOn_0 11 rfl rfl)
abbrev cX6_foundIn : ByteArray := prog_18_method_16_code
def yX6_foundIn : MethodName := ⟨RX6, "foundIn", "([IIII)I"⟩
def dkwX6_foundIn_1 : List UInt8 := [132, 4, 1, 167, 255, 234, 2, 172]
abbrev dktX6_foundIn_1 : List UInt8 := dkwX6_foundIn_1 ++ []
def dkwX6_foundIn_0 : List UInt8 := [3, 54, 4, 21, 4, 28, 162, 0, 22, 42, 27, 21, 4, 96, 46, 29, 160, 0, 6, 21, 4, 172]
abbrev dktX6_foundIn_0 : List UInt8 := dkwX6_foundIn_0 ++ dktX6_foundIn_1
theorem dksX6_foundIn_0 : cX6_foundIn.data.toList.drop 0 = dktX6_foundIn_0 := by decide +kernel
theorem dksX6_foundIn_1 : cX6_foundIn.data.toList.drop 22 = dktX6_foundIn_1 := dk_seg dksX6_foundIn_0 22 rfl rfl
theorem dX6_foundIn_0 : decode cX6_foundIn 0 = .ok (.iconst 0, 1) := dk_3 (dk_at dksX6_foundIn_0 0 rfl rfl)
theorem dX6_foundIn_1 : decode cX6_foundIn 1 = .ok (.istore 4, 2) := dk_54 4 (dk_at dksX6_foundIn_0 1 rfl rfl)
theorem dX6_foundIn_3 : decode cX6_foundIn 3 = .ok (.iload 4, 2) := dk_21 4 (dk_at dksX6_foundIn_0 3 rfl rfl)
theorem dX6_foundIn_5 : decode cX6_foundIn 5 = .ok (.iload_n 2, 1) := dk_28 (dk_at dksX6_foundIn_0 5 rfl rfl)
theorem dX6_foundIn_6 : decode cX6_foundIn 6 = .ok (.if_icmp .ge 22, 3) := dk_162 0 22 (dk_at dksX6_foundIn_0 6 rfl rfl)
theorem dX6_foundIn_9 : decode cX6_foundIn 9 = .ok (.aload_n 0, 1) := dk_42 (dk_at dksX6_foundIn_0 9 rfl rfl)
theorem dX6_foundIn_10 : decode cX6_foundIn 10 = .ok (.iload_n 1, 1) := dk_27 (dk_at dksX6_foundIn_0 10 rfl rfl)
theorem dX6_foundIn_11 : decode cX6_foundIn 11 = .ok (.iload 4, 2) := dk_21 4 (dk_at dksX6_foundIn_0 11 rfl rfl)
theorem dX6_foundIn_13 : decode cX6_foundIn 13 = .ok (.iadd, 1) := dk_96 (dk_at dksX6_foundIn_0 13 rfl rfl)
theorem dX6_foundIn_14 : decode cX6_foundIn 14 = .ok (.iaload, 1) := dk_46 (dk_at dksX6_foundIn_0 14 rfl rfl)
theorem dX6_foundIn_15 : decode cX6_foundIn 15 = .ok (.iload_n 3, 1) := dk_29 (dk_at dksX6_foundIn_0 15 rfl rfl)
theorem dX6_foundIn_16 : decode cX6_foundIn 16 = .ok (.if_icmp .ne 6, 3) := dk_160 0 6 (dk_at dksX6_foundIn_0 16 rfl rfl)
theorem dX6_foundIn_19 : decode cX6_foundIn 19 = .ok (.iload 4, 2) := dk_21 4 (dk_at dksX6_foundIn_0 19 rfl rfl)
theorem dX6_foundIn_21 : decode cX6_foundIn 21 = .ok (.ireturn, 1) := dk_172 (dk_at dksX6_foundIn_0 21 rfl rfl)
theorem dX6_foundIn_22 : decode cX6_foundIn 22 = .ok (.iinc 4 1, 3) := dk_132 4 1 (dk_at dksX6_foundIn_1 0 rfl rfl)
theorem dX6_foundIn_25 : decode cX6_foundIn 25 = .ok (.goto (-22), 3) := dk_167 255 234 (dk_at dksX6_foundIn_1 3 rfl rfl)
theorem dX6_foundIn_28 : decode cX6_foundIn 28 = .ok (.iconst (-1), 1) := dk_2 (dk_at dksX6_foundIn_1 6 rfl rfl)
theorem dX6_foundIn_29 : decode cX6_foundIn 29 = .ok (.ireturn, 1) := dk_172 (dk_at dksX6_foundIn_1 7 rfl rfl)
abbrev cX6_numeral : ByteArray := prog_18_method_12_code
def yX6_numeral : MethodName := ⟨RX6, "numeral", "(II)I"⟩
def dkwX6_numeral_2 : List UInt8 := [42, 180, 0, 165, 154, 0, 10, 42, 180, 0, 144, 167, 0, 4, 27, 62, 42, 182, 0, 178, 29, 172]
abbrev dktX6_numeral_2 : List UInt8 := dkwX6_numeral_2 ++ []
def dkwX6_numeral_1 : List UInt8 := [167, 0, 24, 42, 180, 0, 144, 27, 161, 0, 11, 42, 180, 0, 144, 28, 164, 0, 8, 42, 5, 182, 0, 174]
abbrev dktX6_numeral_1 : List UInt8 := dkwX6_numeral_1 ++ dktX6_numeral_2
def dkwX6_numeral_0 : List UInt8 := [42, 180, 0, 165, 153, 0, 5, 27, 172, 42, 180, 0, 134, 5, 159, 0, 11, 42, 4, 182, 0, 174]
abbrev dktX6_numeral_0 : List UInt8 := dkwX6_numeral_0 ++ dktX6_numeral_1
theorem dksX6_numeral_0 : cX6_numeral.data.toList.drop 0 = dktX6_numeral_0 := by decide +kernel
theorem dksX6_numeral_1 : cX6_numeral.data.toList.drop 22 = dktX6_numeral_1 := dk_seg dksX6_numeral_0 22 rfl rfl
theorem dksX6_numeral_2 : cX6_numeral.data.toList.drop 46 = dktX6_numeral_2 := dk_seg dksX6_numeral_1 24 rfl rfl
theorem dX6_numeral_0 : decode cX6_numeral 0 = .ok (.aload_n 0, 1) := dk_42 (dk_at dksX6_numeral_0 0 rfl rfl)
theorem dX6_numeral_1 : decode cX6_numeral 1 = .ok (.getfield 165, 3) := dk_180 0 165 (dk_at dksX6_numeral_0 1 rfl rfl)
theorem dX6_numeral_4 : decode cX6_numeral 4 = .ok (.ifCond .eq 5, 3) := dk_153 0 5 (dk_at dksX6_numeral_0 4 rfl rfl)
theorem dX6_numeral_7 : decode cX6_numeral 7 = .ok (.iload_n 1, 1) := dk_27 (dk_at dksX6_numeral_0 7 rfl rfl)
theorem dX6_numeral_8 : decode cX6_numeral 8 = .ok (.ireturn, 1) := dk_172 (dk_at dksX6_numeral_0 8 rfl rfl)
theorem dX6_numeral_9 : decode cX6_numeral 9 = .ok (.aload_n 0, 1) := dk_42 (dk_at dksX6_numeral_0 9 rfl rfl)
theorem dX6_numeral_10 : decode cX6_numeral 10 = .ok (.getfield 134, 3) := dk_180 0 134 (dk_at dksX6_numeral_0 10 rfl rfl)
theorem dX6_numeral_13 : decode cX6_numeral 13 = .ok (.iconst 2, 1) := dk_5 (dk_at dksX6_numeral_0 13 rfl rfl)
theorem dX6_numeral_14 : decode cX6_numeral 14 = .ok (.if_icmp .eq 11, 3) := dk_159 0 11 (dk_at dksX6_numeral_0 14 rfl rfl)
theorem dX6_numeral_17 : decode cX6_numeral 17 = .ok (.aload_n 0, 1) := dk_42 (dk_at dksX6_numeral_0 17 rfl rfl)
theorem dX6_numeral_18 : decode cX6_numeral 18 = .ok (.iconst 1, 1) := dk_4 (dk_at dksX6_numeral_0 18 rfl rfl)
theorem dX6_numeral_19 : decode cX6_numeral 19 = .ok (.invokevirtual 174, 3) := dk_182 0 174 (dk_at dksX6_numeral_0 19 rfl rfl)
theorem dX6_numeral_22 : decode cX6_numeral 22 = .ok (.goto 24, 3) := dk_167 0 24 (dk_at dksX6_numeral_1 0 rfl rfl)
theorem dX6_numeral_25 : decode cX6_numeral 25 = .ok (.aload_n 0, 1) := dk_42 (dk_at dksX6_numeral_1 3 rfl rfl)
theorem dX6_numeral_26 : decode cX6_numeral 26 = .ok (.getfield 144, 3) := dk_180 0 144 (dk_at dksX6_numeral_1 4 rfl rfl)
theorem dX6_numeral_29 : decode cX6_numeral 29 = .ok (.iload_n 1, 1) := dk_27 (dk_at dksX6_numeral_1 7 rfl rfl)
theorem dX6_numeral_30 : decode cX6_numeral 30 = .ok (.if_icmp .lt 11, 3) := dk_161 0 11 (dk_at dksX6_numeral_1 8 rfl rfl)
theorem dX6_numeral_33 : decode cX6_numeral 33 = .ok (.aload_n 0, 1) := dk_42 (dk_at dksX6_numeral_1 11 rfl rfl)
theorem dX6_numeral_34 : decode cX6_numeral 34 = .ok (.getfield 144, 3) := dk_180 0 144 (dk_at dksX6_numeral_1 12 rfl rfl)
theorem dX6_numeral_37 : decode cX6_numeral 37 = .ok (.iload_n 2, 1) := dk_28 (dk_at dksX6_numeral_1 15 rfl rfl)
theorem dX6_numeral_38 : decode cX6_numeral 38 = .ok (.if_icmp .le 8, 3) := dk_164 0 8 (dk_at dksX6_numeral_1 16 rfl rfl)
theorem dX6_numeral_41 : decode cX6_numeral 41 = .ok (.aload_n 0, 1) := dk_42 (dk_at dksX6_numeral_1 19 rfl rfl)
theorem dX6_numeral_42 : decode cX6_numeral 42 = .ok (.iconst 2, 1) := dk_5 (dk_at dksX6_numeral_1 20 rfl rfl)
theorem dX6_numeral_43 : decode cX6_numeral 43 = .ok (.invokevirtual 174, 3) := dk_182 0 174 (dk_at dksX6_numeral_1 21 rfl rfl)
theorem dX6_numeral_46 : decode cX6_numeral 46 = .ok (.aload_n 0, 1) := dk_42 (dk_at dksX6_numeral_2 0 rfl rfl)
theorem dX6_numeral_47 : decode cX6_numeral 47 = .ok (.getfield 165, 3) := dk_180 0 165 (dk_at dksX6_numeral_2 1 rfl rfl)
theorem dX6_numeral_50 : decode cX6_numeral 50 = .ok (.ifCond .ne 10, 3) := dk_154 0 10 (dk_at dksX6_numeral_2 4 rfl rfl)
theorem dX6_numeral_53 : decode cX6_numeral 53 = .ok (.aload_n 0, 1) := dk_42 (dk_at dksX6_numeral_2 7 rfl rfl)
theorem dX6_numeral_54 : decode cX6_numeral 54 = .ok (.getfield 144, 3) := dk_180 0 144 (dk_at dksX6_numeral_2 8 rfl rfl)
theorem dX6_numeral_57 : decode cX6_numeral 57 = .ok (.goto 4, 3) := dk_167 0 4 (dk_at dksX6_numeral_2 11 rfl rfl)
theorem dX6_numeral_60 : decode cX6_numeral 60 = .ok (.iload_n 1, 1) := dk_27 (dk_at dksX6_numeral_2 14 rfl rfl)
theorem dX6_numeral_61 : decode cX6_numeral 61 = .ok (.istore_n 3, 1) := dk_62 (dk_at dksX6_numeral_2 15 rfl rfl)
theorem dX6_numeral_62 : decode cX6_numeral 62 = .ok (.aload_n 0, 1) := dk_42 (dk_at dksX6_numeral_2 16 rfl rfl)
theorem dX6_numeral_63 : decode cX6_numeral 63 = .ok (.invokevirtual 178, 3) := dk_182 0 178 (dk_at dksX6_numeral_2 17 rfl rfl)
theorem dX6_numeral_66 : decode cX6_numeral 66 = .ok (.iload_n 3, 1) := dk_29 (dk_at dksX6_numeral_2 20 rfl rfl)
theorem dX6_numeral_67 : decode cX6_numeral 67 = .ok (.ireturn, 1) := dk_172 (dk_at dksX6_numeral_2 21 rfl rfl)
abbrev cX6_readFlow : ByteArray := prog_18_method_21_code
def yX6_readFlow : MethodName := ⟨RX6, "readFlow", "()V"⟩
def dkwX6_readFlow_4 : List UInt8 := [159, 0, 11, 42, 27, 182, 0, 205, 167, 255, 236, 42, 4, 42, 4, 182, 0, 185, 4, 96, 182, 0, 197, 177]
abbrev dktX6_readFlow_4 : List UInt8 := dkwX6_readFlow_4 ++ []
def dkwX6_readFlow_3 : List UInt8 := [180, 0, 47, 27, 3, 79, 42, 27, 182, 0, 205, 42, 180, 0, 165, 154, 0, 19, 42, 180, 0, 134, 6]
abbrev dktX6_readFlow_3 : List UInt8 := dkwX6_readFlow_3 ++ dktX6_readFlow_4
def dkwX6_readFlow_2 : List UInt8 := [180, 0, 165, 153, 0, 4, 177, 42, 180, 0, 41, 27, 28, 79, 42, 180, 0, 44, 27, 3, 84, 42]
abbrev dktX6_readFlow_2 : List UInt8 := dkwX6_readFlow_2 ++ dktX6_readFlow_3
def dkwX6_readFlow_1 : List UInt8 := [180, 0, 38, 16, 8, 42, 4, 182, 0, 185, 182, 0, 189, 42, 4, 17, 4, 0, 182, 0, 193, 61, 42]
abbrev dktX6_readFlow_1 : List UInt8 := dkwX6_readFlow_1 ++ dktX6_readFlow_2
def dkwX6_readFlow_0 : List UInt8 := [16, 8, 42, 4, 182, 0, 185, 96, 60, 27, 16, 16, 160, 0, 8, 42, 5, 182, 0, 174, 42, 42]
abbrev dktX6_readFlow_0 : List UInt8 := dkwX6_readFlow_0 ++ dktX6_readFlow_1
theorem dksX6_readFlow_0 : cX6_readFlow.data.toList.drop 0 = dktX6_readFlow_0 := by decide +kernel
theorem dksX6_readFlow_1 : cX6_readFlow.data.toList.drop 22 = dktX6_readFlow_1 := dk_seg dksX6_readFlow_0 22 rfl rfl
theorem dksX6_readFlow_2 : cX6_readFlow.data.toList.drop 45 = dktX6_readFlow_2 := dk_seg dksX6_readFlow_1 23 rfl rfl
theorem dksX6_readFlow_3 : cX6_readFlow.data.toList.drop 67 = dktX6_readFlow_3 := dk_seg dksX6_readFlow_2 22 rfl rfl
theorem dksX6_readFlow_4 : cX6_readFlow.data.toList.drop 90 = dktX6_readFlow_4 := dk_seg dksX6_readFlow_3 23 rfl rfl
theorem dX6_readFlow_0 : decode cX6_readFlow 0 = .ok (.bipush 8, 2) := dk_16 8 (dk_at dksX6_readFlow_0 0 rfl rfl)
theorem dX6_readFlow_2 : decode cX6_readFlow 2 = .ok (.aload_n 0, 1) := dk_42 (dk_at dksX6_readFlow_0 2 rfl rfl)
theorem dX6_readFlow_3 : decode cX6_readFlow 3 = .ok (.iconst 1, 1) := dk_4 (dk_at dksX6_readFlow_0 3 rfl rfl)
theorem dX6_readFlow_4 : decode cX6_readFlow 4 = .ok (.invokevirtual 185, 3) := dk_182 0 185 (dk_at dksX6_readFlow_0 4 rfl rfl)
theorem dX6_readFlow_7 : decode cX6_readFlow 7 = .ok (.iadd, 1) := dk_96 (dk_at dksX6_readFlow_0 7 rfl rfl)
theorem dX6_readFlow_8 : decode cX6_readFlow 8 = .ok (.istore_n 1, 1) := dk_60 (dk_at dksX6_readFlow_0 8 rfl rfl)
theorem dX6_readFlow_9 : decode cX6_readFlow 9 = .ok (.iload_n 1, 1) := dk_27 (dk_at dksX6_readFlow_0 9 rfl rfl)
theorem dX6_readFlow_10 : decode cX6_readFlow 10 = .ok (.bipush 16, 2) := dk_16 16 (dk_at dksX6_readFlow_0 10 rfl rfl)
theorem dX6_readFlow_12 : decode cX6_readFlow 12 = .ok (.if_icmp .ne 8, 3) := dk_160 0 8 (dk_at dksX6_readFlow_0 12 rfl rfl)
theorem dX6_readFlow_15 : decode cX6_readFlow 15 = .ok (.aload_n 0, 1) := dk_42 (dk_at dksX6_readFlow_0 15 rfl rfl)
theorem dX6_readFlow_16 : decode cX6_readFlow 16 = .ok (.iconst 2, 1) := dk_5 (dk_at dksX6_readFlow_0 16 rfl rfl)
theorem dX6_readFlow_17 : decode cX6_readFlow 17 = .ok (.invokevirtual 174, 3) := dk_182 0 174 (dk_at dksX6_readFlow_0 17 rfl rfl)
theorem dX6_readFlow_20 : decode cX6_readFlow 20 = .ok (.aload_n 0, 1) := dk_42 (dk_at dksX6_readFlow_0 20 rfl rfl)
theorem dX6_readFlow_21 : decode cX6_readFlow 21 = .ok (.aload_n 0, 1) := dk_42 (dk_at dksX6_readFlow_0 21 rfl rfl)
theorem dX6_readFlow_22 : decode cX6_readFlow 22 = .ok (.getfield 38, 3) := dk_180 0 38 (dk_at dksX6_readFlow_1 0 rfl rfl)
theorem dX6_readFlow_25 : decode cX6_readFlow 25 = .ok (.bipush 8, 2) := dk_16 8 (dk_at dksX6_readFlow_1 3 rfl rfl)
theorem dX6_readFlow_27 : decode cX6_readFlow 27 = .ok (.aload_n 0, 1) := dk_42 (dk_at dksX6_readFlow_1 5 rfl rfl)
theorem dX6_readFlow_28 : decode cX6_readFlow 28 = .ok (.iconst 1, 1) := dk_4 (dk_at dksX6_readFlow_1 6 rfl rfl)
theorem dX6_readFlow_29 : decode cX6_readFlow 29 = .ok (.invokevirtual 185, 3) := dk_182 0 185 (dk_at dksX6_readFlow_1 7 rfl rfl)
theorem dX6_readFlow_32 : decode cX6_readFlow 32 = .ok (.invokevirtual 189, 3) := dk_182 0 189 (dk_at dksX6_readFlow_1 10 rfl rfl)
theorem dX6_readFlow_35 : decode cX6_readFlow 35 = .ok (.aload_n 0, 1) := dk_42 (dk_at dksX6_readFlow_1 13 rfl rfl)
theorem dX6_readFlow_36 : decode cX6_readFlow 36 = .ok (.iconst 1, 1) := dk_4 (dk_at dksX6_readFlow_1 14 rfl rfl)
theorem dX6_readFlow_37 : decode cX6_readFlow 37 = .ok (.sipush 1024, 3) := dk_17 4 0 (dk_at dksX6_readFlow_1 15 rfl rfl)
theorem dX6_readFlow_40 : decode cX6_readFlow 40 = .ok (.invokevirtual 193, 3) := dk_182 0 193 (dk_at dksX6_readFlow_1 18 rfl rfl)
theorem dX6_readFlow_43 : decode cX6_readFlow 43 = .ok (.istore_n 2, 1) := dk_61 (dk_at dksX6_readFlow_1 21 rfl rfl)
theorem dX6_readFlow_44 : decode cX6_readFlow 44 = .ok (.aload_n 0, 1) := dk_42 (dk_at dksX6_readFlow_1 22 rfl rfl)
theorem dX6_readFlow_45 : decode cX6_readFlow 45 = .ok (.getfield 165, 3) := dk_180 0 165 (dk_at dksX6_readFlow_2 0 rfl rfl)
theorem dX6_readFlow_48 : decode cX6_readFlow 48 = .ok (.ifCond .eq 4, 3) := dk_153 0 4 (dk_at dksX6_readFlow_2 3 rfl rfl)
theorem dX6_readFlow_51 : decode cX6_readFlow 51 = .ok (.return_, 1) := dk_177 (dk_at dksX6_readFlow_2 6 rfl rfl)
theorem dX6_readFlow_52 : decode cX6_readFlow 52 = .ok (.aload_n 0, 1) := dk_42 (dk_at dksX6_readFlow_2 7 rfl rfl)
theorem dX6_readFlow_53 : decode cX6_readFlow 53 = .ok (.getfield 41, 3) := dk_180 0 41 (dk_at dksX6_readFlow_2 8 rfl rfl)
theorem dX6_readFlow_56 : decode cX6_readFlow 56 = .ok (.iload_n 1, 1) := dk_27 (dk_at dksX6_readFlow_2 11 rfl rfl)
theorem dX6_readFlow_57 : decode cX6_readFlow 57 = .ok (.iload_n 2, 1) := dk_28 (dk_at dksX6_readFlow_2 12 rfl rfl)
theorem dX6_readFlow_58 : decode cX6_readFlow 58 = .ok (.iastore, 1) := dk_79 (dk_at dksX6_readFlow_2 13 rfl rfl)
theorem dX6_readFlow_59 : decode cX6_readFlow 59 = .ok (.aload_n 0, 1) := dk_42 (dk_at dksX6_readFlow_2 14 rfl rfl)
theorem dX6_readFlow_60 : decode cX6_readFlow 60 = .ok (.getfield 44, 3) := dk_180 0 44 (dk_at dksX6_readFlow_2 15 rfl rfl)
theorem dX6_readFlow_63 : decode cX6_readFlow 63 = .ok (.iload_n 1, 1) := dk_27 (dk_at dksX6_readFlow_2 18 rfl rfl)
theorem dX6_readFlow_64 : decode cX6_readFlow 64 = .ok (.iconst 0, 1) := dk_3 (dk_at dksX6_readFlow_2 19 rfl rfl)
theorem dX6_readFlow_65 : decode cX6_readFlow 65 = .ok (.bastore, 1) := dk_84 (dk_at dksX6_readFlow_2 20 rfl rfl)
theorem dX6_readFlow_66 : decode cX6_readFlow 66 = .ok (.aload_n 0, 1) := dk_42 (dk_at dksX6_readFlow_2 21 rfl rfl)
theorem dX6_readFlow_67 : decode cX6_readFlow 67 = .ok (.getfield 47, 3) := dk_180 0 47 (dk_at dksX6_readFlow_3 0 rfl rfl)
theorem dX6_readFlow_70 : decode cX6_readFlow 70 = .ok (.iload_n 1, 1) := dk_27 (dk_at dksX6_readFlow_3 3 rfl rfl)
theorem dX6_readFlow_71 : decode cX6_readFlow 71 = .ok (.iconst 0, 1) := dk_3 (dk_at dksX6_readFlow_3 4 rfl rfl)
theorem dX6_readFlow_72 : decode cX6_readFlow 72 = .ok (.iastore, 1) := dk_79 (dk_at dksX6_readFlow_3 5 rfl rfl)
theorem dX6_readFlow_73 : decode cX6_readFlow 73 = .ok (.aload_n 0, 1) := dk_42 (dk_at dksX6_readFlow_3 6 rfl rfl)
theorem dX6_readFlow_74 : decode cX6_readFlow 74 = .ok (.iload_n 1, 1) := dk_27 (dk_at dksX6_readFlow_3 7 rfl rfl)
theorem dX6_readFlow_75 : decode cX6_readFlow 75 = .ok (.invokevirtual 205, 3) := dk_182 0 205 (dk_at dksX6_readFlow_3 8 rfl rfl)
theorem dX6_readFlow_78 : decode cX6_readFlow 78 = .ok (.aload_n 0, 1) := dk_42 (dk_at dksX6_readFlow_3 11 rfl rfl)
theorem dX6_readFlow_79 : decode cX6_readFlow 79 = .ok (.getfield 165, 3) := dk_180 0 165 (dk_at dksX6_readFlow_3 12 rfl rfl)
theorem dX6_readFlow_82 : decode cX6_readFlow 82 = .ok (.ifCond .ne 19, 3) := dk_154 0 19 (dk_at dksX6_readFlow_3 15 rfl rfl)
theorem dX6_readFlow_85 : decode cX6_readFlow 85 = .ok (.aload_n 0, 1) := dk_42 (dk_at dksX6_readFlow_3 18 rfl rfl)
theorem dX6_readFlow_86 : decode cX6_readFlow 86 = .ok (.getfield 134, 3) := dk_180 0 134 (dk_at dksX6_readFlow_3 19 rfl rfl)
theorem dX6_readFlow_89 : decode cX6_readFlow 89 = .ok (.iconst 3, 1) := dk_6 (dk_at dksX6_readFlow_3 22 rfl rfl)
theorem dX6_readFlow_90 : decode cX6_readFlow 90 = .ok (.if_icmp .eq 11, 3) := dk_159 0 11 (dk_at dksX6_readFlow_4 0 rfl rfl)
theorem dX6_readFlow_93 : decode cX6_readFlow 93 = .ok (.aload_n 0, 1) := dk_42 (dk_at dksX6_readFlow_4 3 rfl rfl)
theorem dX6_readFlow_94 : decode cX6_readFlow 94 = .ok (.iload_n 1, 1) := dk_27 (dk_at dksX6_readFlow_4 4 rfl rfl)
theorem dX6_readFlow_95 : decode cX6_readFlow 95 = .ok (.invokevirtual 205, 3) := dk_182 0 205 (dk_at dksX6_readFlow_4 5 rfl rfl)
theorem dX6_readFlow_98 : decode cX6_readFlow 98 = .ok (.goto (-20), 3) := dk_167 255 236 (dk_at dksX6_readFlow_4 8 rfl rfl)
theorem dX6_readFlow_101 : decode cX6_readFlow 101 = .ok (.aload_n 0, 1) := dk_42 (dk_at dksX6_readFlow_4 11 rfl rfl)
theorem dX6_readFlow_102 : decode cX6_readFlow 102 = .ok (.iconst 1, 1) := dk_4 (dk_at dksX6_readFlow_4 12 rfl rfl)
theorem dX6_readFlow_103 : decode cX6_readFlow 103 = .ok (.aload_n 0, 1) := dk_42 (dk_at dksX6_readFlow_4 13 rfl rfl)
theorem dX6_readFlow_104 : decode cX6_readFlow 104 = .ok (.iconst 1, 1) := dk_4 (dk_at dksX6_readFlow_4 14 rfl rfl)
theorem dX6_readFlow_105 : decode cX6_readFlow 105 = .ok (.invokevirtual 185, 3) := dk_182 0 185 (dk_at dksX6_readFlow_4 15 rfl rfl)
theorem dX6_readFlow_108 : decode cX6_readFlow 108 = .ok (.iconst 1, 1) := dk_4 (dk_at dksX6_readFlow_4 18 rfl rfl)
theorem dX6_readFlow_109 : decode cX6_readFlow 109 = .ok (.iadd, 1) := dk_96 (dk_at dksX6_readFlow_4 19 rfl rfl)
theorem dX6_readFlow_110 : decode cX6_readFlow 110 = .ok (.invokevirtual 197, 3) := dk_182 0 197 (dk_at dksX6_readFlow_4 20 rfl rfl)
theorem dX6_readFlow_113 : decode cX6_readFlow 113 = .ok (.return_, 1) := dk_177 (dk_at dksX6_readFlow_4 23 rfl rfl)
abbrev cX6_readHop : ByteArray := prog_18_method_20_code
def yX6_readHop : MethodName := ⟨RX6, "readHop", "(I)V"⟩
def dkwX6_readHop_5 : List UInt8 := [180, 0, 47, 27, 92, 46, 4, 96, 79, 42, 182, 0, 171, 177]
abbrev dktX6_readHop_5 : List UInt8 := dkwX6_readHop_5 ++ []
def dkwX6_readHop_4 : List UInt8 := [180, 0, 165, 153, 0, 4, 177, 42, 180, 0, 50, 8, 27, 104, 42, 180, 0, 47, 27, 46, 96, 28, 79, 42]
abbrev dktX6_readHop_4 : List UInt8 := dkwX6_readHop_4 ++ dktX6_readHop_5
def dkwX6_readHop_3 : List UInt8 := [7, 182, 0, 174, 167, 0, 17, 42, 27, 28, 182, 0, 201, 153, 0, 8, 42, 6, 182, 0, 174, 42]
abbrev dktX6_readHop_3 : List UInt8 := dkwX6_readHop_3 ++ dktX6_readHop_4
def dkwX6_readHop_2 : List UInt8 := [180, 0, 20, 16, 10, 42, 3, 182, 0, 185, 42, 180, 0, 144, 184, 0, 181, 61, 28, 2, 160, 0, 11, 42]
abbrev dktX6_readHop_2 : List UInt8 := dkwX6_readHop_2 ++ dktX6_readHop_3
def dkwX6_readHop_1 : List UInt8 := [180, 0, 47, 27, 46, 8, 160, 0, 8, 42, 5, 182, 0, 174, 42, 180, 0, 165, 153, 0, 4, 177, 42]
abbrev dktX6_readHop_1 : List UInt8 := dkwX6_readHop_1 ++ dktX6_readHop_2
def dkwX6_readHop_0 : List UInt8 := [42, 180, 0, 134, 153, 0, 11, 42, 180, 0, 134, 4, 159, 0, 11, 42, 4, 182, 0, 174, 167, 0, 18, 42]
abbrev dktX6_readHop_0 : List UInt8 := dkwX6_readHop_0 ++ dktX6_readHop_1
theorem dksX6_readHop_0 : cX6_readHop.data.toList.drop 0 = dktX6_readHop_0 := by decide +kernel
theorem dksX6_readHop_1 : cX6_readHop.data.toList.drop 24 = dktX6_readHop_1 := dk_seg dksX6_readHop_0 24 rfl rfl
theorem dksX6_readHop_2 : cX6_readHop.data.toList.drop 47 = dktX6_readHop_2 := dk_seg dksX6_readHop_1 23 rfl rfl
theorem dksX6_readHop_3 : cX6_readHop.data.toList.drop 71 = dktX6_readHop_3 := dk_seg dksX6_readHop_2 24 rfl rfl
theorem dksX6_readHop_4 : cX6_readHop.data.toList.drop 93 = dktX6_readHop_4 := dk_seg dksX6_readHop_3 22 rfl rfl
theorem dksX6_readHop_5 : cX6_readHop.data.toList.drop 117 = dktX6_readHop_5 := dk_seg dksX6_readHop_4 24 rfl rfl
theorem dX6_readHop_0 : decode cX6_readHop 0 = .ok (.aload_n 0, 1) := dk_42 (dk_at dksX6_readHop_0 0 rfl rfl)
theorem dX6_readHop_1 : decode cX6_readHop 1 = .ok (.getfield 134, 3) := dk_180 0 134 (dk_at dksX6_readHop_0 1 rfl rfl)
theorem dX6_readHop_4 : decode cX6_readHop 4 = .ok (.ifCond .eq 11, 3) := dk_153 0 11 (dk_at dksX6_readHop_0 4 rfl rfl)
theorem dX6_readHop_7 : decode cX6_readHop 7 = .ok (.aload_n 0, 1) := dk_42 (dk_at dksX6_readHop_0 7 rfl rfl)
theorem dX6_readHop_8 : decode cX6_readHop 8 = .ok (.getfield 134, 3) := dk_180 0 134 (dk_at dksX6_readHop_0 8 rfl rfl)
theorem dX6_readHop_11 : decode cX6_readHop 11 = .ok (.iconst 1, 1) := dk_4 (dk_at dksX6_readHop_0 11 rfl rfl)
theorem dX6_readHop_12 : decode cX6_readHop 12 = .ok (.if_icmp .eq 11, 3) := dk_159 0 11 (dk_at dksX6_readHop_0 12 rfl rfl)
theorem dX6_readHop_15 : decode cX6_readHop 15 = .ok (.aload_n 0, 1) := dk_42 (dk_at dksX6_readHop_0 15 rfl rfl)
theorem dX6_readHop_16 : decode cX6_readHop 16 = .ok (.iconst 1, 1) := dk_4 (dk_at dksX6_readHop_0 16 rfl rfl)
theorem dX6_readHop_17 : decode cX6_readHop 17 = .ok (.invokevirtual 174, 3) := dk_182 0 174 (dk_at dksX6_readHop_0 17 rfl rfl)
theorem dX6_readHop_20 : decode cX6_readHop 20 = .ok (.goto 18, 3) := dk_167 0 18 (dk_at dksX6_readHop_0 20 rfl rfl)
theorem dX6_readHop_23 : decode cX6_readHop 23 = .ok (.aload_n 0, 1) := dk_42 (dk_at dksX6_readHop_0 23 rfl rfl)
theorem dX6_readHop_24 : decode cX6_readHop 24 = .ok (.getfield 47, 3) := dk_180 0 47 (dk_at dksX6_readHop_1 0 rfl rfl)
theorem dX6_readHop_27 : decode cX6_readHop 27 = .ok (.iload_n 1, 1) := dk_27 (dk_at dksX6_readHop_1 3 rfl rfl)
theorem dX6_readHop_28 : decode cX6_readHop 28 = .ok (.iaload, 1) := dk_46 (dk_at dksX6_readHop_1 4 rfl rfl)
theorem dX6_readHop_29 : decode cX6_readHop 29 = .ok (.iconst 5, 1) := dk_8 (dk_at dksX6_readHop_1 5 rfl rfl)
theorem dX6_readHop_30 : decode cX6_readHop 30 = .ok (.if_icmp .ne 8, 3) := dk_160 0 8 (dk_at dksX6_readHop_1 6 rfl rfl)
theorem dX6_readHop_33 : decode cX6_readHop 33 = .ok (.aload_n 0, 1) := dk_42 (dk_at dksX6_readHop_1 9 rfl rfl)
theorem dX6_readHop_34 : decode cX6_readHop 34 = .ok (.iconst 2, 1) := dk_5 (dk_at dksX6_readHop_1 10 rfl rfl)
theorem dX6_readHop_35 : decode cX6_readHop 35 = .ok (.invokevirtual 174, 3) := dk_182 0 174 (dk_at dksX6_readHop_1 11 rfl rfl)
theorem dX6_readHop_38 : decode cX6_readHop 38 = .ok (.aload_n 0, 1) := dk_42 (dk_at dksX6_readHop_1 14 rfl rfl)
theorem dX6_readHop_39 : decode cX6_readHop 39 = .ok (.getfield 165, 3) := dk_180 0 165 (dk_at dksX6_readHop_1 15 rfl rfl)
theorem dX6_readHop_42 : decode cX6_readHop 42 = .ok (.ifCond .eq 4, 3) := dk_153 0 4 (dk_at dksX6_readHop_1 18 rfl rfl)
theorem dX6_readHop_45 : decode cX6_readHop 45 = .ok (.return_, 1) := dk_177 (dk_at dksX6_readHop_1 21 rfl rfl)
theorem dX6_readHop_46 : decode cX6_readHop 46 = .ok (.aload_n 0, 1) := dk_42 (dk_at dksX6_readHop_1 22 rfl rfl)
theorem dX6_readHop_47 : decode cX6_readHop 47 = .ok (.getfield 20, 3) := dk_180 0 20 (dk_at dksX6_readHop_2 0 rfl rfl)
theorem dX6_readHop_50 : decode cX6_readHop 50 = .ok (.bipush 10, 2) := dk_16 10 (dk_at dksX6_readHop_2 3 rfl rfl)
theorem dX6_readHop_52 : decode cX6_readHop 52 = .ok (.aload_n 0, 1) := dk_42 (dk_at dksX6_readHop_2 5 rfl rfl)
theorem dX6_readHop_53 : decode cX6_readHop 53 = .ok (.iconst 0, 1) := dk_3 (dk_at dksX6_readHop_2 6 rfl rfl)
theorem dX6_readHop_54 : decode cX6_readHop 54 = .ok (.invokevirtual 185, 3) := dk_182 0 185 (dk_at dksX6_readHop_2 7 rfl rfl)
theorem dX6_readHop_57 : decode cX6_readHop 57 = .ok (.aload_n 0, 1) := dk_42 (dk_at dksX6_readHop_2 10 rfl rfl)
theorem dX6_readHop_58 : decode cX6_readHop 58 = .ok (.getfield 144, 3) := dk_180 0 144 (dk_at dksX6_readHop_2 11 rfl rfl)
theorem dX6_readHop_61 : decode cX6_readHop 61 = .ok (.invokestatic 181, 3) := dk_184 0 181 (dk_at dksX6_readHop_2 14 rfl rfl)
theorem dX6_readHop_64 : decode cX6_readHop 64 = .ok (.istore_n 2, 1) := dk_61 (dk_at dksX6_readHop_2 17 rfl rfl)
theorem dX6_readHop_65 : decode cX6_readHop 65 = .ok (.iload_n 2, 1) := dk_28 (dk_at dksX6_readHop_2 18 rfl rfl)
theorem dX6_readHop_66 : decode cX6_readHop 66 = .ok (.iconst (-1), 1) := dk_2 (dk_at dksX6_readHop_2 19 rfl rfl)
theorem dX6_readHop_67 : decode cX6_readHop 67 = .ok (.if_icmp .ne 11, 3) := dk_160 0 11 (dk_at dksX6_readHop_2 20 rfl rfl)
theorem dX6_readHop_70 : decode cX6_readHop 70 = .ok (.aload_n 0, 1) := dk_42 (dk_at dksX6_readHop_2 23 rfl rfl)
theorem dX6_readHop_71 : decode cX6_readHop 71 = .ok (.iconst 4, 1) := dk_7 (dk_at dksX6_readHop_3 0 rfl rfl)
theorem dX6_readHop_72 : decode cX6_readHop 72 = .ok (.invokevirtual 174, 3) := dk_182 0 174 (dk_at dksX6_readHop_3 1 rfl rfl)
theorem dX6_readHop_75 : decode cX6_readHop 75 = .ok (.goto 17, 3) := dk_167 0 17 (dk_at dksX6_readHop_3 4 rfl rfl)
theorem dX6_readHop_78 : decode cX6_readHop 78 = .ok (.aload_n 0, 1) := dk_42 (dk_at dksX6_readHop_3 7 rfl rfl)
theorem dX6_readHop_79 : decode cX6_readHop 79 = .ok (.iload_n 1, 1) := dk_27 (dk_at dksX6_readHop_3 8 rfl rfl)
theorem dX6_readHop_80 : decode cX6_readHop 80 = .ok (.iload_n 2, 1) := dk_28 (dk_at dksX6_readHop_3 9 rfl rfl)
theorem dX6_readHop_81 : decode cX6_readHop 81 = .ok (.invokevirtual 201, 3) := dk_182 0 201 (dk_at dksX6_readHop_3 10 rfl rfl)
theorem dX6_readHop_84 : decode cX6_readHop 84 = .ok (.ifCond .eq 8, 3) := dk_153 0 8 (dk_at dksX6_readHop_3 13 rfl rfl)
theorem dX6_readHop_87 : decode cX6_readHop 87 = .ok (.aload_n 0, 1) := dk_42 (dk_at dksX6_readHop_3 16 rfl rfl)
theorem dX6_readHop_88 : decode cX6_readHop 88 = .ok (.iconst 3, 1) := dk_6 (dk_at dksX6_readHop_3 17 rfl rfl)
theorem dX6_readHop_89 : decode cX6_readHop 89 = .ok (.invokevirtual 174, 3) := dk_182 0 174 (dk_at dksX6_readHop_3 18 rfl rfl)
theorem dX6_readHop_92 : decode cX6_readHop 92 = .ok (.aload_n 0, 1) := dk_42 (dk_at dksX6_readHop_3 21 rfl rfl)
theorem dX6_readHop_93 : decode cX6_readHop 93 = .ok (.getfield 165, 3) := dk_180 0 165 (dk_at dksX6_readHop_4 0 rfl rfl)
theorem dX6_readHop_96 : decode cX6_readHop 96 = .ok (.ifCond .eq 4, 3) := dk_153 0 4 (dk_at dksX6_readHop_4 3 rfl rfl)
theorem dX6_readHop_99 : decode cX6_readHop 99 = .ok (.return_, 1) := dk_177 (dk_at dksX6_readHop_4 6 rfl rfl)
theorem dX6_readHop_100 : decode cX6_readHop 100 = .ok (.aload_n 0, 1) := dk_42 (dk_at dksX6_readHop_4 7 rfl rfl)
theorem dX6_readHop_101 : decode cX6_readHop 101 = .ok (.getfield 50, 3) := dk_180 0 50 (dk_at dksX6_readHop_4 8 rfl rfl)
theorem dX6_readHop_104 : decode cX6_readHop 104 = .ok (.iconst 5, 1) := dk_8 (dk_at dksX6_readHop_4 11 rfl rfl)
theorem dX6_readHop_105 : decode cX6_readHop 105 = .ok (.iload_n 1, 1) := dk_27 (dk_at dksX6_readHop_4 12 rfl rfl)
theorem dX6_readHop_106 : decode cX6_readHop 106 = .ok (.imul, 1) := dk_104 (dk_at dksX6_readHop_4 13 rfl rfl)
theorem dX6_readHop_107 : decode cX6_readHop 107 = .ok (.aload_n 0, 1) := dk_42 (dk_at dksX6_readHop_4 14 rfl rfl)
theorem dX6_readHop_108 : decode cX6_readHop 108 = .ok (.getfield 47, 3) := dk_180 0 47 (dk_at dksX6_readHop_4 15 rfl rfl)
theorem dX6_readHop_111 : decode cX6_readHop 111 = .ok (.iload_n 1, 1) := dk_27 (dk_at dksX6_readHop_4 18 rfl rfl)
theorem dX6_readHop_112 : decode cX6_readHop 112 = .ok (.iaload, 1) := dk_46 (dk_at dksX6_readHop_4 19 rfl rfl)
theorem dX6_readHop_113 : decode cX6_readHop 113 = .ok (.iadd, 1) := dk_96 (dk_at dksX6_readHop_4 20 rfl rfl)
theorem dX6_readHop_114 : decode cX6_readHop 114 = .ok (.iload_n 2, 1) := dk_28 (dk_at dksX6_readHop_4 21 rfl rfl)
theorem dX6_readHop_115 : decode cX6_readHop 115 = .ok (.iastore, 1) := dk_79 (dk_at dksX6_readHop_4 22 rfl rfl)
theorem dX6_readHop_116 : decode cX6_readHop 116 = .ok (.aload_n 0, 1) := dk_42 (dk_at dksX6_readHop_4 23 rfl rfl)
theorem dX6_readHop_117 : decode cX6_readHop 117 = .ok (.getfield 47, 3) := dk_180 0 47 (dk_at dksX6_readHop_5 0 rfl rfl)
theorem dX6_readHop_120 : decode cX6_readHop 120 = .ok (.iload_n 1, 1) := dk_27 (dk_at dksX6_readHop_5 3 rfl rfl)
theorem dX6_readHop_121 : decode cX6_readHop 121 = .ok (.dup2, 1) := dk_92 (dk_at dksX6_readHop_5 4 rfl rfl)
theorem dX6_readHop_122 : decode cX6_readHop 122 = .ok (.iaload, 1) := dk_46 (dk_at dksX6_readHop_5 5 rfl rfl)
theorem dX6_readHop_123 : decode cX6_readHop 123 = .ok (.iconst 1, 1) := dk_4 (dk_at dksX6_readHop_5 6 rfl rfl)
theorem dX6_readHop_124 : decode cX6_readHop 124 = .ok (.iadd, 1) := dk_96 (dk_at dksX6_readHop_5 7 rfl rfl)
theorem dX6_readHop_125 : decode cX6_readHop 125 = .ok (.iastore, 1) := dk_79 (dk_at dksX6_readHop_5 8 rfl rfl)
theorem dX6_readHop_126 : decode cX6_readHop 126 = .ok (.aload_n 0, 1) := dk_42 (dk_at dksX6_readHop_5 9 rfl rfl)
theorem dX6_readHop_127 : decode cX6_readHop 127 = .ok (.invokevirtual 171, 3) := dk_182 0 171 (dk_at dksX6_readHop_5 10 rfl rfl)
theorem dX6_readHop_130 : decode cX6_readHop 130 = .ok (.return_, 1) := dk_177 (dk_at dksX6_readHop_5 13 rfl rfl)
abbrev cX6_isOnPath : ByteArray := prog_18_method_19_code
def yX6_isOnPath : MethodName := ⟨RX6, "isOnPath", "(II)Z"⟩
def dkwX6_isOnPath_1 : List UInt8 := [160, 0, 5, 4, 172, 132, 3, 1, 167, 255, 227, 3, 172]
abbrev dktX6_isOnPath_1 : List UInt8 := dkwX6_isOnPath_1 ++ []
def dkwX6_isOnPath_0 : List UInt8 := [3, 62, 29, 42, 180, 0, 47, 27, 46, 162, 0, 25, 42, 180, 0, 50, 8, 27, 104, 29, 96, 46, 28]
abbrev dktX6_isOnPath_0 : List UInt8 := dkwX6_isOnPath_0 ++ dktX6_isOnPath_1
theorem dksX6_isOnPath_0 : cX6_isOnPath.data.toList.drop 0 = dktX6_isOnPath_0 := by decide +kernel
theorem dksX6_isOnPath_1 : cX6_isOnPath.data.toList.drop 23 = dktX6_isOnPath_1 := dk_seg dksX6_isOnPath_0 23 rfl rfl
theorem dX6_isOnPath_0 : decode cX6_isOnPath 0 = .ok (.iconst 0, 1) := dk_3 (dk_at dksX6_isOnPath_0 0 rfl rfl)
theorem dX6_isOnPath_1 : decode cX6_isOnPath 1 = .ok (.istore_n 3, 1) := dk_62 (dk_at dksX6_isOnPath_0 1 rfl rfl)
theorem dX6_isOnPath_2 : decode cX6_isOnPath 2 = .ok (.iload_n 3, 1) := dk_29 (dk_at dksX6_isOnPath_0 2 rfl rfl)
theorem dX6_isOnPath_3 : decode cX6_isOnPath 3 = .ok (.aload_n 0, 1) := dk_42 (dk_at dksX6_isOnPath_0 3 rfl rfl)
theorem dX6_isOnPath_4 : decode cX6_isOnPath 4 = .ok (.getfield 47, 3) := dk_180 0 47 (dk_at dksX6_isOnPath_0 4 rfl rfl)
theorem dX6_isOnPath_7 : decode cX6_isOnPath 7 = .ok (.iload_n 1, 1) := dk_27 (dk_at dksX6_isOnPath_0 7 rfl rfl)
theorem dX6_isOnPath_8 : decode cX6_isOnPath 8 = .ok (.iaload, 1) := dk_46 (dk_at dksX6_isOnPath_0 8 rfl rfl)
theorem dX6_isOnPath_9 : decode cX6_isOnPath 9 = .ok (.if_icmp .ge 25, 3) := dk_162 0 25 (dk_at dksX6_isOnPath_0 9 rfl rfl)
theorem dX6_isOnPath_12 : decode cX6_isOnPath 12 = .ok (.aload_n 0, 1) := dk_42 (dk_at dksX6_isOnPath_0 12 rfl rfl)
theorem dX6_isOnPath_13 : decode cX6_isOnPath 13 = .ok (.getfield 50, 3) := dk_180 0 50 (dk_at dksX6_isOnPath_0 13 rfl rfl)
theorem dX6_isOnPath_16 : decode cX6_isOnPath 16 = .ok (.iconst 5, 1) := dk_8 (dk_at dksX6_isOnPath_0 16 rfl rfl)
theorem dX6_isOnPath_17 : decode cX6_isOnPath 17 = .ok (.iload_n 1, 1) := dk_27 (dk_at dksX6_isOnPath_0 17 rfl rfl)
theorem dX6_isOnPath_18 : decode cX6_isOnPath 18 = .ok (.imul, 1) := dk_104 (dk_at dksX6_isOnPath_0 18 rfl rfl)
theorem dX6_isOnPath_19 : decode cX6_isOnPath 19 = .ok (.iload_n 3, 1) := dk_29 (dk_at dksX6_isOnPath_0 19 rfl rfl)
theorem dX6_isOnPath_20 : decode cX6_isOnPath 20 = .ok (.iadd, 1) := dk_96 (dk_at dksX6_isOnPath_0 20 rfl rfl)
theorem dX6_isOnPath_21 : decode cX6_isOnPath 21 = .ok (.iaload, 1) := dk_46 (dk_at dksX6_isOnPath_0 21 rfl rfl)
theorem dX6_isOnPath_22 : decode cX6_isOnPath 22 = .ok (.iload_n 2, 1) := dk_28 (dk_at dksX6_isOnPath_0 22 rfl rfl)
theorem dX6_isOnPath_23 : decode cX6_isOnPath 23 = .ok (.if_icmp .ne 5, 3) := dk_160 0 5 (dk_at dksX6_isOnPath_1 0 rfl rfl)
theorem dX6_isOnPath_26 : decode cX6_isOnPath 26 = .ok (.iconst 1, 1) := dk_4 (dk_at dksX6_isOnPath_1 3 rfl rfl)
theorem dX6_isOnPath_27 : decode cX6_isOnPath 27 = .ok (.ireturn, 1) := dk_172 (dk_at dksX6_isOnPath_1 4 rfl rfl)
theorem dX6_isOnPath_28 : decode cX6_isOnPath 28 = .ok (.iinc 3 1, 3) := dk_132 3 1 (dk_at dksX6_isOnPath_1 5 rfl rfl)
theorem dX6_isOnPath_31 : decode cX6_isOnPath 31 = .ok (.goto (-29), 3) := dk_167 255 227 (dk_at dksX6_isOnPath_1 8 rfl rfl)
theorem dX6_isOnPath_34 : decode cX6_isOnPath 34 = .ok (.iconst 0, 1) := dk_3 (dk_at dksX6_isOnPath_1 11 rfl rfl)
theorem dX6_isOnPath_35 : decode cX6_isOnPath 35 = .ok (.ireturn, 1) := dk_172 (dk_at dksX6_isOnPath_1 12 rfl rfl)
abbrev cX6_readSample : ByteArray := prog_18_method_22_code
def yX6_readSample : MethodName := ⟨RX6, "readSample", "()V"⟩
def dkwX6_readSample_1 : List UInt8 := [17, 1, 244, 182, 0, 193, 182, 0, 197, 42, 7, 42, 3, 7, 182, 0, 193, 182, 0, 197, 177]
abbrev dktX6_readSample_1 : List UInt8 := dkwX6_readSample_1 ++ []
def dkwX6_readSample_0 : List UInt8 := [42, 5, 182, 0, 208, 42, 5, 42, 4, 17, 3, 231, 182, 0, 193, 182, 0, 197, 42, 6, 42, 4]
abbrev dktX6_readSample_0 : List UInt8 := dkwX6_readSample_0 ++ dktX6_readSample_1
theorem dksX6_readSample_0 : cX6_readSample.data.toList.drop 0 = dktX6_readSample_0 := by decide +kernel
theorem dksX6_readSample_1 : cX6_readSample.data.toList.drop 22 = dktX6_readSample_1 := dk_seg dksX6_readSample_0 22 rfl rfl
theorem dX6_readSample_0 : decode cX6_readSample 0 = .ok (.aload_n 0, 1) := dk_42 (dk_at dksX6_readSample_0 0 rfl rfl)
theorem dX6_readSample_1 : decode cX6_readSample 1 = .ok (.iconst 2, 1) := dk_5 (dk_at dksX6_readSample_0 1 rfl rfl)
theorem dX6_readSample_2 : decode cX6_readSample 2 = .ok (.invokevirtual 208, 3) := dk_182 0 208 (dk_at dksX6_readSample_0 2 rfl rfl)
theorem dX6_readSample_5 : decode cX6_readSample 5 = .ok (.aload_n 0, 1) := dk_42 (dk_at dksX6_readSample_0 5 rfl rfl)
theorem dX6_readSample_6 : decode cX6_readSample 6 = .ok (.iconst 2, 1) := dk_5 (dk_at dksX6_readSample_0 6 rfl rfl)
theorem dX6_readSample_7 : decode cX6_readSample 7 = .ok (.aload_n 0, 1) := dk_42 (dk_at dksX6_readSample_0 7 rfl rfl)
theorem dX6_readSample_8 : decode cX6_readSample 8 = .ok (.iconst 1, 1) := dk_4 (dk_at dksX6_readSample_0 8 rfl rfl)
theorem dX6_readSample_9 : decode cX6_readSample 9 = .ok (.sipush 999, 3) := dk_17 3 231 (dk_at dksX6_readSample_0 9 rfl rfl)
theorem dX6_readSample_12 : decode cX6_readSample 12 = .ok (.invokevirtual 193, 3) := dk_182 0 193 (dk_at dksX6_readSample_0 12 rfl rfl)
theorem dX6_readSample_15 : decode cX6_readSample 15 = .ok (.invokevirtual 197, 3) := dk_182 0 197 (dk_at dksX6_readSample_0 15 rfl rfl)
theorem dX6_readSample_18 : decode cX6_readSample 18 = .ok (.aload_n 0, 1) := dk_42 (dk_at dksX6_readSample_0 18 rfl rfl)
theorem dX6_readSample_19 : decode cX6_readSample 19 = .ok (.iconst 3, 1) := dk_6 (dk_at dksX6_readSample_0 19 rfl rfl)
theorem dX6_readSample_20 : decode cX6_readSample 20 = .ok (.aload_n 0, 1) := dk_42 (dk_at dksX6_readSample_0 20 rfl rfl)
theorem dX6_readSample_21 : decode cX6_readSample 21 = .ok (.iconst 1, 1) := dk_4 (dk_at dksX6_readSample_0 21 rfl rfl)
theorem dX6_readSample_22 : decode cX6_readSample 22 = .ok (.sipush 500, 3) := dk_17 1 244 (dk_at dksX6_readSample_1 0 rfl rfl)
theorem dX6_readSample_25 : decode cX6_readSample 25 = .ok (.invokevirtual 193, 3) := dk_182 0 193 (dk_at dksX6_readSample_1 3 rfl rfl)
theorem dX6_readSample_28 : decode cX6_readSample 28 = .ok (.invokevirtual 197, 3) := dk_182 0 197 (dk_at dksX6_readSample_1 6 rfl rfl)
theorem dX6_readSample_31 : decode cX6_readSample 31 = .ok (.aload_n 0, 1) := dk_42 (dk_at dksX6_readSample_1 9 rfl rfl)
theorem dX6_readSample_32 : decode cX6_readSample 32 = .ok (.iconst 4, 1) := dk_7 (dk_at dksX6_readSample_1 10 rfl rfl)
theorem dX6_readSample_33 : decode cX6_readSample 33 = .ok (.aload_n 0, 1) := dk_42 (dk_at dksX6_readSample_1 11 rfl rfl)
theorem dX6_readSample_34 : decode cX6_readSample 34 = .ok (.iconst 0, 1) := dk_3 (dk_at dksX6_readSample_1 12 rfl rfl)
theorem dX6_readSample_35 : decode cX6_readSample 35 = .ok (.iconst 4, 1) := dk_7 (dk_at dksX6_readSample_1 13 rfl rfl)
theorem dX6_readSample_36 : decode cX6_readSample 36 = .ok (.invokevirtual 193, 3) := dk_182 0 193 (dk_at dksX6_readSample_1 14 rfl rfl)
theorem dX6_readSample_39 : decode cX6_readSample 39 = .ok (.invokevirtual 197, 3) := dk_182 0 197 (dk_at dksX6_readSample_1 17 rfl rfl)
theorem dX6_readSample_42 : decode cX6_readSample 42 = .ok (.return_, 1) := dk_177 (dk_at dksX6_readSample_1 20 rfl rfl)
abbrev cX6_once : ByteArray := prog_18_method_15_code
def yX6_once : MethodName := ⟨RX6, "once", "(I)V"⟩
def dkwX6_once_1 : List UInt8 := [182, 0, 178, 177]
abbrev dktX6_once_1 : List UInt8 := dkwX6_once_1 ++ []
def dkwX6_once_0 : List UInt8 := [42, 180, 0, 16, 27, 51, 153, 0, 8, 42, 6, 182, 0, 174, 42, 180, 0, 16, 27, 4, 84, 42]
abbrev dktX6_once_0 : List UInt8 := dkwX6_once_0 ++ dktX6_once_1
theorem dksX6_once_0 : cX6_once.data.toList.drop 0 = dktX6_once_0 := by decide +kernel
theorem dksX6_once_1 : cX6_once.data.toList.drop 22 = dktX6_once_1 := dk_seg dksX6_once_0 22 rfl rfl
theorem dX6_once_0 : decode cX6_once 0 = .ok (.aload_n 0, 1) := dk_42 (dk_at dksX6_once_0 0 rfl rfl)
theorem dX6_once_1 : decode cX6_once 1 = .ok (.getfield 16, 3) := dk_180 0 16 (dk_at dksX6_once_0 1 rfl rfl)
theorem dX6_once_4 : decode cX6_once 4 = .ok (.iload_n 1, 1) := dk_27 (dk_at dksX6_once_0 4 rfl rfl)
theorem dX6_once_5 : decode cX6_once 5 = .ok (.baload, 1) := dk_51 (dk_at dksX6_once_0 5 rfl rfl)
theorem dX6_once_6 : decode cX6_once 6 = .ok (.ifCond .eq 8, 3) := dk_153 0 8 (dk_at dksX6_once_0 6 rfl rfl)
theorem dX6_once_9 : decode cX6_once 9 = .ok (.aload_n 0, 1) := dk_42 (dk_at dksX6_once_0 9 rfl rfl)
theorem dX6_once_10 : decode cX6_once 10 = .ok (.iconst 3, 1) := dk_6 (dk_at dksX6_once_0 10 rfl rfl)
theorem dX6_once_11 : decode cX6_once 11 = .ok (.invokevirtual 174, 3) := dk_182 0 174 (dk_at dksX6_once_0 11 rfl rfl)
theorem dX6_once_14 : decode cX6_once 14 = .ok (.aload_n 0, 1) := dk_42 (dk_at dksX6_once_0 14 rfl rfl)
theorem dX6_once_15 : decode cX6_once 15 = .ok (.getfield 16, 3) := dk_180 0 16 (dk_at dksX6_once_0 15 rfl rfl)
theorem dX6_once_18 : decode cX6_once 18 = .ok (.iload_n 1, 1) := dk_27 (dk_at dksX6_once_0 18 rfl rfl)
theorem dX6_once_19 : decode cX6_once 19 = .ok (.iconst 1, 1) := dk_4 (dk_at dksX6_once_0 19 rfl rfl)
theorem dX6_once_20 : decode cX6_once 20 = .ok (.bastore, 1) := dk_84 (dk_at dksX6_once_0 20 rfl rfl)
theorem dX6_once_21 : decode cX6_once 21 = .ok (.aload_n 0, 1) := dk_42 (dk_at dksX6_once_0 21 rfl rfl)
theorem dX6_once_22 : decode cX6_once 22 = .ok (.invokevirtual 178, 3) := dk_182 0 178 (dk_at dksX6_once_1 0 rfl rfl)
theorem dX6_once_25 : decode cX6_once 25 = .ok (.return_, 1) := dk_177 (dk_at dksX6_once_1 3 rfl rfl)
abbrev cX6_readStage : ByteArray := prog_18_method_23_code
def yX6_readStage : MethodName := ⟨RX6, "readStage", "()V"⟩
def dkwX6_readStage_1 : List UInt8 := [16, 99, 182, 0, 193, 182, 0, 197, 42, 16, 7, 42, 4, 16, 99, 182, 0, 193, 182, 0, 197, 177]
abbrev dktX6_readStage_1 : List UInt8 := dkwX6_readStage_1 ++ []
def dkwX6_readStage_0 : List UInt8 := [42, 6, 182, 0, 208, 42, 8, 42, 4, 17, 3, 231, 182, 0, 193, 182, 0, 197, 42, 16, 6, 42, 4]
abbrev dktX6_readStage_0 : List UInt8 := dkwX6_readStage_0 ++ dktX6_readStage_1
theorem dksX6_readStage_0 : cX6_readStage.data.toList.drop 0 = dktX6_readStage_0 := by decide +kernel
theorem dksX6_readStage_1 : cX6_readStage.data.toList.drop 23 = dktX6_readStage_1 := dk_seg dksX6_readStage_0 23 rfl rfl
theorem dX6_readStage_0 : decode cX6_readStage 0 = .ok (.aload_n 0, 1) := dk_42 (dk_at dksX6_readStage_0 0 rfl rfl)
theorem dX6_readStage_1 : decode cX6_readStage 1 = .ok (.iconst 3, 1) := dk_6 (dk_at dksX6_readStage_0 1 rfl rfl)
theorem dX6_readStage_2 : decode cX6_readStage 2 = .ok (.invokevirtual 208, 3) := dk_182 0 208 (dk_at dksX6_readStage_0 2 rfl rfl)
theorem dX6_readStage_5 : decode cX6_readStage 5 = .ok (.aload_n 0, 1) := dk_42 (dk_at dksX6_readStage_0 5 rfl rfl)
theorem dX6_readStage_6 : decode cX6_readStage 6 = .ok (.iconst 5, 1) := dk_8 (dk_at dksX6_readStage_0 6 rfl rfl)
theorem dX6_readStage_7 : decode cX6_readStage 7 = .ok (.aload_n 0, 1) := dk_42 (dk_at dksX6_readStage_0 7 rfl rfl)
theorem dX6_readStage_8 : decode cX6_readStage 8 = .ok (.iconst 1, 1) := dk_4 (dk_at dksX6_readStage_0 8 rfl rfl)
theorem dX6_readStage_9 : decode cX6_readStage 9 = .ok (.sipush 999, 3) := dk_17 3 231 (dk_at dksX6_readStage_0 9 rfl rfl)
theorem dX6_readStage_12 : decode cX6_readStage 12 = .ok (.invokevirtual 193, 3) := dk_182 0 193 (dk_at dksX6_readStage_0 12 rfl rfl)
theorem dX6_readStage_15 : decode cX6_readStage 15 = .ok (.invokevirtual 197, 3) := dk_182 0 197 (dk_at dksX6_readStage_0 15 rfl rfl)
theorem dX6_readStage_18 : decode cX6_readStage 18 = .ok (.aload_n 0, 1) := dk_42 (dk_at dksX6_readStage_0 18 rfl rfl)
theorem dX6_readStage_19 : decode cX6_readStage 19 = .ok (.bipush 6, 2) := dk_16 6 (dk_at dksX6_readStage_0 19 rfl rfl)
theorem dX6_readStage_21 : decode cX6_readStage 21 = .ok (.aload_n 0, 1) := dk_42 (dk_at dksX6_readStage_0 21 rfl rfl)
theorem dX6_readStage_22 : decode cX6_readStage 22 = .ok (.iconst 1, 1) := dk_4 (dk_at dksX6_readStage_0 22 rfl rfl)
theorem dX6_readStage_23 : decode cX6_readStage 23 = .ok (.bipush 99, 2) := dk_16 99 (dk_at dksX6_readStage_1 0 rfl rfl)
theorem dX6_readStage_25 : decode cX6_readStage 25 = .ok (.invokevirtual 193, 3) := dk_182 0 193 (dk_at dksX6_readStage_1 2 rfl rfl)
theorem dX6_readStage_28 : decode cX6_readStage 28 = .ok (.invokevirtual 197, 3) := dk_182 0 197 (dk_at dksX6_readStage_1 5 rfl rfl)
theorem dX6_readStage_31 : decode cX6_readStage 31 = .ok (.aload_n 0, 1) := dk_42 (dk_at dksX6_readStage_1 8 rfl rfl)
theorem dX6_readStage_32 : decode cX6_readStage 32 = .ok (.bipush 7, 2) := dk_16 7 (dk_at dksX6_readStage_1 9 rfl rfl)
theorem dX6_readStage_34 : decode cX6_readStage 34 = .ok (.aload_n 0, 1) := dk_42 (dk_at dksX6_readStage_1 11 rfl rfl)
theorem dX6_readStage_35 : decode cX6_readStage 35 = .ok (.iconst 1, 1) := dk_4 (dk_at dksX6_readStage_1 12 rfl rfl)
theorem dX6_readStage_36 : decode cX6_readStage 36 = .ok (.bipush 99, 2) := dk_16 99 (dk_at dksX6_readStage_1 13 rfl rfl)
theorem dX6_readStage_38 : decode cX6_readStage 38 = .ok (.invokevirtual 193, 3) := dk_182 0 193 (dk_at dksX6_readStage_1 15 rfl rfl)
theorem dX6_readStage_41 : decode cX6_readStage 41 = .ok (.invokevirtual 197, 3) := dk_182 0 197 (dk_at dksX6_readStage_1 18 rfl rfl)
theorem dX6_readStage_44 : decode cX6_readStage 44 = .ok (.return_, 1) := dk_177 (dk_at dksX6_readStage_1 21 rfl rfl)
abbrev cX6_readOff : ByteArray := prog_18_method_24_code
def yX6_readOff : MethodName := ⟨RX6, "readOff", "()V"⟩
def dkwX6_readOff_4 : List UInt8 := [42, 180, 0, 165, 153, 0, 4, 177, 42, 180, 0, 44, 16, 8, 27, 96, 4, 84, 42, 182, 0, 171, 177]
abbrev dktX6_readOff_4 : List UInt8 := dkwX6_readOff_4 ++ []
def dkwX6_readOff_3 : List UInt8 := [42, 180, 0, 165, 154, 0, 20, 42, 180, 0, 44, 16, 8, 27, 96, 51, 153, 0, 8, 42, 6, 182, 0, 174]
abbrev dktX6_readOff_3 : List UInt8 := dkwX6_readOff_3 ++ dktX6_readOff_4
def dkwX6_readOff_2 : List UInt8 := [180, 0, 144, 184, 0, 181, 167, 0, 4, 3, 60, 27, 2, 160, 0, 11, 42, 7, 182, 0, 174, 167, 0, 27]
abbrev dktX6_readOff_2 : List UInt8 := dkwX6_readOff_2 ++ dktX6_readOff_3
def dkwX6_readOff_1 : List UInt8 := [182, 0, 174, 42, 180, 0, 165, 154, 0, 24, 42, 180, 0, 38, 16, 8, 42, 4, 182, 0, 185, 42]
abbrev dktX6_readOff_1 : List UInt8 := dkwX6_readOff_1 ++ dktX6_readOff_2
def dkwX6_readOff_0 : List UInt8 := [42, 182, 0, 178, 42, 180, 0, 165, 153, 0, 4, 177, 42, 180, 0, 134, 4, 159, 0, 8, 42, 4]
abbrev dktX6_readOff_0 : List UInt8 := dkwX6_readOff_0 ++ dktX6_readOff_1
theorem dksX6_readOff_0 : cX6_readOff.data.toList.drop 0 = dktX6_readOff_0 := by decide +kernel
theorem dksX6_readOff_1 : cX6_readOff.data.toList.drop 22 = dktX6_readOff_1 := dk_seg dksX6_readOff_0 22 rfl rfl
theorem dksX6_readOff_2 : cX6_readOff.data.toList.drop 44 = dktX6_readOff_2 := dk_seg dksX6_readOff_1 22 rfl rfl
theorem dksX6_readOff_3 : cX6_readOff.data.toList.drop 68 = dktX6_readOff_3 := dk_seg dksX6_readOff_2 24 rfl rfl
theorem dksX6_readOff_4 : cX6_readOff.data.toList.drop 92 = dktX6_readOff_4 := dk_seg dksX6_readOff_3 24 rfl rfl
theorem dX6_readOff_0 : decode cX6_readOff 0 = .ok (.aload_n 0, 1) := dk_42 (dk_at dksX6_readOff_0 0 rfl rfl)
theorem dX6_readOff_1 : decode cX6_readOff 1 = .ok (.invokevirtual 178, 3) := dk_182 0 178 (dk_at dksX6_readOff_0 1 rfl rfl)
theorem dX6_readOff_4 : decode cX6_readOff 4 = .ok (.aload_n 0, 1) := dk_42 (dk_at dksX6_readOff_0 4 rfl rfl)
theorem dX6_readOff_5 : decode cX6_readOff 5 = .ok (.getfield 165, 3) := dk_180 0 165 (dk_at dksX6_readOff_0 5 rfl rfl)
theorem dX6_readOff_8 : decode cX6_readOff 8 = .ok (.ifCond .eq 4, 3) := dk_153 0 4 (dk_at dksX6_readOff_0 8 rfl rfl)
theorem dX6_readOff_11 : decode cX6_readOff 11 = .ok (.return_, 1) := dk_177 (dk_at dksX6_readOff_0 11 rfl rfl)
theorem dX6_readOff_12 : decode cX6_readOff 12 = .ok (.aload_n 0, 1) := dk_42 (dk_at dksX6_readOff_0 12 rfl rfl)
theorem dX6_readOff_13 : decode cX6_readOff 13 = .ok (.getfield 134, 3) := dk_180 0 134 (dk_at dksX6_readOff_0 13 rfl rfl)
theorem dX6_readOff_16 : decode cX6_readOff 16 = .ok (.iconst 1, 1) := dk_4 (dk_at dksX6_readOff_0 16 rfl rfl)
theorem dX6_readOff_17 : decode cX6_readOff 17 = .ok (.if_icmp .eq 8, 3) := dk_159 0 8 (dk_at dksX6_readOff_0 17 rfl rfl)
theorem dX6_readOff_20 : decode cX6_readOff 20 = .ok (.aload_n 0, 1) := dk_42 (dk_at dksX6_readOff_0 20 rfl rfl)
theorem dX6_readOff_21 : decode cX6_readOff 21 = .ok (.iconst 1, 1) := dk_4 (dk_at dksX6_readOff_0 21 rfl rfl)
theorem dX6_readOff_22 : decode cX6_readOff 22 = .ok (.invokevirtual 174, 3) := dk_182 0 174 (dk_at dksX6_readOff_1 0 rfl rfl)
theorem dX6_readOff_25 : decode cX6_readOff 25 = .ok (.aload_n 0, 1) := dk_42 (dk_at dksX6_readOff_1 3 rfl rfl)
theorem dX6_readOff_26 : decode cX6_readOff 26 = .ok (.getfield 165, 3) := dk_180 0 165 (dk_at dksX6_readOff_1 4 rfl rfl)
theorem dX6_readOff_29 : decode cX6_readOff 29 = .ok (.ifCond .ne 24, 3) := dk_154 0 24 (dk_at dksX6_readOff_1 7 rfl rfl)
theorem dX6_readOff_32 : decode cX6_readOff 32 = .ok (.aload_n 0, 1) := dk_42 (dk_at dksX6_readOff_1 10 rfl rfl)
theorem dX6_readOff_33 : decode cX6_readOff 33 = .ok (.getfield 38, 3) := dk_180 0 38 (dk_at dksX6_readOff_1 11 rfl rfl)
theorem dX6_readOff_36 : decode cX6_readOff 36 = .ok (.bipush 8, 2) := dk_16 8 (dk_at dksX6_readOff_1 14 rfl rfl)
theorem dX6_readOff_38 : decode cX6_readOff 38 = .ok (.aload_n 0, 1) := dk_42 (dk_at dksX6_readOff_1 16 rfl rfl)
theorem dX6_readOff_39 : decode cX6_readOff 39 = .ok (.iconst 1, 1) := dk_4 (dk_at dksX6_readOff_1 17 rfl rfl)
theorem dX6_readOff_40 : decode cX6_readOff 40 = .ok (.invokevirtual 185, 3) := dk_182 0 185 (dk_at dksX6_readOff_1 18 rfl rfl)
theorem dX6_readOff_43 : decode cX6_readOff 43 = .ok (.aload_n 0, 1) := dk_42 (dk_at dksX6_readOff_1 21 rfl rfl)
theorem dX6_readOff_44 : decode cX6_readOff 44 = .ok (.getfield 144, 3) := dk_180 0 144 (dk_at dksX6_readOff_2 0 rfl rfl)
theorem dX6_readOff_47 : decode cX6_readOff 47 = .ok (.invokestatic 181, 3) := dk_184 0 181 (dk_at dksX6_readOff_2 3 rfl rfl)
theorem dX6_readOff_50 : decode cX6_readOff 50 = .ok (.goto 4, 3) := dk_167 0 4 (dk_at dksX6_readOff_2 6 rfl rfl)
theorem dX6_readOff_53 : decode cX6_readOff 53 = .ok (.iconst 0, 1) := dk_3 (dk_at dksX6_readOff_2 9 rfl rfl)
theorem dX6_readOff_54 : decode cX6_readOff 54 = .ok (.istore_n 1, 1) := dk_60 (dk_at dksX6_readOff_2 10 rfl rfl)
theorem dX6_readOff_55 : decode cX6_readOff 55 = .ok (.iload_n 1, 1) := dk_27 (dk_at dksX6_readOff_2 11 rfl rfl)
theorem dX6_readOff_56 : decode cX6_readOff 56 = .ok (.iconst (-1), 1) := dk_2 (dk_at dksX6_readOff_2 12 rfl rfl)
theorem dX6_readOff_57 : decode cX6_readOff 57 = .ok (.if_icmp .ne 11, 3) := dk_160 0 11 (dk_at dksX6_readOff_2 13 rfl rfl)
theorem dX6_readOff_60 : decode cX6_readOff 60 = .ok (.aload_n 0, 1) := dk_42 (dk_at dksX6_readOff_2 16 rfl rfl)
theorem dX6_readOff_61 : decode cX6_readOff 61 = .ok (.iconst 4, 1) := dk_7 (dk_at dksX6_readOff_2 17 rfl rfl)
theorem dX6_readOff_62 : decode cX6_readOff 62 = .ok (.invokevirtual 174, 3) := dk_182 0 174 (dk_at dksX6_readOff_2 18 rfl rfl)
theorem dX6_readOff_65 : decode cX6_readOff 65 = .ok (.goto 27, 3) := dk_167 0 27 (dk_at dksX6_readOff_2 21 rfl rfl)
theorem dX6_readOff_68 : decode cX6_readOff 68 = .ok (.aload_n 0, 1) := dk_42 (dk_at dksX6_readOff_3 0 rfl rfl)
theorem dX6_readOff_69 : decode cX6_readOff 69 = .ok (.getfield 165, 3) := dk_180 0 165 (dk_at dksX6_readOff_3 1 rfl rfl)
theorem dX6_readOff_72 : decode cX6_readOff 72 = .ok (.ifCond .ne 20, 3) := dk_154 0 20 (dk_at dksX6_readOff_3 4 rfl rfl)
theorem dX6_readOff_75 : decode cX6_readOff 75 = .ok (.aload_n 0, 1) := dk_42 (dk_at dksX6_readOff_3 7 rfl rfl)
theorem dX6_readOff_76 : decode cX6_readOff 76 = .ok (.getfield 44, 3) := dk_180 0 44 (dk_at dksX6_readOff_3 8 rfl rfl)
theorem dX6_readOff_79 : decode cX6_readOff 79 = .ok (.bipush 8, 2) := dk_16 8 (dk_at dksX6_readOff_3 11 rfl rfl)
theorem dX6_readOff_81 : decode cX6_readOff 81 = .ok (.iload_n 1, 1) := dk_27 (dk_at dksX6_readOff_3 13 rfl rfl)
theorem dX6_readOff_82 : decode cX6_readOff 82 = .ok (.iadd, 1) := dk_96 (dk_at dksX6_readOff_3 14 rfl rfl)
theorem dX6_readOff_83 : decode cX6_readOff 83 = .ok (.baload, 1) := dk_51 (dk_at dksX6_readOff_3 15 rfl rfl)
theorem dX6_readOff_84 : decode cX6_readOff 84 = .ok (.ifCond .eq 8, 3) := dk_153 0 8 (dk_at dksX6_readOff_3 16 rfl rfl)
theorem dX6_readOff_87 : decode cX6_readOff 87 = .ok (.aload_n 0, 1) := dk_42 (dk_at dksX6_readOff_3 19 rfl rfl)
theorem dX6_readOff_88 : decode cX6_readOff 88 = .ok (.iconst 3, 1) := dk_6 (dk_at dksX6_readOff_3 20 rfl rfl)
theorem dX6_readOff_89 : decode cX6_readOff 89 = .ok (.invokevirtual 174, 3) := dk_182 0 174 (dk_at dksX6_readOff_3 21 rfl rfl)
theorem dX6_readOff_92 : decode cX6_readOff 92 = .ok (.aload_n 0, 1) := dk_42 (dk_at dksX6_readOff_4 0 rfl rfl)
theorem dX6_readOff_93 : decode cX6_readOff 93 = .ok (.getfield 165, 3) := dk_180 0 165 (dk_at dksX6_readOff_4 1 rfl rfl)
theorem dX6_readOff_96 : decode cX6_readOff 96 = .ok (.ifCond .eq 4, 3) := dk_153 0 4 (dk_at dksX6_readOff_4 4 rfl rfl)
theorem dX6_readOff_99 : decode cX6_readOff 99 = .ok (.return_, 1) := dk_177 (dk_at dksX6_readOff_4 7 rfl rfl)
theorem dX6_readOff_100 : decode cX6_readOff 100 = .ok (.aload_n 0, 1) := dk_42 (dk_at dksX6_readOff_4 8 rfl rfl)
theorem dX6_readOff_101 : decode cX6_readOff 101 = .ok (.getfield 44, 3) := dk_180 0 44 (dk_at dksX6_readOff_4 9 rfl rfl)
theorem dX6_readOff_104 : decode cX6_readOff 104 = .ok (.bipush 8, 2) := dk_16 8 (dk_at dksX6_readOff_4 12 rfl rfl)
theorem dX6_readOff_106 : decode cX6_readOff 106 = .ok (.iload_n 1, 1) := dk_27 (dk_at dksX6_readOff_4 14 rfl rfl)
theorem dX6_readOff_107 : decode cX6_readOff 107 = .ok (.iadd, 1) := dk_96 (dk_at dksX6_readOff_4 15 rfl rfl)
theorem dX6_readOff_108 : decode cX6_readOff 108 = .ok (.iconst 1, 1) := dk_4 (dk_at dksX6_readOff_4 16 rfl rfl)
theorem dX6_readOff_109 : decode cX6_readOff 109 = .ok (.bastore, 1) := dk_84 (dk_at dksX6_readOff_4 17 rfl rfl)
theorem dX6_readOff_110 : decode cX6_readOff 110 = .ok (.aload_n 0, 1) := dk_42 (dk_at dksX6_readOff_4 18 rfl rfl)
theorem dX6_readOff_111 : decode cX6_readOff 111 = .ok (.invokevirtual 171, 3) := dk_182 0 171 (dk_at dksX6_readOff_4 19 rfl rfl)
theorem dX6_readOff_114 : decode cX6_readOff 114 = .ok (.return_, 1) := dk_177 (dk_at dksX6_readOff_4 22 rfl rfl)
abbrev cX6_readSeed : ByteArray := prog_18_method_25_code
def yX6_readSeed : MethodName := ⟨RX6, "readSeed", "()V"⟩
def dkwX6_readSeed_0 : List UInt8 := [42, 8, 182, 0, 208, 42, 16, 8, 42, 3, 18, 153, 182, 0, 193, 182, 0, 197, 177]
abbrev dktX6_readSeed_0 : List UInt8 := dkwX6_readSeed_0 ++ []
theorem dksX6_readSeed_0 : cX6_readSeed.data.toList.drop 0 = dktX6_readSeed_0 := by decide +kernel
theorem dX6_readSeed_0 : decode cX6_readSeed 0 = .ok (.aload_n 0, 1) := dk_42 (dk_at dksX6_readSeed_0 0 rfl rfl)
theorem dX6_readSeed_1 : decode cX6_readSeed 1 = .ok (.iconst 5, 1) := dk_8 (dk_at dksX6_readSeed_0 1 rfl rfl)
theorem dX6_readSeed_2 : decode cX6_readSeed 2 = .ok (.invokevirtual 208, 3) := dk_182 0 208 (dk_at dksX6_readSeed_0 2 rfl rfl)
theorem dX6_readSeed_5 : decode cX6_readSeed 5 = .ok (.aload_n 0, 1) := dk_42 (dk_at dksX6_readSeed_0 5 rfl rfl)
theorem dX6_readSeed_6 : decode cX6_readSeed 6 = .ok (.bipush 8, 2) := dk_16 8 (dk_at dksX6_readSeed_0 6 rfl rfl)
theorem dX6_readSeed_8 : decode cX6_readSeed 8 = .ok (.aload_n 0, 1) := dk_42 (dk_at dksX6_readSeed_0 8 rfl rfl)
theorem dX6_readSeed_9 : decode cX6_readSeed 9 = .ok (.iconst 0, 1) := dk_3 (dk_at dksX6_readSeed_0 9 rfl rfl)
theorem dX6_readSeed_10 : decode cX6_readSeed 10 = .ok (.ldc 153, 2) := dk_18 153 (dk_at dksX6_readSeed_0 10 rfl rfl)
theorem dX6_readSeed_12 : decode cX6_readSeed 12 = .ok (.invokevirtual 193, 3) := dk_182 0 193 (dk_at dksX6_readSeed_0 12 rfl rfl)
theorem dX6_readSeed_15 : decode cX6_readSeed 15 = .ok (.invokevirtual 197, 3) := dk_182 0 197 (dk_at dksX6_readSeed_0 15 rfl rfl)
theorem dX6_readSeed_18 : decode cX6_readSeed 18 = .ok (.return_, 1) := dk_177 (dk_at dksX6_readSeed_0 18 rfl rfl)
abbrev cX6_fault : ByteArray := prog_18_method_31_code
def yX6_fault : MethodName := ⟨RX6, "fault", "(I)I"⟩
def dkwX6_fault_1 : List UInt8 := [180, 0, 53, 167, 0, 4, 2, 172]
abbrev dktX6_fault_1 : List UInt8 := dkwX6_fault_1 ++ []
def dkwX6_fault_0 : List UInt8 := [42, 3, 181, 0, 115, 27, 154, 0, 10, 42, 180, 0, 238, 167, 0, 16, 27, 4, 160, 0, 10, 42]
abbrev dktX6_fault_0 : List UInt8 := dkwX6_fault_0 ++ dktX6_fault_1
theorem dksX6_fault_0 : cX6_fault.data.toList.drop 0 = dktX6_fault_0 := by decide +kernel
theorem dksX6_fault_1 : cX6_fault.data.toList.drop 22 = dktX6_fault_1 := dk_seg dksX6_fault_0 22 rfl rfl
theorem dX6_fault_0 : decode cX6_fault 0 = .ok (.aload_n 0, 1) := dk_42 (dk_at dksX6_fault_0 0 rfl rfl)
theorem dX6_fault_1 : decode cX6_fault 1 = .ok (.iconst 0, 1) := dk_3 (dk_at dksX6_fault_0 1 rfl rfl)
theorem dX6_fault_2 : decode cX6_fault 2 = .ok (.putfield 115, 3) := dk_181 0 115 (dk_at dksX6_fault_0 2 rfl rfl)
theorem dX6_fault_5 : decode cX6_fault 5 = .ok (.iload_n 1, 1) := dk_27 (dk_at dksX6_fault_0 5 rfl rfl)
theorem dX6_fault_6 : decode cX6_fault 6 = .ok (.ifCond .ne 10, 3) := dk_154 0 10 (dk_at dksX6_fault_0 6 rfl rfl)
theorem dX6_fault_9 : decode cX6_fault 9 = .ok (.aload_n 0, 1) := dk_42 (dk_at dksX6_fault_0 9 rfl rfl)
theorem dX6_fault_10 : decode cX6_fault 10 = .ok (.getfield 238, 3) := dk_180 0 238 (dk_at dksX6_fault_0 10 rfl rfl)
theorem dX6_fault_13 : decode cX6_fault 13 = .ok (.goto 16, 3) := dk_167 0 16 (dk_at dksX6_fault_0 13 rfl rfl)
theorem dX6_fault_16 : decode cX6_fault 16 = .ok (.iload_n 1, 1) := dk_27 (dk_at dksX6_fault_0 16 rfl rfl)
theorem dX6_fault_17 : decode cX6_fault 17 = .ok (.iconst 1, 1) := dk_4 (dk_at dksX6_fault_0 17 rfl rfl)
theorem dX6_fault_18 : decode cX6_fault 18 = .ok (.if_icmp .ne 10, 3) := dk_160 0 10 (dk_at dksX6_fault_0 18 rfl rfl)
theorem dX6_fault_21 : decode cX6_fault 21 = .ok (.aload_n 0, 1) := dk_42 (dk_at dksX6_fault_0 21 rfl rfl)
theorem dX6_fault_22 : decode cX6_fault 22 = .ok (.getfield 53, 3) := dk_180 0 53 (dk_at dksX6_fault_1 0 rfl rfl)
theorem dX6_fault_25 : decode cX6_fault 25 = .ok (.goto 4, 3) := dk_167 0 4 (dk_at dksX6_fault_1 3 rfl rfl)
theorem dX6_fault_28 : decode cX6_fault 28 = .ok (.iconst (-1), 1) := dk_2 (dk_at dksX6_fault_1 6 rfl rfl)
theorem dX6_fault_29 : decode cX6_fault 29 = .ok (.ireturn, 1) := dk_172 (dk_at dksX6_fault_1 7 rfl rfl)
abbrev cX6_named : ByteArray := prog_18_method_34_code
def yX6_named : MethodName := ⟨RX6, "named", "(II)I"⟩
def dkwX6_named_2 : List UInt8 := [2, 172]
abbrev dktX6_named_2 : List UInt8 := dkwX6_named_2 ++ []
def dkwX6_named_1 : List UInt8 := [167, 0, 25, 27, 4, 160, 0, 19, 42, 180, 0, 38, 3, 42, 182, 0, 251, 28, 184, 0, 181, 167, 0, 4]
abbrev dktX6_named_1 : List UInt8 := dkwX6_named_1 ++ dktX6_named_2
def dkwX6_named_0 : List UInt8 := [42, 3, 181, 0, 115, 27, 154, 0, 19, 42, 180, 0, 20, 3, 42, 182, 0, 248, 28, 184, 0, 181]
abbrev dktX6_named_0 : List UInt8 := dkwX6_named_0 ++ dktX6_named_1
theorem dksX6_named_0 : cX6_named.data.toList.drop 0 = dktX6_named_0 := by decide +kernel
theorem dksX6_named_1 : cX6_named.data.toList.drop 22 = dktX6_named_1 := dk_seg dksX6_named_0 22 rfl rfl
theorem dksX6_named_2 : cX6_named.data.toList.drop 46 = dktX6_named_2 := dk_seg dksX6_named_1 24 rfl rfl
theorem dX6_named_0 : decode cX6_named 0 = .ok (.aload_n 0, 1) := dk_42 (dk_at dksX6_named_0 0 rfl rfl)
theorem dX6_named_1 : decode cX6_named 1 = .ok (.iconst 0, 1) := dk_3 (dk_at dksX6_named_0 1 rfl rfl)
theorem dX6_named_2 : decode cX6_named 2 = .ok (.putfield 115, 3) := dk_181 0 115 (dk_at dksX6_named_0 2 rfl rfl)
theorem dX6_named_5 : decode cX6_named 5 = .ok (.iload_n 1, 1) := dk_27 (dk_at dksX6_named_0 5 rfl rfl)
theorem dX6_named_6 : decode cX6_named 6 = .ok (.ifCond .ne 19, 3) := dk_154 0 19 (dk_at dksX6_named_0 6 rfl rfl)
theorem dX6_named_9 : decode cX6_named 9 = .ok (.aload_n 0, 1) := dk_42 (dk_at dksX6_named_0 9 rfl rfl)
theorem dX6_named_10 : decode cX6_named 10 = .ok (.getfield 20, 3) := dk_180 0 20 (dk_at dksX6_named_0 10 rfl rfl)
theorem dX6_named_13 : decode cX6_named 13 = .ok (.iconst 0, 1) := dk_3 (dk_at dksX6_named_0 13 rfl rfl)
theorem dX6_named_14 : decode cX6_named 14 = .ok (.aload_n 0, 1) := dk_42 (dk_at dksX6_named_0 14 rfl rfl)
theorem dX6_named_15 : decode cX6_named 15 = .ok (.invokevirtual 248, 3) := dk_182 0 248 (dk_at dksX6_named_0 15 rfl rfl)
theorem dX6_named_18 : decode cX6_named 18 = .ok (.iload_n 2, 1) := dk_28 (dk_at dksX6_named_0 18 rfl rfl)
theorem dX6_named_19 : decode cX6_named 19 = .ok (.invokestatic 181, 3) := dk_184 0 181 (dk_at dksX6_named_0 19 rfl rfl)
theorem dX6_named_22 : decode cX6_named 22 = .ok (.goto 25, 3) := dk_167 0 25 (dk_at dksX6_named_1 0 rfl rfl)
theorem dX6_named_25 : decode cX6_named 25 = .ok (.iload_n 1, 1) := dk_27 (dk_at dksX6_named_1 3 rfl rfl)
theorem dX6_named_26 : decode cX6_named 26 = .ok (.iconst 1, 1) := dk_4 (dk_at dksX6_named_1 4 rfl rfl)
theorem dX6_named_27 : decode cX6_named 27 = .ok (.if_icmp .ne 19, 3) := dk_160 0 19 (dk_at dksX6_named_1 5 rfl rfl)
theorem dX6_named_30 : decode cX6_named 30 = .ok (.aload_n 0, 1) := dk_42 (dk_at dksX6_named_1 8 rfl rfl)
theorem dX6_named_31 : decode cX6_named 31 = .ok (.getfield 38, 3) := dk_180 0 38 (dk_at dksX6_named_1 9 rfl rfl)
theorem dX6_named_34 : decode cX6_named 34 = .ok (.iconst 0, 1) := dk_3 (dk_at dksX6_named_1 12 rfl rfl)
theorem dX6_named_35 : decode cX6_named 35 = .ok (.aload_n 0, 1) := dk_42 (dk_at dksX6_named_1 13 rfl rfl)
theorem dX6_named_36 : decode cX6_named 36 = .ok (.invokevirtual 251, 3) := dk_182 0 251 (dk_at dksX6_named_1 14 rfl rfl)
theorem dX6_named_39 : decode cX6_named 39 = .ok (.iload_n 2, 1) := dk_28 (dk_at dksX6_named_1 17 rfl rfl)
theorem dX6_named_40 : decode cX6_named 40 = .ok (.invokestatic 181, 3) := dk_184 0 181 (dk_at dksX6_named_1 18 rfl rfl)
theorem dX6_named_43 : decode cX6_named 43 = .ok (.goto 4, 3) := dk_167 0 4 (dk_at dksX6_named_1 21 rfl rfl)
theorem dX6_named_46 : decode cX6_named 46 = .ok (.iconst (-1), 1) := dk_2 (dk_at dksX6_named_2 0 rfl rfl)
theorem dX6_named_47 : decode cX6_named 47 = .ok (.ireturn, 1) := dk_172 (dk_at dksX6_named_2 1 rfl rfl)
abbrev cX6_undo : ByteArray := prog_18_method_38_code
def yX6_undo : MethodName := ⟨RX6, "undo", "()I"⟩
def dkwX6_undo_2 : List UInt8 := [172]
abbrev dktX6_undo_2 : List UInt8 := dkwX6_undo_2 ++ []
def dkwX6_undo_1 : List UInt8 := [42, 180, 0, 69, 17, 1, 81, 42, 180, 0, 241, 104, 42, 180, 0, 57, 3, 184, 0, 254, 42, 180, 0, 241]
abbrev dktX6_undo_1 : List UInt8 := dkwX6_undo_1 ++ dktX6_undo_2
def dkwX6_undo_0 : List UInt8 := [42, 3, 181, 0, 115, 42, 180, 0, 241, 154, 0, 5, 2, 172, 42, 89, 180, 0, 241, 4, 100, 181, 0, 241]
abbrev dktX6_undo_0 : List UInt8 := dkwX6_undo_0 ++ dktX6_undo_1
theorem dksX6_undo_0 : cX6_undo.data.toList.drop 0 = dktX6_undo_0 := by decide +kernel
theorem dksX6_undo_1 : cX6_undo.data.toList.drop 24 = dktX6_undo_1 := dk_seg dksX6_undo_0 24 rfl rfl
theorem dksX6_undo_2 : cX6_undo.data.toList.drop 48 = dktX6_undo_2 := dk_seg dksX6_undo_1 24 rfl rfl
theorem dX6_undo_0 : decode cX6_undo 0 = .ok (.aload_n 0, 1) := dk_42 (dk_at dksX6_undo_0 0 rfl rfl)
theorem dX6_undo_1 : decode cX6_undo 1 = .ok (.iconst 0, 1) := dk_3 (dk_at dksX6_undo_0 1 rfl rfl)
theorem dX6_undo_2 : decode cX6_undo 2 = .ok (.putfield 115, 3) := dk_181 0 115 (dk_at dksX6_undo_0 2 rfl rfl)
theorem dX6_undo_5 : decode cX6_undo 5 = .ok (.aload_n 0, 1) := dk_42 (dk_at dksX6_undo_0 5 rfl rfl)
theorem dX6_undo_6 : decode cX6_undo 6 = .ok (.getfield 241, 3) := dk_180 0 241 (dk_at dksX6_undo_0 6 rfl rfl)
theorem dX6_undo_9 : decode cX6_undo 9 = .ok (.ifCond .ne 5, 3) := dk_154 0 5 (dk_at dksX6_undo_0 9 rfl rfl)
theorem dX6_undo_12 : decode cX6_undo 12 = .ok (.iconst (-1), 1) := dk_2 (dk_at dksX6_undo_0 12 rfl rfl)
theorem dX6_undo_13 : decode cX6_undo 13 = .ok (.ireturn, 1) := dk_172 (dk_at dksX6_undo_0 13 rfl rfl)
theorem dX6_undo_14 : decode cX6_undo 14 = .ok (.aload_n 0, 1) := dk_42 (dk_at dksX6_undo_0 14 rfl rfl)
theorem dX6_undo_15 : decode cX6_undo 15 = .ok (.dup, 1) := dk_89 (dk_at dksX6_undo_0 15 rfl rfl)
theorem dX6_undo_16 : decode cX6_undo 16 = .ok (.getfield 241, 3) := dk_180 0 241 (dk_at dksX6_undo_0 16 rfl rfl)
theorem dX6_undo_19 : decode cX6_undo 19 = .ok (.iconst 1, 1) := dk_4 (dk_at dksX6_undo_0 19 rfl rfl)
theorem dX6_undo_20 : decode cX6_undo 20 = .ok (.isub, 1) := dk_100 (dk_at dksX6_undo_0 20 rfl rfl)
theorem dX6_undo_21 : decode cX6_undo 21 = .ok (.putfield 241, 3) := dk_181 0 241 (dk_at dksX6_undo_0 21 rfl rfl)
theorem dX6_undo_24 : decode cX6_undo 24 = .ok (.aload_n 0, 1) := dk_42 (dk_at dksX6_undo_1 0 rfl rfl)
theorem dX6_undo_25 : decode cX6_undo 25 = .ok (.getfield 69, 3) := dk_180 0 69 (dk_at dksX6_undo_1 1 rfl rfl)
theorem dX6_undo_28 : decode cX6_undo 28 = .ok (.sipush 337, 3) := dk_17 1 81 (dk_at dksX6_undo_1 4 rfl rfl)
theorem dX6_undo_31 : decode cX6_undo 31 = .ok (.aload_n 0, 1) := dk_42 (dk_at dksX6_undo_1 7 rfl rfl)
theorem dX6_undo_32 : decode cX6_undo 32 = .ok (.getfield 241, 3) := dk_180 0 241 (dk_at dksX6_undo_1 8 rfl rfl)
theorem dX6_undo_35 : decode cX6_undo 35 = .ok (.imul, 1) := dk_104 (dk_at dksX6_undo_1 11 rfl rfl)
theorem dX6_undo_36 : decode cX6_undo 36 = .ok (.aload_n 0, 1) := dk_42 (dk_at dksX6_undo_1 12 rfl rfl)
theorem dX6_undo_37 : decode cX6_undo 37 = .ok (.getfield 57, 3) := dk_180 0 57 (dk_at dksX6_undo_1 13 rfl rfl)
theorem dX6_undo_40 : decode cX6_undo 40 = .ok (.iconst 0, 1) := dk_3 (dk_at dksX6_undo_1 16 rfl rfl)
theorem dX6_undo_41 : decode cX6_undo 41 = .ok (.invokestatic 254, 3) := dk_184 0 254 (dk_at dksX6_undo_1 17 rfl rfl)
theorem dX6_undo_44 : decode cX6_undo 44 = .ok (.aload_n 0, 1) := dk_42 (dk_at dksX6_undo_1 20 rfl rfl)
theorem dX6_undo_45 : decode cX6_undo 45 = .ok (.getfield 241, 3) := dk_180 0 241 (dk_at dksX6_undo_1 21 rfl rfl)
theorem dX6_undo_48 : decode cX6_undo 48 = .ok (.ireturn, 1) := dk_172 (dk_at dksX6_undo_2 0 rfl rfl)
abbrev cX6_copies : ByteArray := prog_18_method_35_code
def yX6_copies : MethodName := ⟨RX6, "copies", "([II[II)V"⟩
def dkwX6_copies_1 : List UInt8 := [132, 4, 1, 167, 255, 233, 177]
abbrev dktX6_copies_1 : List UInt8 := dkwX6_copies_1 ++ []
def dkwX6_copies_0 : List UInt8 := [3, 54, 4, 21, 4, 17, 1, 81, 162, 0, 21, 44, 29, 21, 4, 96, 42, 27, 21, 4, 96, 46, 79]
abbrev dktX6_copies_0 : List UInt8 := dkwX6_copies_0 ++ dktX6_copies_1
theorem dksX6_copies_0 : cX6_copies.data.toList.drop 0 = dktX6_copies_0 := by decide +kernel
theorem dksX6_copies_1 : cX6_copies.data.toList.drop 23 = dktX6_copies_1 := dk_seg dksX6_copies_0 23 rfl rfl
theorem dX6_copies_0 : decode cX6_copies 0 = .ok (.iconst 0, 1) := dk_3 (dk_at dksX6_copies_0 0 rfl rfl)
theorem dX6_copies_1 : decode cX6_copies 1 = .ok (.istore 4, 2) := dk_54 4 (dk_at dksX6_copies_0 1 rfl rfl)
theorem dX6_copies_3 : decode cX6_copies 3 = .ok (.iload 4, 2) := dk_21 4 (dk_at dksX6_copies_0 3 rfl rfl)
theorem dX6_copies_5 : decode cX6_copies 5 = .ok (.sipush 337, 3) := dk_17 1 81 (dk_at dksX6_copies_0 5 rfl rfl)
theorem dX6_copies_8 : decode cX6_copies 8 = .ok (.if_icmp .ge 21, 3) := dk_162 0 21 (dk_at dksX6_copies_0 8 rfl rfl)
theorem dX6_copies_11 : decode cX6_copies 11 = .ok (.aload_n 2, 1) := dk_44 (dk_at dksX6_copies_0 11 rfl rfl)
theorem dX6_copies_12 : decode cX6_copies 12 = .ok (.iload_n 3, 1) := dk_29 (dk_at dksX6_copies_0 12 rfl rfl)
theorem dX6_copies_13 : decode cX6_copies 13 = .ok (.iload 4, 2) := dk_21 4 (dk_at dksX6_copies_0 13 rfl rfl)
theorem dX6_copies_15 : decode cX6_copies 15 = .ok (.iadd, 1) := dk_96 (dk_at dksX6_copies_0 15 rfl rfl)
theorem dX6_copies_16 : decode cX6_copies 16 = .ok (.aload_n 0, 1) := dk_42 (dk_at dksX6_copies_0 16 rfl rfl)
theorem dX6_copies_17 : decode cX6_copies 17 = .ok (.iload_n 1, 1) := dk_27 (dk_at dksX6_copies_0 17 rfl rfl)
theorem dX6_copies_18 : decode cX6_copies 18 = .ok (.iload 4, 2) := dk_21 4 (dk_at dksX6_copies_0 18 rfl rfl)
theorem dX6_copies_20 : decode cX6_copies 20 = .ok (.iadd, 1) := dk_96 (dk_at dksX6_copies_0 20 rfl rfl)
theorem dX6_copies_21 : decode cX6_copies 21 = .ok (.iaload, 1) := dk_46 (dk_at dksX6_copies_0 21 rfl rfl)
theorem dX6_copies_22 : decode cX6_copies 22 = .ok (.iastore, 1) := dk_79 (dk_at dksX6_copies_0 22 rfl rfl)
theorem dX6_copies_23 : decode cX6_copies 23 = .ok (.iinc 4 1, 3) := dk_132 4 1 (dk_at dksX6_copies_1 0 rfl rfl)
theorem dX6_copies_26 : decode cX6_copies 26 = .ok (.goto (-23), 3) := dk_167 255 233 (dk_at dksX6_copies_1 3 rfl rfl)
theorem dX6_copies_29 : decode cX6_copies 29 = .ok (.return_, 1) := dk_177 (dk_at dksX6_copies_1 6 rfl rfl)
abbrev cX6_keep : ByteArray := prog_18_method_39_code
def yX6_keep : MethodName := ⟨RX6, "keep", "()I"⟩
def dkwX6_keep_1 : List UInt8 := [180, 0, 57, 17, 1, 80, 46, 172]
abbrev dktX6_keep_1 : List UInt8 := dkwX6_keep_1 ++ []
def dkwX6_keep_0 : List UInt8 := [42, 3, 181, 0, 115, 42, 180, 0, 57, 3, 42, 180, 0, 66, 3, 184, 0, 254, 42, 4, 181, 0, 244, 42]
abbrev dktX6_keep_0 : List UInt8 := dkwX6_keep_0 ++ dktX6_keep_1
theorem dksX6_keep_0 : cX6_keep.data.toList.drop 0 = dktX6_keep_0 := by decide +kernel
theorem dksX6_keep_1 : cX6_keep.data.toList.drop 24 = dktX6_keep_1 := dk_seg dksX6_keep_0 24 rfl rfl
theorem dX6_keep_0 : decode cX6_keep 0 = .ok (.aload_n 0, 1) := dk_42 (dk_at dksX6_keep_0 0 rfl rfl)
theorem dX6_keep_1 : decode cX6_keep 1 = .ok (.iconst 0, 1) := dk_3 (dk_at dksX6_keep_0 1 rfl rfl)
theorem dX6_keep_2 : decode cX6_keep 2 = .ok (.putfield 115, 3) := dk_181 0 115 (dk_at dksX6_keep_0 2 rfl rfl)
theorem dX6_keep_5 : decode cX6_keep 5 = .ok (.aload_n 0, 1) := dk_42 (dk_at dksX6_keep_0 5 rfl rfl)
theorem dX6_keep_6 : decode cX6_keep 6 = .ok (.getfield 57, 3) := dk_180 0 57 (dk_at dksX6_keep_0 6 rfl rfl)
theorem dX6_keep_9 : decode cX6_keep 9 = .ok (.iconst 0, 1) := dk_3 (dk_at dksX6_keep_0 9 rfl rfl)
theorem dX6_keep_10 : decode cX6_keep 10 = .ok (.aload_n 0, 1) := dk_42 (dk_at dksX6_keep_0 10 rfl rfl)
theorem dX6_keep_11 : decode cX6_keep 11 = .ok (.getfield 66, 3) := dk_180 0 66 (dk_at dksX6_keep_0 11 rfl rfl)
theorem dX6_keep_14 : decode cX6_keep 14 = .ok (.iconst 0, 1) := dk_3 (dk_at dksX6_keep_0 14 rfl rfl)
theorem dX6_keep_15 : decode cX6_keep 15 = .ok (.invokestatic 254, 3) := dk_184 0 254 (dk_at dksX6_keep_0 15 rfl rfl)
theorem dX6_keep_18 : decode cX6_keep 18 = .ok (.aload_n 0, 1) := dk_42 (dk_at dksX6_keep_0 18 rfl rfl)
theorem dX6_keep_19 : decode cX6_keep 19 = .ok (.iconst 1, 1) := dk_4 (dk_at dksX6_keep_0 19 rfl rfl)
theorem dX6_keep_20 : decode cX6_keep 20 = .ok (.putfield 244, 3) := dk_181 0 244 (dk_at dksX6_keep_0 20 rfl rfl)
theorem dX6_keep_23 : decode cX6_keep 23 = .ok (.aload_n 0, 1) := dk_42 (dk_at dksX6_keep_0 23 rfl rfl)
theorem dX6_keep_24 : decode cX6_keep 24 = .ok (.getfield 57, 3) := dk_180 0 57 (dk_at dksX6_keep_1 0 rfl rfl)
theorem dX6_keep_27 : decode cX6_keep 27 = .ok (.sipush 336, 3) := dk_17 1 80 (dk_at dksX6_keep_1 3 rfl rfl)
theorem dX6_keep_30 : decode cX6_keep 30 = .ok (.iaload, 1) := dk_46 (dk_at dksX6_keep_1 6 rfl rfl)
theorem dX6_keep_31 : decode cX6_keep 31 = .ok (.ireturn, 1) := dk_172 (dk_at dksX6_keep_1 7 rfl rfl)
abbrev cX6_back : ByteArray := prog_18_method_40_code
def yX6_back : MethodName := ⟨RX6, "back", "()I"⟩
def dkwX6_back_1 : List UInt8 := [184, 0, 254, 42, 3, 181, 0, 241, 42, 180, 0, 57, 17, 1, 80, 46, 172]
abbrev dktX6_back_1 : List UInt8 := dkwX6_back_1 ++ []
def dkwX6_back_0 : List UInt8 := [42, 3, 181, 0, 115, 42, 180, 0, 244, 154, 0, 5, 2, 172, 42, 180, 0, 66, 3, 42, 180, 0, 57, 3]
abbrev dktX6_back_0 : List UInt8 := dkwX6_back_0 ++ dktX6_back_1
theorem dksX6_back_0 : cX6_back.data.toList.drop 0 = dktX6_back_0 := by decide +kernel
theorem dksX6_back_1 : cX6_back.data.toList.drop 24 = dktX6_back_1 := dk_seg dksX6_back_0 24 rfl rfl
theorem dX6_back_0 : decode cX6_back 0 = .ok (.aload_n 0, 1) := dk_42 (dk_at dksX6_back_0 0 rfl rfl)
theorem dX6_back_1 : decode cX6_back 1 = .ok (.iconst 0, 1) := dk_3 (dk_at dksX6_back_0 1 rfl rfl)
theorem dX6_back_2 : decode cX6_back 2 = .ok (.putfield 115, 3) := dk_181 0 115 (dk_at dksX6_back_0 2 rfl rfl)
theorem dX6_back_5 : decode cX6_back 5 = .ok (.aload_n 0, 1) := dk_42 (dk_at dksX6_back_0 5 rfl rfl)
theorem dX6_back_6 : decode cX6_back 6 = .ok (.getfield 244, 3) := dk_180 0 244 (dk_at dksX6_back_0 6 rfl rfl)
theorem dX6_back_9 : decode cX6_back 9 = .ok (.ifCond .ne 5, 3) := dk_154 0 5 (dk_at dksX6_back_0 9 rfl rfl)
theorem dX6_back_12 : decode cX6_back 12 = .ok (.iconst (-1), 1) := dk_2 (dk_at dksX6_back_0 12 rfl rfl)
theorem dX6_back_13 : decode cX6_back 13 = .ok (.ireturn, 1) := dk_172 (dk_at dksX6_back_0 13 rfl rfl)
theorem dX6_back_14 : decode cX6_back 14 = .ok (.aload_n 0, 1) := dk_42 (dk_at dksX6_back_0 14 rfl rfl)
theorem dX6_back_15 : decode cX6_back 15 = .ok (.getfield 66, 3) := dk_180 0 66 (dk_at dksX6_back_0 15 rfl rfl)
theorem dX6_back_18 : decode cX6_back 18 = .ok (.iconst 0, 1) := dk_3 (dk_at dksX6_back_0 18 rfl rfl)
theorem dX6_back_19 : decode cX6_back 19 = .ok (.aload_n 0, 1) := dk_42 (dk_at dksX6_back_0 19 rfl rfl)
theorem dX6_back_20 : decode cX6_back 20 = .ok (.getfield 57, 3) := dk_180 0 57 (dk_at dksX6_back_0 20 rfl rfl)
theorem dX6_back_23 : decode cX6_back 23 = .ok (.iconst 0, 1) := dk_3 (dk_at dksX6_back_0 23 rfl rfl)
theorem dX6_back_24 : decode cX6_back 24 = .ok (.invokestatic 254, 3) := dk_184 0 254 (dk_at dksX6_back_1 0 rfl rfl)
theorem dX6_back_27 : decode cX6_back 27 = .ok (.aload_n 0, 1) := dk_42 (dk_at dksX6_back_1 3 rfl rfl)
theorem dX6_back_28 : decode cX6_back 28 = .ok (.iconst 0, 1) := dk_3 (dk_at dksX6_back_1 4 rfl rfl)
theorem dX6_back_29 : decode cX6_back 29 = .ok (.putfield 241, 3) := dk_181 0 241 (dk_at dksX6_back_1 5 rfl rfl)
theorem dX6_back_32 : decode cX6_back 32 = .ok (.aload_n 0, 1) := dk_42 (dk_at dksX6_back_1 8 rfl rfl)
theorem dX6_back_33 : decode cX6_back 33 = .ok (.getfield 57, 3) := dk_180 0 57 (dk_at dksX6_back_1 9 rfl rfl)
theorem dX6_back_36 : decode cX6_back 36 = .ok (.sipush 336, 3) := dk_17 1 80 (dk_at dksX6_back_1 12 rfl rfl)
theorem dX6_back_39 : decode cX6_back 39 = .ok (.iaload, 1) := dk_46 (dk_at dksX6_back_1 15 rfl rfl)
theorem dX6_back_40 : decode cX6_back 40 = .ok (.ireturn, 1) := dk_172 (dk_at dksX6_back_1 16 rfl rfl)
abbrev cX6_tick : ByteArray := prog_18_method_59_code
def yX6_tick : MethodName := ⟨RX6, "tick", "(I)I"⟩
def dkwX6_tick_2 : List UInt8 := [162, 0, 13, 42, 182, 1, 57, 132, 2, 1, 167, 255, 244, 42, 180, 0, 57, 17, 1, 80, 46, 172]
abbrev dktX6_tick_2 : List UInt8 := dkwX6_tick_2 ++ []
def dkwX6_tick_1 : List UInt8 := [17, 1, 80, 46, 27, 96, 17, 39, 15, 164, 0, 6, 16, 254, 172, 42, 182, 1, 54, 3, 61, 28, 27]
abbrev dktX6_tick_1 : List UInt8 := dkwX6_tick_1 ++ dktX6_tick_2
def dkwX6_tick_0 : List UInt8 := [42, 3, 181, 0, 115, 27, 4, 161, 0, 9, 27, 16, 50, 164, 0, 5, 2, 172, 42, 180, 0, 57]
abbrev dktX6_tick_0 : List UInt8 := dkwX6_tick_0 ++ dktX6_tick_1
theorem dksX6_tick_0 : cX6_tick.data.toList.drop 0 = dktX6_tick_0 := by decide +kernel
theorem dksX6_tick_1 : cX6_tick.data.toList.drop 22 = dktX6_tick_1 := dk_seg dksX6_tick_0 22 rfl rfl
theorem dksX6_tick_2 : cX6_tick.data.toList.drop 45 = dktX6_tick_2 := dk_seg dksX6_tick_1 23 rfl rfl
theorem dX6_tick_0 : decode cX6_tick 0 = .ok (.aload_n 0, 1) := dk_42 (dk_at dksX6_tick_0 0 rfl rfl)
theorem dX6_tick_1 : decode cX6_tick 1 = .ok (.iconst 0, 1) := dk_3 (dk_at dksX6_tick_0 1 rfl rfl)
theorem dX6_tick_2 : decode cX6_tick 2 = .ok (.putfield 115, 3) := dk_181 0 115 (dk_at dksX6_tick_0 2 rfl rfl)
theorem dX6_tick_5 : decode cX6_tick 5 = .ok (.iload_n 1, 1) := dk_27 (dk_at dksX6_tick_0 5 rfl rfl)
theorem dX6_tick_6 : decode cX6_tick 6 = .ok (.iconst 1, 1) := dk_4 (dk_at dksX6_tick_0 6 rfl rfl)
theorem dX6_tick_7 : decode cX6_tick 7 = .ok (.if_icmp .lt 9, 3) := dk_161 0 9 (dk_at dksX6_tick_0 7 rfl rfl)
theorem dX6_tick_10 : decode cX6_tick 10 = .ok (.iload_n 1, 1) := dk_27 (dk_at dksX6_tick_0 10 rfl rfl)
theorem dX6_tick_11 : decode cX6_tick 11 = .ok (.bipush 50, 2) := dk_16 50 (dk_at dksX6_tick_0 11 rfl rfl)
theorem dX6_tick_13 : decode cX6_tick 13 = .ok (.if_icmp .le 5, 3) := dk_164 0 5 (dk_at dksX6_tick_0 13 rfl rfl)
theorem dX6_tick_16 : decode cX6_tick 16 = .ok (.iconst (-1), 1) := dk_2 (dk_at dksX6_tick_0 16 rfl rfl)
theorem dX6_tick_17 : decode cX6_tick 17 = .ok (.ireturn, 1) := dk_172 (dk_at dksX6_tick_0 17 rfl rfl)
theorem dX6_tick_18 : decode cX6_tick 18 = .ok (.aload_n 0, 1) := dk_42 (dk_at dksX6_tick_0 18 rfl rfl)
theorem dX6_tick_19 : decode cX6_tick 19 = .ok (.getfield 57, 3) := dk_180 0 57 (dk_at dksX6_tick_0 19 rfl rfl)
theorem dX6_tick_22 : decode cX6_tick 22 = .ok (.sipush 336, 3) := dk_17 1 80 (dk_at dksX6_tick_1 0 rfl rfl)
theorem dX6_tick_25 : decode cX6_tick 25 = .ok (.iaload, 1) := dk_46 (dk_at dksX6_tick_1 3 rfl rfl)
theorem dX6_tick_26 : decode cX6_tick 26 = .ok (.iload_n 1, 1) := dk_27 (dk_at dksX6_tick_1 4 rfl rfl)
theorem dX6_tick_27 : decode cX6_tick 27 = .ok (.iadd, 1) := dk_96 (dk_at dksX6_tick_1 5 rfl rfl)
theorem dX6_tick_28 : decode cX6_tick 28 = .ok (.sipush 9999, 3) := dk_17 39 15 (dk_at dksX6_tick_1 6 rfl rfl)
theorem dX6_tick_31 : decode cX6_tick 31 = .ok (.if_icmp .le 6, 3) := dk_164 0 6 (dk_at dksX6_tick_1 9 rfl rfl)
theorem dX6_tick_34 : decode cX6_tick 34 = .ok (.bipush (-2), 2) := dk_16 254 (dk_at dksX6_tick_1 12 rfl rfl)
theorem dX6_tick_36 : decode cX6_tick 36 = .ok (.ireturn, 1) := dk_172 (dk_at dksX6_tick_1 14 rfl rfl)
theorem dX6_tick_37 : decode cX6_tick 37 = .ok (.aload_n 0, 1) := dk_42 (dk_at dksX6_tick_1 15 rfl rfl)
theorem dX6_tick_38 : decode cX6_tick 38 = .ok (.invokevirtual 310, 3) := dk_182 1 54 (dk_at dksX6_tick_1 16 rfl rfl)
theorem dX6_tick_41 : decode cX6_tick 41 = .ok (.iconst 0, 1) := dk_3 (dk_at dksX6_tick_1 19 rfl rfl)
theorem dX6_tick_42 : decode cX6_tick 42 = .ok (.istore_n 2, 1) := dk_61 (dk_at dksX6_tick_1 20 rfl rfl)
theorem dX6_tick_43 : decode cX6_tick 43 = .ok (.iload_n 2, 1) := dk_28 (dk_at dksX6_tick_1 21 rfl rfl)
theorem dX6_tick_44 : decode cX6_tick 44 = .ok (.iload_n 1, 1) := dk_27 (dk_at dksX6_tick_1 22 rfl rfl)
theorem dX6_tick_45 : decode cX6_tick 45 = .ok (.if_icmp .ge 13, 3) := dk_162 0 13 (dk_at dksX6_tick_2 0 rfl rfl)
theorem dX6_tick_48 : decode cX6_tick 48 = .ok (.aload_n 0, 1) := dk_42 (dk_at dksX6_tick_2 3 rfl rfl)
theorem dX6_tick_49 : decode cX6_tick 49 = .ok (.invokevirtual 313, 3) := dk_182 1 57 (dk_at dksX6_tick_2 4 rfl rfl)
theorem dX6_tick_52 : decode cX6_tick 52 = .ok (.iinc 2 1, 3) := dk_132 2 1 (dk_at dksX6_tick_2 7 rfl rfl)
theorem dX6_tick_55 : decode cX6_tick 55 = .ok (.goto (-12), 3) := dk_167 255 244 (dk_at dksX6_tick_2 10 rfl rfl)
theorem dX6_tick_58 : decode cX6_tick 58 = .ok (.aload_n 0, 1) := dk_42 (dk_at dksX6_tick_2 13 rfl rfl)
theorem dX6_tick_59 : decode cX6_tick 59 = .ok (.getfield 57, 3) := dk_180 0 57 (dk_at dksX6_tick_2 14 rfl rfl)
theorem dX6_tick_62 : decode cX6_tick 62 = .ok (.sipush 336, 3) := dk_17 1 80 (dk_at dksX6_tick_2 17 rfl rfl)
theorem dX6_tick_65 : decode cX6_tick 65 = .ok (.iaload, 1) := dk_46 (dk_at dksX6_tick_2 20 rfl rfl)
theorem dX6_tick_66 : decode cX6_tick 66 = .ok (.ireturn, 1) := dk_172 (dk_at dksX6_tick_2 21 rfl rfl)
abbrev cX6_remembers : ByteArray := prog_18_method_37_code
def yX6_remembers : MethodName := ⟨RX6, "remembers", "()V"⟩
def dkwX6_remembers_3 : List UInt8 := [89, 180, 0, 241, 4, 96, 181, 0, 241, 177]
abbrev dktX6_remembers_3 : List UInt8 := dkwX6_remembers_3 ++ []
def dkwX6_remembers_2 : List UInt8 := [181, 0, 241, 42, 180, 0, 57, 3, 42, 180, 0, 69, 17, 1, 81, 42, 180, 0, 241, 104, 184, 0, 254, 42]
abbrev dktX6_remembers_2 : List UInt8 := dkwX6_remembers_2 ++ dktX6_remembers_3
def dkwX6_remembers_1 : List UInt8 := [180, 0, 69, 17, 1, 81, 27, 96, 46, 79, 132, 1, 1, 167, 255, 230, 42, 89, 180, 0, 241, 4, 100]
abbrev dktX6_remembers_1 : List UInt8 := dkwX6_remembers_1 ++ dktX6_remembers_2
def dkwX6_remembers_0 : List UInt8 := [42, 180, 0, 241, 16, 20, 160, 0, 44, 3, 60, 27, 17, 25, 3, 162, 0, 25, 42, 180, 0, 69, 27, 42]
abbrev dktX6_remembers_0 : List UInt8 := dkwX6_remembers_0 ++ dktX6_remembers_1
theorem dksX6_remembers_0 : cX6_remembers.data.toList.drop 0 = dktX6_remembers_0 := by decide +kernel
theorem dksX6_remembers_1 : cX6_remembers.data.toList.drop 24 = dktX6_remembers_1 := dk_seg dksX6_remembers_0 24 rfl rfl
theorem dksX6_remembers_2 : cX6_remembers.data.toList.drop 47 = dktX6_remembers_2 := dk_seg dksX6_remembers_1 23 rfl rfl
theorem dksX6_remembers_3 : cX6_remembers.data.toList.drop 71 = dktX6_remembers_3 := dk_seg dksX6_remembers_2 24 rfl rfl
theorem dX6_remembers_0 : decode cX6_remembers 0 = .ok (.aload_n 0, 1) := dk_42 (dk_at dksX6_remembers_0 0 rfl rfl)
theorem dX6_remembers_1 : decode cX6_remembers 1 = .ok (.getfield 241, 3) := dk_180 0 241 (dk_at dksX6_remembers_0 1 rfl rfl)
theorem dX6_remembers_4 : decode cX6_remembers 4 = .ok (.bipush 20, 2) := dk_16 20 (dk_at dksX6_remembers_0 4 rfl rfl)
theorem dX6_remembers_6 : decode cX6_remembers 6 = .ok (.if_icmp .ne 44, 3) := dk_160 0 44 (dk_at dksX6_remembers_0 6 rfl rfl)
theorem dX6_remembers_9 : decode cX6_remembers 9 = .ok (.iconst 0, 1) := dk_3 (dk_at dksX6_remembers_0 9 rfl rfl)
theorem dX6_remembers_10 : decode cX6_remembers 10 = .ok (.istore_n 1, 1) := dk_60 (dk_at dksX6_remembers_0 10 rfl rfl)
theorem dX6_remembers_11 : decode cX6_remembers 11 = .ok (.iload_n 1, 1) := dk_27 (dk_at dksX6_remembers_0 11 rfl rfl)
theorem dX6_remembers_12 : decode cX6_remembers 12 = .ok (.sipush 6403, 3) := dk_17 25 3 (dk_at dksX6_remembers_0 12 rfl rfl)
theorem dX6_remembers_15 : decode cX6_remembers 15 = .ok (.if_icmp .ge 25, 3) := dk_162 0 25 (dk_at dksX6_remembers_0 15 rfl rfl)
theorem dX6_remembers_18 : decode cX6_remembers 18 = .ok (.aload_n 0, 1) := dk_42 (dk_at dksX6_remembers_0 18 rfl rfl)
theorem dX6_remembers_19 : decode cX6_remembers 19 = .ok (.getfield 69, 3) := dk_180 0 69 (dk_at dksX6_remembers_0 19 rfl rfl)
theorem dX6_remembers_22 : decode cX6_remembers 22 = .ok (.iload_n 1, 1) := dk_27 (dk_at dksX6_remembers_0 22 rfl rfl)
theorem dX6_remembers_23 : decode cX6_remembers 23 = .ok (.aload_n 0, 1) := dk_42 (dk_at dksX6_remembers_0 23 rfl rfl)
theorem dX6_remembers_24 : decode cX6_remembers 24 = .ok (.getfield 69, 3) := dk_180 0 69 (dk_at dksX6_remembers_1 0 rfl rfl)
theorem dX6_remembers_27 : decode cX6_remembers 27 = .ok (.sipush 337, 3) := dk_17 1 81 (dk_at dksX6_remembers_1 3 rfl rfl)
theorem dX6_remembers_30 : decode cX6_remembers 30 = .ok (.iload_n 1, 1) := dk_27 (dk_at dksX6_remembers_1 6 rfl rfl)
theorem dX6_remembers_31 : decode cX6_remembers 31 = .ok (.iadd, 1) := dk_96 (dk_at dksX6_remembers_1 7 rfl rfl)
theorem dX6_remembers_32 : decode cX6_remembers 32 = .ok (.iaload, 1) := dk_46 (dk_at dksX6_remembers_1 8 rfl rfl)
theorem dX6_remembers_33 : decode cX6_remembers 33 = .ok (.iastore, 1) := dk_79 (dk_at dksX6_remembers_1 9 rfl rfl)
theorem dX6_remembers_34 : decode cX6_remembers 34 = .ok (.iinc 1 1, 3) := dk_132 1 1 (dk_at dksX6_remembers_1 10 rfl rfl)
theorem dX6_remembers_37 : decode cX6_remembers 37 = .ok (.goto (-26), 3) := dk_167 255 230 (dk_at dksX6_remembers_1 13 rfl rfl)
theorem dX6_remembers_40 : decode cX6_remembers 40 = .ok (.aload_n 0, 1) := dk_42 (dk_at dksX6_remembers_1 16 rfl rfl)
theorem dX6_remembers_41 : decode cX6_remembers 41 = .ok (.dup, 1) := dk_89 (dk_at dksX6_remembers_1 17 rfl rfl)
theorem dX6_remembers_42 : decode cX6_remembers 42 = .ok (.getfield 241, 3) := dk_180 0 241 (dk_at dksX6_remembers_1 18 rfl rfl)
theorem dX6_remembers_45 : decode cX6_remembers 45 = .ok (.iconst 1, 1) := dk_4 (dk_at dksX6_remembers_1 21 rfl rfl)
theorem dX6_remembers_46 : decode cX6_remembers 46 = .ok (.isub, 1) := dk_100 (dk_at dksX6_remembers_1 22 rfl rfl)
theorem dX6_remembers_47 : decode cX6_remembers 47 = .ok (.putfield 241, 3) := dk_181 0 241 (dk_at dksX6_remembers_2 0 rfl rfl)
theorem dX6_remembers_50 : decode cX6_remembers 50 = .ok (.aload_n 0, 1) := dk_42 (dk_at dksX6_remembers_2 3 rfl rfl)
theorem dX6_remembers_51 : decode cX6_remembers 51 = .ok (.getfield 57, 3) := dk_180 0 57 (dk_at dksX6_remembers_2 4 rfl rfl)
theorem dX6_remembers_54 : decode cX6_remembers 54 = .ok (.iconst 0, 1) := dk_3 (dk_at dksX6_remembers_2 7 rfl rfl)
theorem dX6_remembers_55 : decode cX6_remembers 55 = .ok (.aload_n 0, 1) := dk_42 (dk_at dksX6_remembers_2 8 rfl rfl)
theorem dX6_remembers_56 : decode cX6_remembers 56 = .ok (.getfield 69, 3) := dk_180 0 69 (dk_at dksX6_remembers_2 9 rfl rfl)
theorem dX6_remembers_59 : decode cX6_remembers 59 = .ok (.sipush 337, 3) := dk_17 1 81 (dk_at dksX6_remembers_2 12 rfl rfl)
theorem dX6_remembers_62 : decode cX6_remembers 62 = .ok (.aload_n 0, 1) := dk_42 (dk_at dksX6_remembers_2 15 rfl rfl)
theorem dX6_remembers_63 : decode cX6_remembers 63 = .ok (.getfield 241, 3) := dk_180 0 241 (dk_at dksX6_remembers_2 16 rfl rfl)
theorem dX6_remembers_66 : decode cX6_remembers 66 = .ok (.imul, 1) := dk_104 (dk_at dksX6_remembers_2 19 rfl rfl)
theorem dX6_remembers_67 : decode cX6_remembers 67 = .ok (.invokestatic 254, 3) := dk_184 0 254 (dk_at dksX6_remembers_2 20 rfl rfl)
theorem dX6_remembers_70 : decode cX6_remembers 70 = .ok (.aload_n 0, 1) := dk_42 (dk_at dksX6_remembers_2 23 rfl rfl)
theorem dX6_remembers_71 : decode cX6_remembers 71 = .ok (.dup, 1) := dk_89 (dk_at dksX6_remembers_3 0 rfl rfl)
theorem dX6_remembers_72 : decode cX6_remembers 72 = .ok (.getfield 241, 3) := dk_180 0 241 (dk_at dksX6_remembers_3 1 rfl rfl)
theorem dX6_remembers_75 : decode cX6_remembers 75 = .ok (.iconst 1, 1) := dk_4 (dk_at dksX6_remembers_3 4 rfl rfl)
theorem dX6_remembers_76 : decode cX6_remembers 76 = .ok (.iadd, 1) := dk_96 (dk_at dksX6_remembers_3 5 rfl rfl)
theorem dX6_remembers_77 : decode cX6_remembers 77 = .ok (.putfield 241, 3) := dk_181 0 241 (dk_at dksX6_remembers_3 6 rfl rfl)
theorem dX6_remembers_80 : decode cX6_remembers 80 = .ok (.return_, 1) := dk_177 (dk_at dksX6_remembers_3 9 rfl rfl)
abbrev cX6_tickGoes : ByteArray := prog_18_method_58_code
def yX6_tickGoes : MethodName := ⟨RX6, "tickGoes", "()V"⟩
def dkwX6_tickGoes_8 : List UInt8 := [167, 255, 232, 42, 180, 0, 57, 17, 1, 80, 92, 46, 4, 96, 79, 177]
abbrev dktX6_tickGoes_8 : List UInt8 := dkwX6_tickGoes_8 ++ []
def dkwX6_tickGoes_7 : List UInt8 := [27, 42, 182, 0, 251, 162, 0, 22, 42, 27, 182, 1, 27, 153, 0, 8, 42, 27, 182, 1, 51, 132, 1, 1]
abbrev dktX6_tickGoes_7 : List UInt8 := dkwX6_tickGoes_7 ++ dktX6_tickGoes_8
def dkwX6_tickGoes_6 : List UInt8 := [42, 182, 0, 248, 162, 0, 14, 42, 27, 182, 1, 45, 132, 1, 1, 167, 255, 240, 42, 182, 1, 48, 3, 60]
abbrev dktX6_tickGoes_6 : List UInt8 := dkwX6_tickGoes_6 ++ dktX6_tickGoes_7
def dkwX6_tickGoes_5 : List UInt8 := [3, 60, 27, 42, 182, 0, 248, 162, 0, 14, 42, 27, 182, 1, 42, 132, 1, 1, 167, 255, 240, 3, 60, 27]
abbrev dktX6_tickGoes_5 : List UInt8 := dkwX6_tickGoes_5 ++ dktX6_tickGoes_6
def dkwX6_tickGoes_4 : List UInt8 := [181, 1, 21, 3, 60, 27, 42, 182, 0, 248, 162, 0, 14, 42, 27, 182, 1, 39, 132, 1, 1, 167, 255, 240]
abbrev dktX6_tickGoes_4 : List UInt8 := dkwX6_tickGoes_4 ++ dktX6_tickGoes_5
def dkwX6_tickGoes_3 : List UInt8 := [182, 0, 248, 162, 0, 14, 42, 27, 182, 1, 33, 132, 1, 1, 167, 255, 240, 42, 182, 1, 36, 42, 3]
abbrev dktX6_tickGoes_3 : List UInt8 := dkwX6_tickGoes_3 ++ dktX6_tickGoes_4
def dkwX6_tickGoes_2 : List UInt8 := [96, 3, 17, 4, 0, 184, 1, 11, 79, 132, 1, 1, 167, 255, 198, 42, 182, 1, 30, 3, 60, 27, 42]
abbrev dktX6_tickGoes_2 : List UInt8 := dkwX6_tickGoes_2 ++ dktX6_tickGoes_3
def dkwX6_tickGoes_1 : List UInt8 := [180, 0, 57, 28, 16, 8, 96, 42, 180, 0, 57, 28, 16, 8, 96, 46, 42, 180, 0, 57, 28, 3, 96, 46]
abbrev dktX6_tickGoes_1 : List UInt8 := dkwX6_tickGoes_1 ++ dktX6_tickGoes_2
def dkwX6_tickGoes_0 : List UInt8 := [3, 60, 27, 42, 182, 0, 251, 162, 0, 56, 27, 184, 1, 2, 61, 42, 27, 182, 1, 27, 153, 0, 37, 42]
abbrev dktX6_tickGoes_0 : List UInt8 := dkwX6_tickGoes_0 ++ dktX6_tickGoes_1
theorem dksX6_tickGoes_0 : cX6_tickGoes.data.toList.drop 0 = dktX6_tickGoes_0 := by decide +kernel
theorem dksX6_tickGoes_1 : cX6_tickGoes.data.toList.drop 24 = dktX6_tickGoes_1 := dk_seg dksX6_tickGoes_0 24 rfl rfl
theorem dksX6_tickGoes_2 : cX6_tickGoes.data.toList.drop 48 = dktX6_tickGoes_2 := dk_seg dksX6_tickGoes_1 24 rfl rfl
theorem dksX6_tickGoes_3 : cX6_tickGoes.data.toList.drop 71 = dktX6_tickGoes_3 := dk_seg dksX6_tickGoes_2 23 rfl rfl
theorem dksX6_tickGoes_4 : cX6_tickGoes.data.toList.drop 94 = dktX6_tickGoes_4 := dk_seg dksX6_tickGoes_3 23 rfl rfl
theorem dksX6_tickGoes_5 : cX6_tickGoes.data.toList.drop 118 = dktX6_tickGoes_5 := dk_seg dksX6_tickGoes_4 24 rfl rfl
theorem dksX6_tickGoes_6 : cX6_tickGoes.data.toList.drop 142 = dktX6_tickGoes_6 := dk_seg dksX6_tickGoes_5 24 rfl rfl
theorem dksX6_tickGoes_7 : cX6_tickGoes.data.toList.drop 166 = dktX6_tickGoes_7 := dk_seg dksX6_tickGoes_6 24 rfl rfl
theorem dksX6_tickGoes_8 : cX6_tickGoes.data.toList.drop 190 = dktX6_tickGoes_8 := dk_seg dksX6_tickGoes_7 24 rfl rfl
theorem dX6_tickGoes_0 : decode cX6_tickGoes 0 = .ok (.iconst 0, 1) := dk_3 (dk_at dksX6_tickGoes_0 0 rfl rfl)
theorem dX6_tickGoes_1 : decode cX6_tickGoes 1 = .ok (.istore_n 1, 1) := dk_60 (dk_at dksX6_tickGoes_0 1 rfl rfl)
theorem dX6_tickGoes_2 : decode cX6_tickGoes 2 = .ok (.iload_n 1, 1) := dk_27 (dk_at dksX6_tickGoes_0 2 rfl rfl)
theorem dX6_tickGoes_3 : decode cX6_tickGoes 3 = .ok (.aload_n 0, 1) := dk_42 (dk_at dksX6_tickGoes_0 3 rfl rfl)
theorem dX6_tickGoes_4 : decode cX6_tickGoes 4 = .ok (.invokevirtual 251, 3) := dk_182 0 251 (dk_at dksX6_tickGoes_0 4 rfl rfl)
theorem dX6_tickGoes_7 : decode cX6_tickGoes 7 = .ok (.if_icmp .ge 56, 3) := dk_162 0 56 (dk_at dksX6_tickGoes_0 7 rfl rfl)
theorem dX6_tickGoes_10 : decode cX6_tickGoes 10 = .ok (.iload_n 1, 1) := dk_27 (dk_at dksX6_tickGoes_0 10 rfl rfl)
theorem dX6_tickGoes_11 : decode cX6_tickGoes 11 = .ok (.invokestatic 258, 3) := dk_184 1 2 (dk_at dksX6_tickGoes_0 11 rfl rfl)
theorem dX6_tickGoes_14 : decode cX6_tickGoes 14 = .ok (.istore_n 2, 1) := dk_61 (dk_at dksX6_tickGoes_0 14 rfl rfl)
theorem dX6_tickGoes_15 : decode cX6_tickGoes 15 = .ok (.aload_n 0, 1) := dk_42 (dk_at dksX6_tickGoes_0 15 rfl rfl)
theorem dX6_tickGoes_16 : decode cX6_tickGoes 16 = .ok (.iload_n 1, 1) := dk_27 (dk_at dksX6_tickGoes_0 16 rfl rfl)
theorem dX6_tickGoes_17 : decode cX6_tickGoes 17 = .ok (.invokevirtual 283, 3) := dk_182 1 27 (dk_at dksX6_tickGoes_0 17 rfl rfl)
theorem dX6_tickGoes_20 : decode cX6_tickGoes 20 = .ok (.ifCond .eq 37, 3) := dk_153 0 37 (dk_at dksX6_tickGoes_0 20 rfl rfl)
theorem dX6_tickGoes_23 : decode cX6_tickGoes 23 = .ok (.aload_n 0, 1) := dk_42 (dk_at dksX6_tickGoes_0 23 rfl rfl)
theorem dX6_tickGoes_24 : decode cX6_tickGoes 24 = .ok (.getfield 57, 3) := dk_180 0 57 (dk_at dksX6_tickGoes_1 0 rfl rfl)
theorem dX6_tickGoes_27 : decode cX6_tickGoes 27 = .ok (.iload_n 2, 1) := dk_28 (dk_at dksX6_tickGoes_1 3 rfl rfl)
theorem dX6_tickGoes_28 : decode cX6_tickGoes 28 = .ok (.bipush 8, 2) := dk_16 8 (dk_at dksX6_tickGoes_1 4 rfl rfl)
theorem dX6_tickGoes_30 : decode cX6_tickGoes 30 = .ok (.iadd, 1) := dk_96 (dk_at dksX6_tickGoes_1 6 rfl rfl)
theorem dX6_tickGoes_31 : decode cX6_tickGoes 31 = .ok (.aload_n 0, 1) := dk_42 (dk_at dksX6_tickGoes_1 7 rfl rfl)
theorem dX6_tickGoes_32 : decode cX6_tickGoes 32 = .ok (.getfield 57, 3) := dk_180 0 57 (dk_at dksX6_tickGoes_1 8 rfl rfl)
theorem dX6_tickGoes_35 : decode cX6_tickGoes 35 = .ok (.iload_n 2, 1) := dk_28 (dk_at dksX6_tickGoes_1 11 rfl rfl)
theorem dX6_tickGoes_36 : decode cX6_tickGoes 36 = .ok (.bipush 8, 2) := dk_16 8 (dk_at dksX6_tickGoes_1 12 rfl rfl)
theorem dX6_tickGoes_38 : decode cX6_tickGoes 38 = .ok (.iadd, 1) := dk_96 (dk_at dksX6_tickGoes_1 14 rfl rfl)
theorem dX6_tickGoes_39 : decode cX6_tickGoes 39 = .ok (.iaload, 1) := dk_46 (dk_at dksX6_tickGoes_1 15 rfl rfl)
theorem dX6_tickGoes_40 : decode cX6_tickGoes 40 = .ok (.aload_n 0, 1) := dk_42 (dk_at dksX6_tickGoes_1 16 rfl rfl)
theorem dX6_tickGoes_41 : decode cX6_tickGoes 41 = .ok (.getfield 57, 3) := dk_180 0 57 (dk_at dksX6_tickGoes_1 17 rfl rfl)
theorem dX6_tickGoes_44 : decode cX6_tickGoes 44 = .ok (.iload_n 2, 1) := dk_28 (dk_at dksX6_tickGoes_1 20 rfl rfl)
theorem dX6_tickGoes_45 : decode cX6_tickGoes 45 = .ok (.iconst 0, 1) := dk_3 (dk_at dksX6_tickGoes_1 21 rfl rfl)
theorem dX6_tickGoes_46 : decode cX6_tickGoes 46 = .ok (.iadd, 1) := dk_96 (dk_at dksX6_tickGoes_1 22 rfl rfl)
theorem dX6_tickGoes_47 : decode cX6_tickGoes 47 = .ok (.iaload, 1) := dk_46 (dk_at dksX6_tickGoes_1 23 rfl rfl)
theorem dX6_tickGoes_48 : decode cX6_tickGoes 48 = .ok (.iadd, 1) := dk_96 (dk_at dksX6_tickGoes_2 0 rfl rfl)
theorem dX6_tickGoes_49 : decode cX6_tickGoes 49 = .ok (.iconst 0, 1) := dk_3 (dk_at dksX6_tickGoes_2 1 rfl rfl)
theorem dX6_tickGoes_50 : decode cX6_tickGoes 50 = .ok (.sipush 1024, 3) := dk_17 4 0 (dk_at dksX6_tickGoes_2 2 rfl rfl)
theorem dX6_tickGoes_53 : decode cX6_tickGoes 53 = .ok (.invokestatic 267, 3) := dk_184 1 11 (dk_at dksX6_tickGoes_2 5 rfl rfl)
theorem dX6_tickGoes_56 : decode cX6_tickGoes 56 = .ok (.iastore, 1) := dk_79 (dk_at dksX6_tickGoes_2 8 rfl rfl)
theorem dX6_tickGoes_57 : decode cX6_tickGoes 57 = .ok (.iinc 1 1, 3) := dk_132 1 1 (dk_at dksX6_tickGoes_2 9 rfl rfl)
theorem dX6_tickGoes_60 : decode cX6_tickGoes 60 = .ok (.goto (-58), 3) := dk_167 255 198 (dk_at dksX6_tickGoes_2 12 rfl rfl)
theorem dX6_tickGoes_63 : decode cX6_tickGoes 63 = .ok (.aload_n 0, 1) := dk_42 (dk_at dksX6_tickGoes_2 15 rfl rfl)
theorem dX6_tickGoes_64 : decode cX6_tickGoes 64 = .ok (.invokevirtual 286, 3) := dk_182 1 30 (dk_at dksX6_tickGoes_2 16 rfl rfl)
theorem dX6_tickGoes_67 : decode cX6_tickGoes 67 = .ok (.iconst 0, 1) := dk_3 (dk_at dksX6_tickGoes_2 19 rfl rfl)
theorem dX6_tickGoes_68 : decode cX6_tickGoes 68 = .ok (.istore_n 1, 1) := dk_60 (dk_at dksX6_tickGoes_2 20 rfl rfl)
theorem dX6_tickGoes_69 : decode cX6_tickGoes 69 = .ok (.iload_n 1, 1) := dk_27 (dk_at dksX6_tickGoes_2 21 rfl rfl)
theorem dX6_tickGoes_70 : decode cX6_tickGoes 70 = .ok (.aload_n 0, 1) := dk_42 (dk_at dksX6_tickGoes_2 22 rfl rfl)
theorem dX6_tickGoes_71 : decode cX6_tickGoes 71 = .ok (.invokevirtual 248, 3) := dk_182 0 248 (dk_at dksX6_tickGoes_3 0 rfl rfl)
theorem dX6_tickGoes_74 : decode cX6_tickGoes 74 = .ok (.if_icmp .ge 14, 3) := dk_162 0 14 (dk_at dksX6_tickGoes_3 3 rfl rfl)
theorem dX6_tickGoes_77 : decode cX6_tickGoes 77 = .ok (.aload_n 0, 1) := dk_42 (dk_at dksX6_tickGoes_3 6 rfl rfl)
theorem dX6_tickGoes_78 : decode cX6_tickGoes 78 = .ok (.iload_n 1, 1) := dk_27 (dk_at dksX6_tickGoes_3 7 rfl rfl)
theorem dX6_tickGoes_79 : decode cX6_tickGoes 79 = .ok (.invokevirtual 289, 3) := dk_182 1 33 (dk_at dksX6_tickGoes_3 8 rfl rfl)
theorem dX6_tickGoes_82 : decode cX6_tickGoes 82 = .ok (.iinc 1 1, 3) := dk_132 1 1 (dk_at dksX6_tickGoes_3 11 rfl rfl)
theorem dX6_tickGoes_85 : decode cX6_tickGoes 85 = .ok (.goto (-16), 3) := dk_167 255 240 (dk_at dksX6_tickGoes_3 14 rfl rfl)
theorem dX6_tickGoes_88 : decode cX6_tickGoes 88 = .ok (.aload_n 0, 1) := dk_42 (dk_at dksX6_tickGoes_3 17 rfl rfl)
theorem dX6_tickGoes_89 : decode cX6_tickGoes 89 = .ok (.invokevirtual 292, 3) := dk_182 1 36 (dk_at dksX6_tickGoes_3 18 rfl rfl)
theorem dX6_tickGoes_92 : decode cX6_tickGoes 92 = .ok (.aload_n 0, 1) := dk_42 (dk_at dksX6_tickGoes_3 21 rfl rfl)
theorem dX6_tickGoes_93 : decode cX6_tickGoes 93 = .ok (.iconst 0, 1) := dk_3 (dk_at dksX6_tickGoes_3 22 rfl rfl)
theorem dX6_tickGoes_94 : decode cX6_tickGoes 94 = .ok (.putfield 277, 3) := dk_181 1 21 (dk_at dksX6_tickGoes_4 0 rfl rfl)
theorem dX6_tickGoes_97 : decode cX6_tickGoes 97 = .ok (.iconst 0, 1) := dk_3 (dk_at dksX6_tickGoes_4 3 rfl rfl)
theorem dX6_tickGoes_98 : decode cX6_tickGoes 98 = .ok (.istore_n 1, 1) := dk_60 (dk_at dksX6_tickGoes_4 4 rfl rfl)
theorem dX6_tickGoes_99 : decode cX6_tickGoes 99 = .ok (.iload_n 1, 1) := dk_27 (dk_at dksX6_tickGoes_4 5 rfl rfl)
theorem dX6_tickGoes_100 : decode cX6_tickGoes 100 = .ok (.aload_n 0, 1) := dk_42 (dk_at dksX6_tickGoes_4 6 rfl rfl)
theorem dX6_tickGoes_101 : decode cX6_tickGoes 101 = .ok (.invokevirtual 248, 3) := dk_182 0 248 (dk_at dksX6_tickGoes_4 7 rfl rfl)
theorem dX6_tickGoes_104 : decode cX6_tickGoes 104 = .ok (.if_icmp .ge 14, 3) := dk_162 0 14 (dk_at dksX6_tickGoes_4 10 rfl rfl)
theorem dX6_tickGoes_107 : decode cX6_tickGoes 107 = .ok (.aload_n 0, 1) := dk_42 (dk_at dksX6_tickGoes_4 13 rfl rfl)
theorem dX6_tickGoes_108 : decode cX6_tickGoes 108 = .ok (.iload_n 1, 1) := dk_27 (dk_at dksX6_tickGoes_4 14 rfl rfl)
theorem dX6_tickGoes_109 : decode cX6_tickGoes 109 = .ok (.invokevirtual 295, 3) := dk_182 1 39 (dk_at dksX6_tickGoes_4 15 rfl rfl)
theorem dX6_tickGoes_112 : decode cX6_tickGoes 112 = .ok (.iinc 1 1, 3) := dk_132 1 1 (dk_at dksX6_tickGoes_4 18 rfl rfl)
theorem dX6_tickGoes_115 : decode cX6_tickGoes 115 = .ok (.goto (-16), 3) := dk_167 255 240 (dk_at dksX6_tickGoes_4 21 rfl rfl)
theorem dX6_tickGoes_118 : decode cX6_tickGoes 118 = .ok (.iconst 0, 1) := dk_3 (dk_at dksX6_tickGoes_5 0 rfl rfl)
theorem dX6_tickGoes_119 : decode cX6_tickGoes 119 = .ok (.istore_n 1, 1) := dk_60 (dk_at dksX6_tickGoes_5 1 rfl rfl)
theorem dX6_tickGoes_120 : decode cX6_tickGoes 120 = .ok (.iload_n 1, 1) := dk_27 (dk_at dksX6_tickGoes_5 2 rfl rfl)
theorem dX6_tickGoes_121 : decode cX6_tickGoes 121 = .ok (.aload_n 0, 1) := dk_42 (dk_at dksX6_tickGoes_5 3 rfl rfl)
theorem dX6_tickGoes_122 : decode cX6_tickGoes 122 = .ok (.invokevirtual 248, 3) := dk_182 0 248 (dk_at dksX6_tickGoes_5 4 rfl rfl)
theorem dX6_tickGoes_125 : decode cX6_tickGoes 125 = .ok (.if_icmp .ge 14, 3) := dk_162 0 14 (dk_at dksX6_tickGoes_5 7 rfl rfl)
theorem dX6_tickGoes_128 : decode cX6_tickGoes 128 = .ok (.aload_n 0, 1) := dk_42 (dk_at dksX6_tickGoes_5 10 rfl rfl)
theorem dX6_tickGoes_129 : decode cX6_tickGoes 129 = .ok (.iload_n 1, 1) := dk_27 (dk_at dksX6_tickGoes_5 11 rfl rfl)
theorem dX6_tickGoes_130 : decode cX6_tickGoes 130 = .ok (.invokevirtual 298, 3) := dk_182 1 42 (dk_at dksX6_tickGoes_5 12 rfl rfl)
theorem dX6_tickGoes_133 : decode cX6_tickGoes 133 = .ok (.iinc 1 1, 3) := dk_132 1 1 (dk_at dksX6_tickGoes_5 15 rfl rfl)
theorem dX6_tickGoes_136 : decode cX6_tickGoes 136 = .ok (.goto (-16), 3) := dk_167 255 240 (dk_at dksX6_tickGoes_5 18 rfl rfl)
theorem dX6_tickGoes_139 : decode cX6_tickGoes 139 = .ok (.iconst 0, 1) := dk_3 (dk_at dksX6_tickGoes_5 21 rfl rfl)
theorem dX6_tickGoes_140 : decode cX6_tickGoes 140 = .ok (.istore_n 1, 1) := dk_60 (dk_at dksX6_tickGoes_5 22 rfl rfl)
theorem dX6_tickGoes_141 : decode cX6_tickGoes 141 = .ok (.iload_n 1, 1) := dk_27 (dk_at dksX6_tickGoes_5 23 rfl rfl)
theorem dX6_tickGoes_142 : decode cX6_tickGoes 142 = .ok (.aload_n 0, 1) := dk_42 (dk_at dksX6_tickGoes_6 0 rfl rfl)
theorem dX6_tickGoes_143 : decode cX6_tickGoes 143 = .ok (.invokevirtual 248, 3) := dk_182 0 248 (dk_at dksX6_tickGoes_6 1 rfl rfl)
theorem dX6_tickGoes_146 : decode cX6_tickGoes 146 = .ok (.if_icmp .ge 14, 3) := dk_162 0 14 (dk_at dksX6_tickGoes_6 4 rfl rfl)
theorem dX6_tickGoes_149 : decode cX6_tickGoes 149 = .ok (.aload_n 0, 1) := dk_42 (dk_at dksX6_tickGoes_6 7 rfl rfl)
theorem dX6_tickGoes_150 : decode cX6_tickGoes 150 = .ok (.iload_n 1, 1) := dk_27 (dk_at dksX6_tickGoes_6 8 rfl rfl)
theorem dX6_tickGoes_151 : decode cX6_tickGoes 151 = .ok (.invokevirtual 301, 3) := dk_182 1 45 (dk_at dksX6_tickGoes_6 9 rfl rfl)
theorem dX6_tickGoes_154 : decode cX6_tickGoes 154 = .ok (.iinc 1 1, 3) := dk_132 1 1 (dk_at dksX6_tickGoes_6 12 rfl rfl)
theorem dX6_tickGoes_157 : decode cX6_tickGoes 157 = .ok (.goto (-16), 3) := dk_167 255 240 (dk_at dksX6_tickGoes_6 15 rfl rfl)
theorem dX6_tickGoes_160 : decode cX6_tickGoes 160 = .ok (.aload_n 0, 1) := dk_42 (dk_at dksX6_tickGoes_6 18 rfl rfl)
theorem dX6_tickGoes_161 : decode cX6_tickGoes 161 = .ok (.invokevirtual 304, 3) := dk_182 1 48 (dk_at dksX6_tickGoes_6 19 rfl rfl)
theorem dX6_tickGoes_164 : decode cX6_tickGoes 164 = .ok (.iconst 0, 1) := dk_3 (dk_at dksX6_tickGoes_6 22 rfl rfl)
theorem dX6_tickGoes_165 : decode cX6_tickGoes 165 = .ok (.istore_n 1, 1) := dk_60 (dk_at dksX6_tickGoes_6 23 rfl rfl)
theorem dX6_tickGoes_166 : decode cX6_tickGoes 166 = .ok (.iload_n 1, 1) := dk_27 (dk_at dksX6_tickGoes_7 0 rfl rfl)
theorem dX6_tickGoes_167 : decode cX6_tickGoes 167 = .ok (.aload_n 0, 1) := dk_42 (dk_at dksX6_tickGoes_7 1 rfl rfl)
theorem dX6_tickGoes_168 : decode cX6_tickGoes 168 = .ok (.invokevirtual 251, 3) := dk_182 0 251 (dk_at dksX6_tickGoes_7 2 rfl rfl)
theorem dX6_tickGoes_171 : decode cX6_tickGoes 171 = .ok (.if_icmp .ge 22, 3) := dk_162 0 22 (dk_at dksX6_tickGoes_7 5 rfl rfl)
theorem dX6_tickGoes_174 : decode cX6_tickGoes 174 = .ok (.aload_n 0, 1) := dk_42 (dk_at dksX6_tickGoes_7 8 rfl rfl)
theorem dX6_tickGoes_175 : decode cX6_tickGoes 175 = .ok (.iload_n 1, 1) := dk_27 (dk_at dksX6_tickGoes_7 9 rfl rfl)
theorem dX6_tickGoes_176 : decode cX6_tickGoes 176 = .ok (.invokevirtual 283, 3) := dk_182 1 27 (dk_at dksX6_tickGoes_7 10 rfl rfl)
theorem dX6_tickGoes_179 : decode cX6_tickGoes 179 = .ok (.ifCond .eq 8, 3) := dk_153 0 8 (dk_at dksX6_tickGoes_7 13 rfl rfl)
theorem dX6_tickGoes_182 : decode cX6_tickGoes 182 = .ok (.aload_n 0, 1) := dk_42 (dk_at dksX6_tickGoes_7 16 rfl rfl)
theorem dX6_tickGoes_183 : decode cX6_tickGoes 183 = .ok (.iload_n 1, 1) := dk_27 (dk_at dksX6_tickGoes_7 17 rfl rfl)
theorem dX6_tickGoes_184 : decode cX6_tickGoes 184 = .ok (.invokevirtual 307, 3) := dk_182 1 51 (dk_at dksX6_tickGoes_7 18 rfl rfl)
theorem dX6_tickGoes_187 : decode cX6_tickGoes 187 = .ok (.iinc 1 1, 3) := dk_132 1 1 (dk_at dksX6_tickGoes_7 21 rfl rfl)
theorem dX6_tickGoes_190 : decode cX6_tickGoes 190 = .ok (.goto (-24), 3) := dk_167 255 232 (dk_at dksX6_tickGoes_8 0 rfl rfl)
theorem dX6_tickGoes_193 : decode cX6_tickGoes 193 = .ok (.aload_n 0, 1) := dk_42 (dk_at dksX6_tickGoes_8 3 rfl rfl)
theorem dX6_tickGoes_194 : decode cX6_tickGoes 194 = .ok (.getfield 57, 3) := dk_180 0 57 (dk_at dksX6_tickGoes_8 4 rfl rfl)
theorem dX6_tickGoes_197 : decode cX6_tickGoes 197 = .ok (.sipush 336, 3) := dk_17 1 80 (dk_at dksX6_tickGoes_8 7 rfl rfl)
theorem dX6_tickGoes_200 : decode cX6_tickGoes 200 = .ok (.dup2, 1) := dk_92 (dk_at dksX6_tickGoes_8 10 rfl rfl)
theorem dX6_tickGoes_201 : decode cX6_tickGoes 201 = .ok (.iaload, 1) := dk_46 (dk_at dksX6_tickGoes_8 11 rfl rfl)
theorem dX6_tickGoes_202 : decode cX6_tickGoes 202 = .ok (.iconst 1, 1) := dk_4 (dk_at dksX6_tickGoes_8 12 rfl rfl)
theorem dX6_tickGoes_203 : decode cX6_tickGoes 203 = .ok (.iadd, 1) := dk_96 (dk_at dksX6_tickGoes_8 13 rfl rfl)
theorem dX6_tickGoes_204 : decode cX6_tickGoes 204 = .ok (.iastore, 1) := dk_79 (dk_at dksX6_tickGoes_8 14 rfl rfl)
theorem dX6_tickGoes_205 : decode cX6_tickGoes 205 = .ok (.return_, 1) := dk_177 (dk_at dksX6_tickGoes_8 15 rfl rfl)
abbrev cX6_flowAt : ByteArray := prog_18_method_41_code
def yX6_flowAt : MethodName := ⟨RX6, "flowAt", "(I)I"⟩
def dkwX6_flowAt_0 : List UInt8 := [17, 0, 240, 16, 12, 26, 104, 96, 172]
abbrev dktX6_flowAt_0 : List UInt8 := dkwX6_flowAt_0 ++ []
theorem dksX6_flowAt_0 : cX6_flowAt.data.toList.drop 0 = dktX6_flowAt_0 := by decide +kernel
theorem dX6_flowAt_0 : decode cX6_flowAt 0 = .ok (.sipush 240, 3) := dk_17 0 240 (dk_at dksX6_flowAt_0 0 rfl rfl)
theorem dX6_flowAt_3 : decode cX6_flowAt 3 = .ok (.bipush 12, 2) := dk_16 12 (dk_at dksX6_flowAt_0 3 rfl rfl)
theorem dX6_flowAt_5 : decode cX6_flowAt 5 = .ok (.iload_n 0, 1) := dk_26 (dk_at dksX6_flowAt_0 5 rfl rfl)
theorem dX6_flowAt_6 : decode cX6_flowAt 6 = .ok (.imul, 1) := dk_104 (dk_at dksX6_flowAt_0 6 rfl rfl)
theorem dX6_flowAt_7 : decode cX6_flowAt 7 = .ok (.iadd, 1) := dk_96 (dk_at dksX6_flowAt_0 7 rfl rfl)
theorem dX6_flowAt_8 : decode cX6_flowAt 8 = .ok (.ireturn, 1) := dk_172 (dk_at dksX6_flowAt_0 8 rfl rfl)
abbrev cX6_isOn : ByteArray := prog_18_method_43_code
def yX6_isOn : MethodName := ⟨RX6, "isOn", "(I)Z"⟩
def dkwX6_isOn_0 : List UInt8 := [42, 180, 0, 57, 27, 184, 1, 2, 16, 7, 96, 46, 4, 160, 0, 7, 4, 167, 0, 4, 3, 172]
abbrev dktX6_isOn_0 : List UInt8 := dkwX6_isOn_0 ++ []
theorem dksX6_isOn_0 : cX6_isOn.data.toList.drop 0 = dktX6_isOn_0 := by decide +kernel
theorem dX6_isOn_0 : decode cX6_isOn 0 = .ok (.aload_n 0, 1) := dk_42 (dk_at dksX6_isOn_0 0 rfl rfl)
theorem dX6_isOn_1 : decode cX6_isOn 1 = .ok (.getfield 57, 3) := dk_180 0 57 (dk_at dksX6_isOn_0 1 rfl rfl)
theorem dX6_isOn_4 : decode cX6_isOn 4 = .ok (.iload_n 1, 1) := dk_27 (dk_at dksX6_isOn_0 4 rfl rfl)
theorem dX6_isOn_5 : decode cX6_isOn 5 = .ok (.invokestatic 258, 3) := dk_184 1 2 (dk_at dksX6_isOn_0 5 rfl rfl)
theorem dX6_isOn_8 : decode cX6_isOn 8 = .ok (.bipush 7, 2) := dk_16 7 (dk_at dksX6_isOn_0 8 rfl rfl)
theorem dX6_isOn_10 : decode cX6_isOn 10 = .ok (.iadd, 1) := dk_96 (dk_at dksX6_isOn_0 10 rfl rfl)
theorem dX6_isOn_11 : decode cX6_isOn 11 = .ok (.iaload, 1) := dk_46 (dk_at dksX6_isOn_0 11 rfl rfl)
theorem dX6_isOn_12 : decode cX6_isOn 12 = .ok (.iconst 1, 1) := dk_4 (dk_at dksX6_isOn_0 12 rfl rfl)
theorem dX6_isOn_13 : decode cX6_isOn 13 = .ok (.if_icmp .ne 7, 3) := dk_160 0 7 (dk_at dksX6_isOn_0 13 rfl rfl)
theorem dX6_isOn_16 : decode cX6_isOn 16 = .ok (.iconst 1, 1) := dk_4 (dk_at dksX6_isOn_0 16 rfl rfl)
theorem dX6_isOn_17 : decode cX6_isOn 17 = .ok (.goto 4, 3) := dk_167 0 4 (dk_at dksX6_isOn_0 17 rfl rfl)
theorem dX6_isOn_20 : decode cX6_isOn 20 = .ok (.iconst 0, 1) := dk_3 (dk_at dksX6_isOn_0 20 rfl rfl)
theorem dX6_isOn_21 : decode cX6_isOn 21 = .ok (.ireturn, 1) := dk_172 (dk_at dksX6_isOn_0 21 rfl rfl)
abbrev cX6_within : ByteArray := prog_18_method_46_code
def yX6_within : MethodName := ⟨RX6, "within", "(III)I"⟩
def dkwX6_within_0 : List UInt8 := [26, 27, 162, 0, 7, 27, 167, 0, 13, 26, 28, 164, 0, 7, 28, 167, 0, 4, 26, 172]
abbrev dktX6_within_0 : List UInt8 := dkwX6_within_0 ++ []
theorem dksX6_within_0 : cX6_within.data.toList.drop 0 = dktX6_within_0 := by decide +kernel
theorem dX6_within_0 : decode cX6_within 0 = .ok (.iload_n 0, 1) := dk_26 (dk_at dksX6_within_0 0 rfl rfl)
theorem dX6_within_1 : decode cX6_within 1 = .ok (.iload_n 1, 1) := dk_27 (dk_at dksX6_within_0 1 rfl rfl)
theorem dX6_within_2 : decode cX6_within 2 = .ok (.if_icmp .ge 7, 3) := dk_162 0 7 (dk_at dksX6_within_0 2 rfl rfl)
theorem dX6_within_5 : decode cX6_within 5 = .ok (.iload_n 1, 1) := dk_27 (dk_at dksX6_within_0 5 rfl rfl)
theorem dX6_within_6 : decode cX6_within 6 = .ok (.goto 13, 3) := dk_167 0 13 (dk_at dksX6_within_0 6 rfl rfl)
theorem dX6_within_9 : decode cX6_within 9 = .ok (.iload_n 0, 1) := dk_26 (dk_at dksX6_within_0 9 rfl rfl)
theorem dX6_within_10 : decode cX6_within 10 = .ok (.iload_n 2, 1) := dk_28 (dk_at dksX6_within_0 10 rfl rfl)
theorem dX6_within_11 : decode cX6_within 11 = .ok (.if_icmp .le 7, 3) := dk_164 0 7 (dk_at dksX6_within_0 11 rfl rfl)
theorem dX6_within_14 : decode cX6_within 14 = .ok (.iload_n 2, 1) := dk_28 (dk_at dksX6_within_0 14 rfl rfl)
theorem dX6_within_15 : decode cX6_within 15 = .ok (.goto 4, 3) := dk_167 0 4 (dk_at dksX6_within_0 15 rfl rfl)
theorem dX6_within_18 : decode cX6_within 18 = .ok (.iload_n 0, 1) := dk_26 (dk_at dksX6_within_0 18 rfl rfl)
theorem dX6_within_19 : decode cX6_within 19 = .ok (.ireturn, 1) := dk_172 (dk_at dksX6_within_0 19 rfl rfl)
abbrev cX6_laysCan : ByteArray := prog_18_method_47_code
def yX6_laysCan : MethodName := ⟨RX6, "laysCan", "()V"⟩
def dkwX6_laysCan_5 : List UInt8 := [167, 255, 151, 132, 1, 1, 167, 255, 135, 177]
abbrev dktX6_laysCan_5 : List UInt8 := dkwX6_laysCan_5 ++ []
def dkwX6_laysCan_4 : List UInt8 := [96, 28, 96, 46, 79, 42, 180, 0, 75, 21, 4, 3, 79, 42, 180, 0, 78, 21, 4, 3, 79, 132, 2, 1]
abbrev dktX6_laysCan_4 : List UInt8 := dkwX6_laysCan_4 ++ dktX6_laysCan_5
def dkwX6_laysCan_3 : List UInt8 := [167, 0, 28, 42, 180, 0, 57, 16, 24, 42, 180, 0, 50, 8, 28, 104, 29, 96, 4, 100, 46, 104, 16, 15]
abbrev dktX6_laysCan_3 : List UInt8 := dkwX6_laysCan_3 ++ dktX6_laysCan_4
def dkwX6_laysCan_2 : List UInt8 := [167, 0, 50, 29, 154, 0, 21, 42, 180, 0, 57, 28, 184, 1, 2, 16, 8, 96, 46, 16, 16, 108]
abbrev dktX6_laysCan_2 : List UInt8 := dkwX6_laysCan_2 ++ dktX6_laysCan_3
def dkwX6_laysCan_1 : List UInt8 := [182, 1, 5, 62, 16, 8, 27, 104, 28, 96, 54, 4, 42, 180, 0, 72, 21, 4, 29, 2, 160, 0, 7, 3]
abbrev dktX6_laysCan_1 : List UInt8 := dkwX6_laysCan_1 ++ dktX6_laysCan_2
def dkwX6_laysCan_0 : List UInt8 := [3, 60, 27, 42, 182, 0, 248, 162, 0, 119, 3, 61, 28, 42, 182, 0, 251, 162, 0, 103, 42, 28, 27]
abbrev dktX6_laysCan_0 : List UInt8 := dkwX6_laysCan_0 ++ dktX6_laysCan_1
theorem dksX6_laysCan_0 : cX6_laysCan.data.toList.drop 0 = dktX6_laysCan_0 := by decide +kernel
theorem dksX6_laysCan_1 : cX6_laysCan.data.toList.drop 23 = dktX6_laysCan_1 := dk_seg dksX6_laysCan_0 23 rfl rfl
theorem dksX6_laysCan_2 : cX6_laysCan.data.toList.drop 47 = dktX6_laysCan_2 := dk_seg dksX6_laysCan_1 24 rfl rfl
theorem dksX6_laysCan_3 : cX6_laysCan.data.toList.drop 69 = dktX6_laysCan_3 := dk_seg dksX6_laysCan_2 22 rfl rfl
theorem dksX6_laysCan_4 : cX6_laysCan.data.toList.drop 93 = dktX6_laysCan_4 := dk_seg dksX6_laysCan_3 24 rfl rfl
theorem dksX6_laysCan_5 : cX6_laysCan.data.toList.drop 117 = dktX6_laysCan_5 := dk_seg dksX6_laysCan_4 24 rfl rfl
theorem dX6_laysCan_0 : decode cX6_laysCan 0 = .ok (.iconst 0, 1) := dk_3 (dk_at dksX6_laysCan_0 0 rfl rfl)
theorem dX6_laysCan_1 : decode cX6_laysCan 1 = .ok (.istore_n 1, 1) := dk_60 (dk_at dksX6_laysCan_0 1 rfl rfl)
theorem dX6_laysCan_2 : decode cX6_laysCan 2 = .ok (.iload_n 1, 1) := dk_27 (dk_at dksX6_laysCan_0 2 rfl rfl)
theorem dX6_laysCan_3 : decode cX6_laysCan 3 = .ok (.aload_n 0, 1) := dk_42 (dk_at dksX6_laysCan_0 3 rfl rfl)
theorem dX6_laysCan_4 : decode cX6_laysCan 4 = .ok (.invokevirtual 248, 3) := dk_182 0 248 (dk_at dksX6_laysCan_0 4 rfl rfl)
theorem dX6_laysCan_7 : decode cX6_laysCan 7 = .ok (.if_icmp .ge 119, 3) := dk_162 0 119 (dk_at dksX6_laysCan_0 7 rfl rfl)
theorem dX6_laysCan_10 : decode cX6_laysCan 10 = .ok (.iconst 0, 1) := dk_3 (dk_at dksX6_laysCan_0 10 rfl rfl)
theorem dX6_laysCan_11 : decode cX6_laysCan 11 = .ok (.istore_n 2, 1) := dk_61 (dk_at dksX6_laysCan_0 11 rfl rfl)
theorem dX6_laysCan_12 : decode cX6_laysCan 12 = .ok (.iload_n 2, 1) := dk_28 (dk_at dksX6_laysCan_0 12 rfl rfl)
theorem dX6_laysCan_13 : decode cX6_laysCan 13 = .ok (.aload_n 0, 1) := dk_42 (dk_at dksX6_laysCan_0 13 rfl rfl)
theorem dX6_laysCan_14 : decode cX6_laysCan 14 = .ok (.invokevirtual 251, 3) := dk_182 0 251 (dk_at dksX6_laysCan_0 14 rfl rfl)
theorem dX6_laysCan_17 : decode cX6_laysCan 17 = .ok (.if_icmp .ge 103, 3) := dk_162 0 103 (dk_at dksX6_laysCan_0 17 rfl rfl)
theorem dX6_laysCan_20 : decode cX6_laysCan 20 = .ok (.aload_n 0, 1) := dk_42 (dk_at dksX6_laysCan_0 20 rfl rfl)
theorem dX6_laysCan_21 : decode cX6_laysCan 21 = .ok (.iload_n 2, 1) := dk_28 (dk_at dksX6_laysCan_0 21 rfl rfl)
theorem dX6_laysCan_22 : decode cX6_laysCan 22 = .ok (.iload_n 1, 1) := dk_27 (dk_at dksX6_laysCan_0 22 rfl rfl)
theorem dX6_laysCan_23 : decode cX6_laysCan 23 = .ok (.invokevirtual 261, 3) := dk_182 1 5 (dk_at dksX6_laysCan_1 0 rfl rfl)
theorem dX6_laysCan_26 : decode cX6_laysCan 26 = .ok (.istore_n 3, 1) := dk_62 (dk_at dksX6_laysCan_1 3 rfl rfl)
theorem dX6_laysCan_27 : decode cX6_laysCan 27 = .ok (.bipush 8, 2) := dk_16 8 (dk_at dksX6_laysCan_1 4 rfl rfl)
theorem dX6_laysCan_29 : decode cX6_laysCan 29 = .ok (.iload_n 1, 1) := dk_27 (dk_at dksX6_laysCan_1 6 rfl rfl)
theorem dX6_laysCan_30 : decode cX6_laysCan 30 = .ok (.imul, 1) := dk_104 (dk_at dksX6_laysCan_1 7 rfl rfl)
theorem dX6_laysCan_31 : decode cX6_laysCan 31 = .ok (.iload_n 2, 1) := dk_28 (dk_at dksX6_laysCan_1 8 rfl rfl)
theorem dX6_laysCan_32 : decode cX6_laysCan 32 = .ok (.iadd, 1) := dk_96 (dk_at dksX6_laysCan_1 9 rfl rfl)
theorem dX6_laysCan_33 : decode cX6_laysCan 33 = .ok (.istore 4, 2) := dk_54 4 (dk_at dksX6_laysCan_1 10 rfl rfl)
theorem dX6_laysCan_35 : decode cX6_laysCan 35 = .ok (.aload_n 0, 1) := dk_42 (dk_at dksX6_laysCan_1 12 rfl rfl)
theorem dX6_laysCan_36 : decode cX6_laysCan 36 = .ok (.getfield 72, 3) := dk_180 0 72 (dk_at dksX6_laysCan_1 13 rfl rfl)
theorem dX6_laysCan_39 : decode cX6_laysCan 39 = .ok (.iload 4, 2) := dk_21 4 (dk_at dksX6_laysCan_1 16 rfl rfl)
theorem dX6_laysCan_41 : decode cX6_laysCan 41 = .ok (.iload_n 3, 1) := dk_29 (dk_at dksX6_laysCan_1 18 rfl rfl)
theorem dX6_laysCan_42 : decode cX6_laysCan 42 = .ok (.iconst (-1), 1) := dk_2 (dk_at dksX6_laysCan_1 19 rfl rfl)
theorem dX6_laysCan_43 : decode cX6_laysCan 43 = .ok (.if_icmp .ne 7, 3) := dk_160 0 7 (dk_at dksX6_laysCan_1 20 rfl rfl)
theorem dX6_laysCan_46 : decode cX6_laysCan 46 = .ok (.iconst 0, 1) := dk_3 (dk_at dksX6_laysCan_1 23 rfl rfl)
theorem dX6_laysCan_47 : decode cX6_laysCan 47 = .ok (.goto 50, 3) := dk_167 0 50 (dk_at dksX6_laysCan_2 0 rfl rfl)
theorem dX6_laysCan_50 : decode cX6_laysCan 50 = .ok (.iload_n 3, 1) := dk_29 (dk_at dksX6_laysCan_2 3 rfl rfl)
theorem dX6_laysCan_51 : decode cX6_laysCan 51 = .ok (.ifCond .ne 21, 3) := dk_154 0 21 (dk_at dksX6_laysCan_2 4 rfl rfl)
theorem dX6_laysCan_54 : decode cX6_laysCan 54 = .ok (.aload_n 0, 1) := dk_42 (dk_at dksX6_laysCan_2 7 rfl rfl)
theorem dX6_laysCan_55 : decode cX6_laysCan 55 = .ok (.getfield 57, 3) := dk_180 0 57 (dk_at dksX6_laysCan_2 8 rfl rfl)
theorem dX6_laysCan_58 : decode cX6_laysCan 58 = .ok (.iload_n 2, 1) := dk_28 (dk_at dksX6_laysCan_2 11 rfl rfl)
theorem dX6_laysCan_59 : decode cX6_laysCan 59 = .ok (.invokestatic 258, 3) := dk_184 1 2 (dk_at dksX6_laysCan_2 12 rfl rfl)
theorem dX6_laysCan_62 : decode cX6_laysCan 62 = .ok (.bipush 8, 2) := dk_16 8 (dk_at dksX6_laysCan_2 15 rfl rfl)
theorem dX6_laysCan_64 : decode cX6_laysCan 64 = .ok (.iadd, 1) := dk_96 (dk_at dksX6_laysCan_2 17 rfl rfl)
theorem dX6_laysCan_65 : decode cX6_laysCan 65 = .ok (.iaload, 1) := dk_46 (dk_at dksX6_laysCan_2 18 rfl rfl)
theorem dX6_laysCan_66 : decode cX6_laysCan 66 = .ok (.bipush 16, 2) := dk_16 16 (dk_at dksX6_laysCan_2 19 rfl rfl)
theorem dX6_laysCan_68 : decode cX6_laysCan 68 = .ok (.idiv, 1) := dk_108 (dk_at dksX6_laysCan_2 21 rfl rfl)
theorem dX6_laysCan_69 : decode cX6_laysCan 69 = .ok (.goto 28, 3) := dk_167 0 28 (dk_at dksX6_laysCan_3 0 rfl rfl)
theorem dX6_laysCan_72 : decode cX6_laysCan 72 = .ok (.aload_n 0, 1) := dk_42 (dk_at dksX6_laysCan_3 3 rfl rfl)
theorem dX6_laysCan_73 : decode cX6_laysCan 73 = .ok (.getfield 57, 3) := dk_180 0 57 (dk_at dksX6_laysCan_3 4 rfl rfl)
theorem dX6_laysCan_76 : decode cX6_laysCan 76 = .ok (.bipush 24, 2) := dk_16 24 (dk_at dksX6_laysCan_3 7 rfl rfl)
theorem dX6_laysCan_78 : decode cX6_laysCan 78 = .ok (.aload_n 0, 1) := dk_42 (dk_at dksX6_laysCan_3 9 rfl rfl)
theorem dX6_laysCan_79 : decode cX6_laysCan 79 = .ok (.getfield 50, 3) := dk_180 0 50 (dk_at dksX6_laysCan_3 10 rfl rfl)
theorem dX6_laysCan_82 : decode cX6_laysCan 82 = .ok (.iconst 5, 1) := dk_8 (dk_at dksX6_laysCan_3 13 rfl rfl)
theorem dX6_laysCan_83 : decode cX6_laysCan 83 = .ok (.iload_n 2, 1) := dk_28 (dk_at dksX6_laysCan_3 14 rfl rfl)
theorem dX6_laysCan_84 : decode cX6_laysCan 84 = .ok (.imul, 1) := dk_104 (dk_at dksX6_laysCan_3 15 rfl rfl)
theorem dX6_laysCan_85 : decode cX6_laysCan 85 = .ok (.iload_n 3, 1) := dk_29 (dk_at dksX6_laysCan_3 16 rfl rfl)
theorem dX6_laysCan_86 : decode cX6_laysCan 86 = .ok (.iadd, 1) := dk_96 (dk_at dksX6_laysCan_3 17 rfl rfl)
theorem dX6_laysCan_87 : decode cX6_laysCan 87 = .ok (.iconst 1, 1) := dk_4 (dk_at dksX6_laysCan_3 18 rfl rfl)
theorem dX6_laysCan_88 : decode cX6_laysCan 88 = .ok (.isub, 1) := dk_100 (dk_at dksX6_laysCan_3 19 rfl rfl)
theorem dX6_laysCan_89 : decode cX6_laysCan 89 = .ok (.iaload, 1) := dk_46 (dk_at dksX6_laysCan_3 20 rfl rfl)
theorem dX6_laysCan_90 : decode cX6_laysCan 90 = .ok (.imul, 1) := dk_104 (dk_at dksX6_laysCan_3 21 rfl rfl)
theorem dX6_laysCan_91 : decode cX6_laysCan 91 = .ok (.bipush 15, 2) := dk_16 15 (dk_at dksX6_laysCan_3 22 rfl rfl)
theorem dX6_laysCan_93 : decode cX6_laysCan 93 = .ok (.iadd, 1) := dk_96 (dk_at dksX6_laysCan_4 0 rfl rfl)
theorem dX6_laysCan_94 : decode cX6_laysCan 94 = .ok (.iload_n 2, 1) := dk_28 (dk_at dksX6_laysCan_4 1 rfl rfl)
theorem dX6_laysCan_95 : decode cX6_laysCan 95 = .ok (.iadd, 1) := dk_96 (dk_at dksX6_laysCan_4 2 rfl rfl)
theorem dX6_laysCan_96 : decode cX6_laysCan 96 = .ok (.iaload, 1) := dk_46 (dk_at dksX6_laysCan_4 3 rfl rfl)
theorem dX6_laysCan_97 : decode cX6_laysCan 97 = .ok (.iastore, 1) := dk_79 (dk_at dksX6_laysCan_4 4 rfl rfl)
theorem dX6_laysCan_98 : decode cX6_laysCan 98 = .ok (.aload_n 0, 1) := dk_42 (dk_at dksX6_laysCan_4 5 rfl rfl)
theorem dX6_laysCan_99 : decode cX6_laysCan 99 = .ok (.getfield 75, 3) := dk_180 0 75 (dk_at dksX6_laysCan_4 6 rfl rfl)
theorem dX6_laysCan_102 : decode cX6_laysCan 102 = .ok (.iload 4, 2) := dk_21 4 (dk_at dksX6_laysCan_4 9 rfl rfl)
theorem dX6_laysCan_104 : decode cX6_laysCan 104 = .ok (.iconst 0, 1) := dk_3 (dk_at dksX6_laysCan_4 11 rfl rfl)
theorem dX6_laysCan_105 : decode cX6_laysCan 105 = .ok (.iastore, 1) := dk_79 (dk_at dksX6_laysCan_4 12 rfl rfl)
theorem dX6_laysCan_106 : decode cX6_laysCan 106 = .ok (.aload_n 0, 1) := dk_42 (dk_at dksX6_laysCan_4 13 rfl rfl)
theorem dX6_laysCan_107 : decode cX6_laysCan 107 = .ok (.getfield 78, 3) := dk_180 0 78 (dk_at dksX6_laysCan_4 14 rfl rfl)
theorem dX6_laysCan_110 : decode cX6_laysCan 110 = .ok (.iload 4, 2) := dk_21 4 (dk_at dksX6_laysCan_4 17 rfl rfl)
theorem dX6_laysCan_112 : decode cX6_laysCan 112 = .ok (.iconst 0, 1) := dk_3 (dk_at dksX6_laysCan_4 19 rfl rfl)
theorem dX6_laysCan_113 : decode cX6_laysCan 113 = .ok (.iastore, 1) := dk_79 (dk_at dksX6_laysCan_4 20 rfl rfl)
theorem dX6_laysCan_114 : decode cX6_laysCan 114 = .ok (.iinc 2 1, 3) := dk_132 2 1 (dk_at dksX6_laysCan_4 21 rfl rfl)
theorem dX6_laysCan_117 : decode cX6_laysCan 117 = .ok (.goto (-105), 3) := dk_167 255 151 (dk_at dksX6_laysCan_5 0 rfl rfl)
theorem dX6_laysCan_120 : decode cX6_laysCan 120 = .ok (.iinc 1 1, 3) := dk_132 1 1 (dk_at dksX6_laysCan_5 3 rfl rfl)
theorem dX6_laysCan_123 : decode cX6_laysCan 123 = .ok (.goto (-121), 3) := dk_167 255 135 (dk_at dksX6_laysCan_5 6 rfl rfl)
theorem dX6_laysCan_126 : decode cX6_laysCan 126 = .ok (.return_, 1) := dk_177 (dk_at dksX6_laysCan_5 9 rfl rfl)
abbrev cX6_hopOf : ByteArray := prog_18_method_45_code
def yX6_hopOf : MethodName := ⟨RX6, "hopOf", "(II)I"⟩
def dkwX6_hopOf_1 : List UInt8 := [160, 0, 5, 29, 172, 132, 3, 1, 167, 255, 227, 2, 172]
abbrev dktX6_hopOf_1 : List UInt8 := dkwX6_hopOf_1 ++ []
def dkwX6_hopOf_0 : List UInt8 := [3, 62, 29, 42, 180, 0, 47, 27, 46, 162, 0, 25, 42, 180, 0, 50, 8, 27, 104, 29, 96, 46, 28]
abbrev dktX6_hopOf_0 : List UInt8 := dkwX6_hopOf_0 ++ dktX6_hopOf_1
theorem dksX6_hopOf_0 : cX6_hopOf.data.toList.drop 0 = dktX6_hopOf_0 := by decide +kernel
theorem dksX6_hopOf_1 : cX6_hopOf.data.toList.drop 23 = dktX6_hopOf_1 := dk_seg dksX6_hopOf_0 23 rfl rfl
theorem dX6_hopOf_0 : decode cX6_hopOf 0 = .ok (.iconst 0, 1) := dk_3 (dk_at dksX6_hopOf_0 0 rfl rfl)
theorem dX6_hopOf_1 : decode cX6_hopOf 1 = .ok (.istore_n 3, 1) := dk_62 (dk_at dksX6_hopOf_0 1 rfl rfl)
theorem dX6_hopOf_2 : decode cX6_hopOf 2 = .ok (.iload_n 3, 1) := dk_29 (dk_at dksX6_hopOf_0 2 rfl rfl)
theorem dX6_hopOf_3 : decode cX6_hopOf 3 = .ok (.aload_n 0, 1) := dk_42 (dk_at dksX6_hopOf_0 3 rfl rfl)
theorem dX6_hopOf_4 : decode cX6_hopOf 4 = .ok (.getfield 47, 3) := dk_180 0 47 (dk_at dksX6_hopOf_0 4 rfl rfl)
theorem dX6_hopOf_7 : decode cX6_hopOf 7 = .ok (.iload_n 1, 1) := dk_27 (dk_at dksX6_hopOf_0 7 rfl rfl)
theorem dX6_hopOf_8 : decode cX6_hopOf 8 = .ok (.iaload, 1) := dk_46 (dk_at dksX6_hopOf_0 8 rfl rfl)
theorem dX6_hopOf_9 : decode cX6_hopOf 9 = .ok (.if_icmp .ge 25, 3) := dk_162 0 25 (dk_at dksX6_hopOf_0 9 rfl rfl)
theorem dX6_hopOf_12 : decode cX6_hopOf 12 = .ok (.aload_n 0, 1) := dk_42 (dk_at dksX6_hopOf_0 12 rfl rfl)
theorem dX6_hopOf_13 : decode cX6_hopOf 13 = .ok (.getfield 50, 3) := dk_180 0 50 (dk_at dksX6_hopOf_0 13 rfl rfl)
theorem dX6_hopOf_16 : decode cX6_hopOf 16 = .ok (.iconst 5, 1) := dk_8 (dk_at dksX6_hopOf_0 16 rfl rfl)
theorem dX6_hopOf_17 : decode cX6_hopOf 17 = .ok (.iload_n 1, 1) := dk_27 (dk_at dksX6_hopOf_0 17 rfl rfl)
theorem dX6_hopOf_18 : decode cX6_hopOf 18 = .ok (.imul, 1) := dk_104 (dk_at dksX6_hopOf_0 18 rfl rfl)
theorem dX6_hopOf_19 : decode cX6_hopOf 19 = .ok (.iload_n 3, 1) := dk_29 (dk_at dksX6_hopOf_0 19 rfl rfl)
theorem dX6_hopOf_20 : decode cX6_hopOf 20 = .ok (.iadd, 1) := dk_96 (dk_at dksX6_hopOf_0 20 rfl rfl)
theorem dX6_hopOf_21 : decode cX6_hopOf 21 = .ok (.iaload, 1) := dk_46 (dk_at dksX6_hopOf_0 21 rfl rfl)
theorem dX6_hopOf_22 : decode cX6_hopOf 22 = .ok (.iload_n 2, 1) := dk_28 (dk_at dksX6_hopOf_0 22 rfl rfl)
theorem dX6_hopOf_23 : decode cX6_hopOf 23 = .ok (.if_icmp .ne 5, 3) := dk_160 0 5 (dk_at dksX6_hopOf_1 0 rfl rfl)
theorem dX6_hopOf_26 : decode cX6_hopOf 26 = .ok (.iload_n 3, 1) := dk_29 (dk_at dksX6_hopOf_1 3 rfl rfl)
theorem dX6_hopOf_27 : decode cX6_hopOf 27 = .ok (.ireturn, 1) := dk_172 (dk_at dksX6_hopOf_1 4 rfl rfl)
theorem dX6_hopOf_28 : decode cX6_hopOf 28 = .ok (.iinc 3 1, 3) := dk_132 3 1 (dk_at dksX6_hopOf_1 5 rfl rfl)
theorem dX6_hopOf_31 : decode cX6_hopOf 31 = .ok (.goto (-29), 3) := dk_167 255 227 (dk_at dksX6_hopOf_1 8 rfl rfl)
theorem dX6_hopOf_34 : decode cX6_hopOf 34 = .ok (.iconst (-1), 1) := dk_2 (dk_at dksX6_hopOf_1 11 rfl rfl)
theorem dX6_hopOf_35 : decode cX6_hopOf 35 = .ok (.ireturn, 1) := dk_172 (dk_at dksX6_hopOf_1 12 rfl rfl)
abbrev cX6_carriesOf : ByteArray := prog_18_method_48_code
def yX6_carriesOf : MethodName := ⟨RX6, "carriesOf", "(I)V"⟩
def dkwX6_carriesOf_5 : List UInt8 := [180, 0, 57, 16, 24, 27, 104, 16, 7, 96, 42, 180, 0, 23, 27, 46, 28, 100, 79, 177]
abbrev dktX6_carriesOf_5 : List UInt8 := dkwX6_carriesOf_5 ++ []
def dkwX6_carriesOf_4 : List UInt8 := [21, 5, 92, 46, 4, 96, 79, 132, 2, 255, 4, 62, 132, 4, 1, 167, 255, 195, 167, 255, 179, 42]
abbrev dktX6_carriesOf_4 : List UInt8 := dkwX6_carriesOf_4 ++ dktX6_carriesOf_5
def dkwX6_carriesOf_3 : List UInt8 := [180, 0, 75, 21, 5, 46, 42, 180, 0, 72, 21, 5, 46, 160, 0, 6, 167, 0, 19, 42, 180, 0, 75]
abbrev dktX6_carriesOf_3 : List UInt8 := dkwX6_carriesOf_3 ++ dktX6_carriesOf_4
def dkwX6_carriesOf_2 : List UInt8 := [21, 4, 42, 182, 0, 251, 162, 0, 58, 28, 158, 0, 54, 16, 8, 27, 104, 21, 4, 96, 54, 5, 42]
abbrev dktX6_carriesOf_2 : List UInt8 := dkwX6_carriesOf_2 ++ dktX6_carriesOf_3
def dkwX6_carriesOf_1 : List UInt8 := [96, 46, 154, 0, 7, 4, 167, 0, 4, 3, 62, 29, 153, 0, 79, 28, 158, 0, 75, 3, 62, 3, 54, 4]
abbrev dktX6_carriesOf_1 : List UInt8 := dkwX6_carriesOf_1 ++ dktX6_carriesOf_2
def dkwX6_carriesOf_0 : List UInt8 := [42, 180, 0, 23, 27, 46, 61, 42, 180, 0, 57, 16, 24, 27, 104, 16, 10, 96, 42, 180, 0, 26, 27, 46]
abbrev dktX6_carriesOf_0 : List UInt8 := dkwX6_carriesOf_0 ++ dktX6_carriesOf_1
theorem dksX6_carriesOf_0 : cX6_carriesOf.data.toList.drop 0 = dktX6_carriesOf_0 := by decide +kernel
theorem dksX6_carriesOf_1 : cX6_carriesOf.data.toList.drop 24 = dktX6_carriesOf_1 := dk_seg dksX6_carriesOf_0 24 rfl rfl
theorem dksX6_carriesOf_2 : cX6_carriesOf.data.toList.drop 48 = dktX6_carriesOf_2 := dk_seg dksX6_carriesOf_1 24 rfl rfl
theorem dksX6_carriesOf_3 : cX6_carriesOf.data.toList.drop 71 = dktX6_carriesOf_3 := dk_seg dksX6_carriesOf_2 23 rfl rfl
theorem dksX6_carriesOf_4 : cX6_carriesOf.data.toList.drop 94 = dktX6_carriesOf_4 := dk_seg dksX6_carriesOf_3 23 rfl rfl
theorem dksX6_carriesOf_5 : cX6_carriesOf.data.toList.drop 116 = dktX6_carriesOf_5 := dk_seg dksX6_carriesOf_4 22 rfl rfl
theorem dX6_carriesOf_0 : decode cX6_carriesOf 0 = .ok (.aload_n 0, 1) := dk_42 (dk_at dksX6_carriesOf_0 0 rfl rfl)
theorem dX6_carriesOf_1 : decode cX6_carriesOf 1 = .ok (.getfield 23, 3) := dk_180 0 23 (dk_at dksX6_carriesOf_0 1 rfl rfl)
theorem dX6_carriesOf_4 : decode cX6_carriesOf 4 = .ok (.iload_n 1, 1) := dk_27 (dk_at dksX6_carriesOf_0 4 rfl rfl)
theorem dX6_carriesOf_5 : decode cX6_carriesOf 5 = .ok (.iaload, 1) := dk_46 (dk_at dksX6_carriesOf_0 5 rfl rfl)
theorem dX6_carriesOf_6 : decode cX6_carriesOf 6 = .ok (.istore_n 2, 1) := dk_61 (dk_at dksX6_carriesOf_0 6 rfl rfl)
theorem dX6_carriesOf_7 : decode cX6_carriesOf 7 = .ok (.aload_n 0, 1) := dk_42 (dk_at dksX6_carriesOf_0 7 rfl rfl)
theorem dX6_carriesOf_8 : decode cX6_carriesOf 8 = .ok (.getfield 57, 3) := dk_180 0 57 (dk_at dksX6_carriesOf_0 8 rfl rfl)
theorem dX6_carriesOf_11 : decode cX6_carriesOf 11 = .ok (.bipush 24, 2) := dk_16 24 (dk_at dksX6_carriesOf_0 11 rfl rfl)
theorem dX6_carriesOf_13 : decode cX6_carriesOf 13 = .ok (.iload_n 1, 1) := dk_27 (dk_at dksX6_carriesOf_0 13 rfl rfl)
theorem dX6_carriesOf_14 : decode cX6_carriesOf 14 = .ok (.imul, 1) := dk_104 (dk_at dksX6_carriesOf_0 14 rfl rfl)
theorem dX6_carriesOf_15 : decode cX6_carriesOf 15 = .ok (.bipush 10, 2) := dk_16 10 (dk_at dksX6_carriesOf_0 15 rfl rfl)
theorem dX6_carriesOf_17 : decode cX6_carriesOf 17 = .ok (.iadd, 1) := dk_96 (dk_at dksX6_carriesOf_0 17 rfl rfl)
theorem dX6_carriesOf_18 : decode cX6_carriesOf 18 = .ok (.aload_n 0, 1) := dk_42 (dk_at dksX6_carriesOf_0 18 rfl rfl)
theorem dX6_carriesOf_19 : decode cX6_carriesOf 19 = .ok (.getfield 26, 3) := dk_180 0 26 (dk_at dksX6_carriesOf_0 19 rfl rfl)
theorem dX6_carriesOf_22 : decode cX6_carriesOf 22 = .ok (.iload_n 1, 1) := dk_27 (dk_at dksX6_carriesOf_0 22 rfl rfl)
theorem dX6_carriesOf_23 : decode cX6_carriesOf 23 = .ok (.iaload, 1) := dk_46 (dk_at dksX6_carriesOf_0 23 rfl rfl)
theorem dX6_carriesOf_24 : decode cX6_carriesOf 24 = .ok (.iadd, 1) := dk_96 (dk_at dksX6_carriesOf_1 0 rfl rfl)
theorem dX6_carriesOf_25 : decode cX6_carriesOf 25 = .ok (.iaload, 1) := dk_46 (dk_at dksX6_carriesOf_1 1 rfl rfl)
theorem dX6_carriesOf_26 : decode cX6_carriesOf 26 = .ok (.ifCond .ne 7, 3) := dk_154 0 7 (dk_at dksX6_carriesOf_1 2 rfl rfl)
theorem dX6_carriesOf_29 : decode cX6_carriesOf 29 = .ok (.iconst 1, 1) := dk_4 (dk_at dksX6_carriesOf_1 5 rfl rfl)
theorem dX6_carriesOf_30 : decode cX6_carriesOf 30 = .ok (.goto 4, 3) := dk_167 0 4 (dk_at dksX6_carriesOf_1 6 rfl rfl)
theorem dX6_carriesOf_33 : decode cX6_carriesOf 33 = .ok (.iconst 0, 1) := dk_3 (dk_at dksX6_carriesOf_1 9 rfl rfl)
theorem dX6_carriesOf_34 : decode cX6_carriesOf 34 = .ok (.istore_n 3, 1) := dk_62 (dk_at dksX6_carriesOf_1 10 rfl rfl)
theorem dX6_carriesOf_35 : decode cX6_carriesOf 35 = .ok (.iload_n 3, 1) := dk_29 (dk_at dksX6_carriesOf_1 11 rfl rfl)
theorem dX6_carriesOf_36 : decode cX6_carriesOf 36 = .ok (.ifCond .eq 79, 3) := dk_153 0 79 (dk_at dksX6_carriesOf_1 12 rfl rfl)
theorem dX6_carriesOf_39 : decode cX6_carriesOf 39 = .ok (.iload_n 2, 1) := dk_28 (dk_at dksX6_carriesOf_1 15 rfl rfl)
theorem dX6_carriesOf_40 : decode cX6_carriesOf 40 = .ok (.ifCond .le 75, 3) := dk_158 0 75 (dk_at dksX6_carriesOf_1 16 rfl rfl)
theorem dX6_carriesOf_43 : decode cX6_carriesOf 43 = .ok (.iconst 0, 1) := dk_3 (dk_at dksX6_carriesOf_1 19 rfl rfl)
theorem dX6_carriesOf_44 : decode cX6_carriesOf 44 = .ok (.istore_n 3, 1) := dk_62 (dk_at dksX6_carriesOf_1 20 rfl rfl)
theorem dX6_carriesOf_45 : decode cX6_carriesOf 45 = .ok (.iconst 0, 1) := dk_3 (dk_at dksX6_carriesOf_1 21 rfl rfl)
theorem dX6_carriesOf_46 : decode cX6_carriesOf 46 = .ok (.istore 4, 2) := dk_54 4 (dk_at dksX6_carriesOf_1 22 rfl rfl)
theorem dX6_carriesOf_48 : decode cX6_carriesOf 48 = .ok (.iload 4, 2) := dk_21 4 (dk_at dksX6_carriesOf_2 0 rfl rfl)
theorem dX6_carriesOf_50 : decode cX6_carriesOf 50 = .ok (.aload_n 0, 1) := dk_42 (dk_at dksX6_carriesOf_2 2 rfl rfl)
theorem dX6_carriesOf_51 : decode cX6_carriesOf 51 = .ok (.invokevirtual 251, 3) := dk_182 0 251 (dk_at dksX6_carriesOf_2 3 rfl rfl)
theorem dX6_carriesOf_54 : decode cX6_carriesOf 54 = .ok (.if_icmp .ge 58, 3) := dk_162 0 58 (dk_at dksX6_carriesOf_2 6 rfl rfl)
theorem dX6_carriesOf_57 : decode cX6_carriesOf 57 = .ok (.iload_n 2, 1) := dk_28 (dk_at dksX6_carriesOf_2 9 rfl rfl)
theorem dX6_carriesOf_58 : decode cX6_carriesOf 58 = .ok (.ifCond .le 54, 3) := dk_158 0 54 (dk_at dksX6_carriesOf_2 10 rfl rfl)
theorem dX6_carriesOf_61 : decode cX6_carriesOf 61 = .ok (.bipush 8, 2) := dk_16 8 (dk_at dksX6_carriesOf_2 13 rfl rfl)
theorem dX6_carriesOf_63 : decode cX6_carriesOf 63 = .ok (.iload_n 1, 1) := dk_27 (dk_at dksX6_carriesOf_2 15 rfl rfl)
theorem dX6_carriesOf_64 : decode cX6_carriesOf 64 = .ok (.imul, 1) := dk_104 (dk_at dksX6_carriesOf_2 16 rfl rfl)
theorem dX6_carriesOf_65 : decode cX6_carriesOf 65 = .ok (.iload 4, 2) := dk_21 4 (dk_at dksX6_carriesOf_2 17 rfl rfl)
theorem dX6_carriesOf_67 : decode cX6_carriesOf 67 = .ok (.iadd, 1) := dk_96 (dk_at dksX6_carriesOf_2 19 rfl rfl)
theorem dX6_carriesOf_68 : decode cX6_carriesOf 68 = .ok (.istore 5, 2) := dk_54 5 (dk_at dksX6_carriesOf_2 20 rfl rfl)
theorem dX6_carriesOf_70 : decode cX6_carriesOf 70 = .ok (.aload_n 0, 1) := dk_42 (dk_at dksX6_carriesOf_2 22 rfl rfl)
theorem dX6_carriesOf_71 : decode cX6_carriesOf 71 = .ok (.getfield 75, 3) := dk_180 0 75 (dk_at dksX6_carriesOf_3 0 rfl rfl)
theorem dX6_carriesOf_74 : decode cX6_carriesOf 74 = .ok (.iload 5, 2) := dk_21 5 (dk_at dksX6_carriesOf_3 3 rfl rfl)
theorem dX6_carriesOf_76 : decode cX6_carriesOf 76 = .ok (.iaload, 1) := dk_46 (dk_at dksX6_carriesOf_3 5 rfl rfl)
theorem dX6_carriesOf_77 : decode cX6_carriesOf 77 = .ok (.aload_n 0, 1) := dk_42 (dk_at dksX6_carriesOf_3 6 rfl rfl)
theorem dX6_carriesOf_78 : decode cX6_carriesOf 78 = .ok (.getfield 72, 3) := dk_180 0 72 (dk_at dksX6_carriesOf_3 7 rfl rfl)
theorem dX6_carriesOf_81 : decode cX6_carriesOf 81 = .ok (.iload 5, 2) := dk_21 5 (dk_at dksX6_carriesOf_3 10 rfl rfl)
theorem dX6_carriesOf_83 : decode cX6_carriesOf 83 = .ok (.iaload, 1) := dk_46 (dk_at dksX6_carriesOf_3 12 rfl rfl)
theorem dX6_carriesOf_84 : decode cX6_carriesOf 84 = .ok (.if_icmp .ne 6, 3) := dk_160 0 6 (dk_at dksX6_carriesOf_3 13 rfl rfl)
theorem dX6_carriesOf_87 : decode cX6_carriesOf 87 = .ok (.goto 19, 3) := dk_167 0 19 (dk_at dksX6_carriesOf_3 16 rfl rfl)
theorem dX6_carriesOf_90 : decode cX6_carriesOf 90 = .ok (.aload_n 0, 1) := dk_42 (dk_at dksX6_carriesOf_3 19 rfl rfl)
theorem dX6_carriesOf_91 : decode cX6_carriesOf 91 = .ok (.getfield 75, 3) := dk_180 0 75 (dk_at dksX6_carriesOf_3 20 rfl rfl)
theorem dX6_carriesOf_94 : decode cX6_carriesOf 94 = .ok (.iload 5, 2) := dk_21 5 (dk_at dksX6_carriesOf_4 0 rfl rfl)
theorem dX6_carriesOf_96 : decode cX6_carriesOf 96 = .ok (.dup2, 1) := dk_92 (dk_at dksX6_carriesOf_4 2 rfl rfl)
theorem dX6_carriesOf_97 : decode cX6_carriesOf 97 = .ok (.iaload, 1) := dk_46 (dk_at dksX6_carriesOf_4 3 rfl rfl)
theorem dX6_carriesOf_98 : decode cX6_carriesOf 98 = .ok (.iconst 1, 1) := dk_4 (dk_at dksX6_carriesOf_4 4 rfl rfl)
theorem dX6_carriesOf_99 : decode cX6_carriesOf 99 = .ok (.iadd, 1) := dk_96 (dk_at dksX6_carriesOf_4 5 rfl rfl)
theorem dX6_carriesOf_100 : decode cX6_carriesOf 100 = .ok (.iastore, 1) := dk_79 (dk_at dksX6_carriesOf_4 6 rfl rfl)
theorem dX6_carriesOf_101 : decode cX6_carriesOf 101 = .ok (.iinc 2 (-1), 3) := dk_132 2 255 (dk_at dksX6_carriesOf_4 7 rfl rfl)
theorem dX6_carriesOf_104 : decode cX6_carriesOf 104 = .ok (.iconst 1, 1) := dk_4 (dk_at dksX6_carriesOf_4 10 rfl rfl)
theorem dX6_carriesOf_105 : decode cX6_carriesOf 105 = .ok (.istore_n 3, 1) := dk_62 (dk_at dksX6_carriesOf_4 11 rfl rfl)
theorem dX6_carriesOf_106 : decode cX6_carriesOf 106 = .ok (.iinc 4 1, 3) := dk_132 4 1 (dk_at dksX6_carriesOf_4 12 rfl rfl)
theorem dX6_carriesOf_109 : decode cX6_carriesOf 109 = .ok (.goto (-61), 3) := dk_167 255 195 (dk_at dksX6_carriesOf_4 15 rfl rfl)
theorem dX6_carriesOf_112 : decode cX6_carriesOf 112 = .ok (.goto (-77), 3) := dk_167 255 179 (dk_at dksX6_carriesOf_4 18 rfl rfl)
theorem dX6_carriesOf_115 : decode cX6_carriesOf 115 = .ok (.aload_n 0, 1) := dk_42 (dk_at dksX6_carriesOf_4 21 rfl rfl)
theorem dX6_carriesOf_116 : decode cX6_carriesOf 116 = .ok (.getfield 57, 3) := dk_180 0 57 (dk_at dksX6_carriesOf_5 0 rfl rfl)
theorem dX6_carriesOf_119 : decode cX6_carriesOf 119 = .ok (.bipush 24, 2) := dk_16 24 (dk_at dksX6_carriesOf_5 3 rfl rfl)
theorem dX6_carriesOf_121 : decode cX6_carriesOf 121 = .ok (.iload_n 1, 1) := dk_27 (dk_at dksX6_carriesOf_5 5 rfl rfl)
theorem dX6_carriesOf_122 : decode cX6_carriesOf 122 = .ok (.imul, 1) := dk_104 (dk_at dksX6_carriesOf_5 6 rfl rfl)
theorem dX6_carriesOf_123 : decode cX6_carriesOf 123 = .ok (.bipush 7, 2) := dk_16 7 (dk_at dksX6_carriesOf_5 7 rfl rfl)
theorem dX6_carriesOf_125 : decode cX6_carriesOf 125 = .ok (.iadd, 1) := dk_96 (dk_at dksX6_carriesOf_5 9 rfl rfl)
theorem dX6_carriesOf_126 : decode cX6_carriesOf 126 = .ok (.aload_n 0, 1) := dk_42 (dk_at dksX6_carriesOf_5 10 rfl rfl)
theorem dX6_carriesOf_127 : decode cX6_carriesOf 127 = .ok (.getfield 23, 3) := dk_180 0 23 (dk_at dksX6_carriesOf_5 11 rfl rfl)
theorem dX6_carriesOf_130 : decode cX6_carriesOf 130 = .ok (.iload_n 1, 1) := dk_27 (dk_at dksX6_carriesOf_5 14 rfl rfl)
theorem dX6_carriesOf_131 : decode cX6_carriesOf 131 = .ok (.iaload, 1) := dk_46 (dk_at dksX6_carriesOf_5 15 rfl rfl)
theorem dX6_carriesOf_132 : decode cX6_carriesOf 132 = .ok (.iload_n 2, 1) := dk_28 (dk_at dksX6_carriesOf_5 16 rfl rfl)
theorem dX6_carriesOf_133 : decode cX6_carriesOf 133 = .ok (.isub, 1) := dk_100 (dk_at dksX6_carriesOf_5 17 rfl rfl)
theorem dX6_carriesOf_134 : decode cX6_carriesOf 134 = .ok (.iastore, 1) := dk_79 (dk_at dksX6_carriesOf_5 18 rfl rfl)
theorem dX6_carriesOf_135 : decode cX6_carriesOf 135 = .ok (.return_, 1) := dk_177 (dk_at dksX6_carriesOf_5 19 rfl rfl)
abbrev cX6_takesOff : ByteArray := prog_18_method_49_code
def yX6_takesOff : MethodName := ⟨RX6, "takesOff", "()V"⟩
def dkwX6_takesOff_5 : List UInt8 := [132, 2, 1, 167, 255, 146, 132, 1, 1, 167, 255, 130, 177]
abbrev dktX6_takesOff_5 : List UInt8 := dkwX6_takesOff_5 ++ []
def dkwX6_takesOff_4 : List UInt8 := [96, 92, 46, 16, 16, 29, 104, 100, 79, 42, 180, 0, 57, 28, 184, 1, 2, 7, 96, 92, 46, 29, 96, 79]
abbrev dktX6_takesOff_4 : List UInt8 := dkwX6_takesOff_4 ++ dktX6_takesOff_5
def dkwX6_takesOff_3 : List UInt8 := [104, 16, 15, 96, 28, 96, 92, 46, 29, 100, 79, 167, 0, 37, 42, 180, 0, 57, 28, 184, 1, 2, 16, 8]
abbrev dktX6_takesOff_3 : List UInt8 := dkwX6_takesOff_3 ++ dktX6_takesOff_4
def dkwX6_takesOff_2 : List UInt8 := [21, 4, 158, 0, 36, 42, 180, 0, 57, 16, 24, 42, 180, 0, 50, 8, 28, 104, 21, 4, 96, 4, 100, 46]
abbrev dktX6_takesOff_2 : List UInt8 := dkwX6_takesOff_2 ++ dktX6_takesOff_3
def dkwX6_takesOff_1 : List UInt8 := [16, 8, 27, 104, 28, 96, 46, 62, 29, 154, 0, 6, 167, 0, 83, 42, 28, 27, 182, 1, 5, 54, 4]
abbrev dktX6_takesOff_1 : List UInt8 := dkwX6_takesOff_1 ++ dktX6_takesOff_2
def dkwX6_takesOff_0 : List UInt8 := [3, 60, 27, 42, 182, 0, 248, 162, 0, 124, 3, 61, 28, 42, 182, 0, 251, 162, 0, 108, 42, 180, 0, 75]
abbrev dktX6_takesOff_0 : List UInt8 := dkwX6_takesOff_0 ++ dktX6_takesOff_1
theorem dksX6_takesOff_0 : cX6_takesOff.data.toList.drop 0 = dktX6_takesOff_0 := by decide +kernel
theorem dksX6_takesOff_1 : cX6_takesOff.data.toList.drop 24 = dktX6_takesOff_1 := dk_seg dksX6_takesOff_0 24 rfl rfl
theorem dksX6_takesOff_2 : cX6_takesOff.data.toList.drop 47 = dktX6_takesOff_2 := dk_seg dksX6_takesOff_1 23 rfl rfl
theorem dksX6_takesOff_3 : cX6_takesOff.data.toList.drop 71 = dktX6_takesOff_3 := dk_seg dksX6_takesOff_2 24 rfl rfl
theorem dksX6_takesOff_4 : cX6_takesOff.data.toList.drop 95 = dktX6_takesOff_4 := dk_seg dksX6_takesOff_3 24 rfl rfl
theorem dksX6_takesOff_5 : cX6_takesOff.data.toList.drop 119 = dktX6_takesOff_5 := dk_seg dksX6_takesOff_4 24 rfl rfl
theorem dX6_takesOff_0 : decode cX6_takesOff 0 = .ok (.iconst 0, 1) := dk_3 (dk_at dksX6_takesOff_0 0 rfl rfl)
theorem dX6_takesOff_1 : decode cX6_takesOff 1 = .ok (.istore_n 1, 1) := dk_60 (dk_at dksX6_takesOff_0 1 rfl rfl)
theorem dX6_takesOff_2 : decode cX6_takesOff 2 = .ok (.iload_n 1, 1) := dk_27 (dk_at dksX6_takesOff_0 2 rfl rfl)
theorem dX6_takesOff_3 : decode cX6_takesOff 3 = .ok (.aload_n 0, 1) := dk_42 (dk_at dksX6_takesOff_0 3 rfl rfl)
theorem dX6_takesOff_4 : decode cX6_takesOff 4 = .ok (.invokevirtual 248, 3) := dk_182 0 248 (dk_at dksX6_takesOff_0 4 rfl rfl)
theorem dX6_takesOff_7 : decode cX6_takesOff 7 = .ok (.if_icmp .ge 124, 3) := dk_162 0 124 (dk_at dksX6_takesOff_0 7 rfl rfl)
theorem dX6_takesOff_10 : decode cX6_takesOff 10 = .ok (.iconst 0, 1) := dk_3 (dk_at dksX6_takesOff_0 10 rfl rfl)
theorem dX6_takesOff_11 : decode cX6_takesOff 11 = .ok (.istore_n 2, 1) := dk_61 (dk_at dksX6_takesOff_0 11 rfl rfl)
theorem dX6_takesOff_12 : decode cX6_takesOff 12 = .ok (.iload_n 2, 1) := dk_28 (dk_at dksX6_takesOff_0 12 rfl rfl)
theorem dX6_takesOff_13 : decode cX6_takesOff 13 = .ok (.aload_n 0, 1) := dk_42 (dk_at dksX6_takesOff_0 13 rfl rfl)
theorem dX6_takesOff_14 : decode cX6_takesOff 14 = .ok (.invokevirtual 251, 3) := dk_182 0 251 (dk_at dksX6_takesOff_0 14 rfl rfl)
theorem dX6_takesOff_17 : decode cX6_takesOff 17 = .ok (.if_icmp .ge 108, 3) := dk_162 0 108 (dk_at dksX6_takesOff_0 17 rfl rfl)
theorem dX6_takesOff_20 : decode cX6_takesOff 20 = .ok (.aload_n 0, 1) := dk_42 (dk_at dksX6_takesOff_0 20 rfl rfl)
theorem dX6_takesOff_21 : decode cX6_takesOff 21 = .ok (.getfield 75, 3) := dk_180 0 75 (dk_at dksX6_takesOff_0 21 rfl rfl)
theorem dX6_takesOff_24 : decode cX6_takesOff 24 = .ok (.bipush 8, 2) := dk_16 8 (dk_at dksX6_takesOff_1 0 rfl rfl)
theorem dX6_takesOff_26 : decode cX6_takesOff 26 = .ok (.iload_n 1, 1) := dk_27 (dk_at dksX6_takesOff_1 2 rfl rfl)
theorem dX6_takesOff_27 : decode cX6_takesOff 27 = .ok (.imul, 1) := dk_104 (dk_at dksX6_takesOff_1 3 rfl rfl)
theorem dX6_takesOff_28 : decode cX6_takesOff 28 = .ok (.iload_n 2, 1) := dk_28 (dk_at dksX6_takesOff_1 4 rfl rfl)
theorem dX6_takesOff_29 : decode cX6_takesOff 29 = .ok (.iadd, 1) := dk_96 (dk_at dksX6_takesOff_1 5 rfl rfl)
theorem dX6_takesOff_30 : decode cX6_takesOff 30 = .ok (.iaload, 1) := dk_46 (dk_at dksX6_takesOff_1 6 rfl rfl)
theorem dX6_takesOff_31 : decode cX6_takesOff 31 = .ok (.istore_n 3, 1) := dk_62 (dk_at dksX6_takesOff_1 7 rfl rfl)
theorem dX6_takesOff_32 : decode cX6_takesOff 32 = .ok (.iload_n 3, 1) := dk_29 (dk_at dksX6_takesOff_1 8 rfl rfl)
theorem dX6_takesOff_33 : decode cX6_takesOff 33 = .ok (.ifCond .ne 6, 3) := dk_154 0 6 (dk_at dksX6_takesOff_1 9 rfl rfl)
theorem dX6_takesOff_36 : decode cX6_takesOff 36 = .ok (.goto 83, 3) := dk_167 0 83 (dk_at dksX6_takesOff_1 12 rfl rfl)
theorem dX6_takesOff_39 : decode cX6_takesOff 39 = .ok (.aload_n 0, 1) := dk_42 (dk_at dksX6_takesOff_1 15 rfl rfl)
theorem dX6_takesOff_40 : decode cX6_takesOff 40 = .ok (.iload_n 2, 1) := dk_28 (dk_at dksX6_takesOff_1 16 rfl rfl)
theorem dX6_takesOff_41 : decode cX6_takesOff 41 = .ok (.iload_n 1, 1) := dk_27 (dk_at dksX6_takesOff_1 17 rfl rfl)
theorem dX6_takesOff_42 : decode cX6_takesOff 42 = .ok (.invokevirtual 261, 3) := dk_182 1 5 (dk_at dksX6_takesOff_1 18 rfl rfl)
theorem dX6_takesOff_45 : decode cX6_takesOff 45 = .ok (.istore 4, 2) := dk_54 4 (dk_at dksX6_takesOff_1 21 rfl rfl)
theorem dX6_takesOff_47 : decode cX6_takesOff 47 = .ok (.iload 4, 2) := dk_21 4 (dk_at dksX6_takesOff_2 0 rfl rfl)
theorem dX6_takesOff_49 : decode cX6_takesOff 49 = .ok (.ifCond .le 36, 3) := dk_158 0 36 (dk_at dksX6_takesOff_2 2 rfl rfl)
theorem dX6_takesOff_52 : decode cX6_takesOff 52 = .ok (.aload_n 0, 1) := dk_42 (dk_at dksX6_takesOff_2 5 rfl rfl)
theorem dX6_takesOff_53 : decode cX6_takesOff 53 = .ok (.getfield 57, 3) := dk_180 0 57 (dk_at dksX6_takesOff_2 6 rfl rfl)
theorem dX6_takesOff_56 : decode cX6_takesOff 56 = .ok (.bipush 24, 2) := dk_16 24 (dk_at dksX6_takesOff_2 9 rfl rfl)
theorem dX6_takesOff_58 : decode cX6_takesOff 58 = .ok (.aload_n 0, 1) := dk_42 (dk_at dksX6_takesOff_2 11 rfl rfl)
theorem dX6_takesOff_59 : decode cX6_takesOff 59 = .ok (.getfield 50, 3) := dk_180 0 50 (dk_at dksX6_takesOff_2 12 rfl rfl)
theorem dX6_takesOff_62 : decode cX6_takesOff 62 = .ok (.iconst 5, 1) := dk_8 (dk_at dksX6_takesOff_2 15 rfl rfl)
theorem dX6_takesOff_63 : decode cX6_takesOff 63 = .ok (.iload_n 2, 1) := dk_28 (dk_at dksX6_takesOff_2 16 rfl rfl)
theorem dX6_takesOff_64 : decode cX6_takesOff 64 = .ok (.imul, 1) := dk_104 (dk_at dksX6_takesOff_2 17 rfl rfl)
theorem dX6_takesOff_65 : decode cX6_takesOff 65 = .ok (.iload 4, 2) := dk_21 4 (dk_at dksX6_takesOff_2 18 rfl rfl)
theorem dX6_takesOff_67 : decode cX6_takesOff 67 = .ok (.iadd, 1) := dk_96 (dk_at dksX6_takesOff_2 20 rfl rfl)
theorem dX6_takesOff_68 : decode cX6_takesOff 68 = .ok (.iconst 1, 1) := dk_4 (dk_at dksX6_takesOff_2 21 rfl rfl)
theorem dX6_takesOff_69 : decode cX6_takesOff 69 = .ok (.isub, 1) := dk_100 (dk_at dksX6_takesOff_2 22 rfl rfl)
theorem dX6_takesOff_70 : decode cX6_takesOff 70 = .ok (.iaload, 1) := dk_46 (dk_at dksX6_takesOff_2 23 rfl rfl)
theorem dX6_takesOff_71 : decode cX6_takesOff 71 = .ok (.imul, 1) := dk_104 (dk_at dksX6_takesOff_3 0 rfl rfl)
theorem dX6_takesOff_72 : decode cX6_takesOff 72 = .ok (.bipush 15, 2) := dk_16 15 (dk_at dksX6_takesOff_3 1 rfl rfl)
theorem dX6_takesOff_74 : decode cX6_takesOff 74 = .ok (.iadd, 1) := dk_96 (dk_at dksX6_takesOff_3 3 rfl rfl)
theorem dX6_takesOff_75 : decode cX6_takesOff 75 = .ok (.iload_n 2, 1) := dk_28 (dk_at dksX6_takesOff_3 4 rfl rfl)
theorem dX6_takesOff_76 : decode cX6_takesOff 76 = .ok (.iadd, 1) := dk_96 (dk_at dksX6_takesOff_3 5 rfl rfl)
theorem dX6_takesOff_77 : decode cX6_takesOff 77 = .ok (.dup2, 1) := dk_92 (dk_at dksX6_takesOff_3 6 rfl rfl)
theorem dX6_takesOff_78 : decode cX6_takesOff 78 = .ok (.iaload, 1) := dk_46 (dk_at dksX6_takesOff_3 7 rfl rfl)
theorem dX6_takesOff_79 : decode cX6_takesOff 79 = .ok (.iload_n 3, 1) := dk_29 (dk_at dksX6_takesOff_3 8 rfl rfl)
theorem dX6_takesOff_80 : decode cX6_takesOff 80 = .ok (.isub, 1) := dk_100 (dk_at dksX6_takesOff_3 9 rfl rfl)
theorem dX6_takesOff_81 : decode cX6_takesOff 81 = .ok (.iastore, 1) := dk_79 (dk_at dksX6_takesOff_3 10 rfl rfl)
theorem dX6_takesOff_82 : decode cX6_takesOff 82 = .ok (.goto 37, 3) := dk_167 0 37 (dk_at dksX6_takesOff_3 11 rfl rfl)
theorem dX6_takesOff_85 : decode cX6_takesOff 85 = .ok (.aload_n 0, 1) := dk_42 (dk_at dksX6_takesOff_3 14 rfl rfl)
theorem dX6_takesOff_86 : decode cX6_takesOff 86 = .ok (.getfield 57, 3) := dk_180 0 57 (dk_at dksX6_takesOff_3 15 rfl rfl)
theorem dX6_takesOff_89 : decode cX6_takesOff 89 = .ok (.iload_n 2, 1) := dk_28 (dk_at dksX6_takesOff_3 18 rfl rfl)
theorem dX6_takesOff_90 : decode cX6_takesOff 90 = .ok (.invokestatic 258, 3) := dk_184 1 2 (dk_at dksX6_takesOff_3 19 rfl rfl)
theorem dX6_takesOff_93 : decode cX6_takesOff 93 = .ok (.bipush 8, 2) := dk_16 8 (dk_at dksX6_takesOff_3 22 rfl rfl)
theorem dX6_takesOff_95 : decode cX6_takesOff 95 = .ok (.iadd, 1) := dk_96 (dk_at dksX6_takesOff_4 0 rfl rfl)
theorem dX6_takesOff_96 : decode cX6_takesOff 96 = .ok (.dup2, 1) := dk_92 (dk_at dksX6_takesOff_4 1 rfl rfl)
theorem dX6_takesOff_97 : decode cX6_takesOff 97 = .ok (.iaload, 1) := dk_46 (dk_at dksX6_takesOff_4 2 rfl rfl)
theorem dX6_takesOff_98 : decode cX6_takesOff 98 = .ok (.bipush 16, 2) := dk_16 16 (dk_at dksX6_takesOff_4 3 rfl rfl)
theorem dX6_takesOff_100 : decode cX6_takesOff 100 = .ok (.iload_n 3, 1) := dk_29 (dk_at dksX6_takesOff_4 5 rfl rfl)
theorem dX6_takesOff_101 : decode cX6_takesOff 101 = .ok (.imul, 1) := dk_104 (dk_at dksX6_takesOff_4 6 rfl rfl)
theorem dX6_takesOff_102 : decode cX6_takesOff 102 = .ok (.isub, 1) := dk_100 (dk_at dksX6_takesOff_4 7 rfl rfl)
theorem dX6_takesOff_103 : decode cX6_takesOff 103 = .ok (.iastore, 1) := dk_79 (dk_at dksX6_takesOff_4 8 rfl rfl)
theorem dX6_takesOff_104 : decode cX6_takesOff 104 = .ok (.aload_n 0, 1) := dk_42 (dk_at dksX6_takesOff_4 9 rfl rfl)
theorem dX6_takesOff_105 : decode cX6_takesOff 105 = .ok (.getfield 57, 3) := dk_180 0 57 (dk_at dksX6_takesOff_4 10 rfl rfl)
theorem dX6_takesOff_108 : decode cX6_takesOff 108 = .ok (.iload_n 2, 1) := dk_28 (dk_at dksX6_takesOff_4 13 rfl rfl)
theorem dX6_takesOff_109 : decode cX6_takesOff 109 = .ok (.invokestatic 258, 3) := dk_184 1 2 (dk_at dksX6_takesOff_4 14 rfl rfl)
theorem dX6_takesOff_112 : decode cX6_takesOff 112 = .ok (.iconst 4, 1) := dk_7 (dk_at dksX6_takesOff_4 17 rfl rfl)
theorem dX6_takesOff_113 : decode cX6_takesOff 113 = .ok (.iadd, 1) := dk_96 (dk_at dksX6_takesOff_4 18 rfl rfl)
theorem dX6_takesOff_114 : decode cX6_takesOff 114 = .ok (.dup2, 1) := dk_92 (dk_at dksX6_takesOff_4 19 rfl rfl)
theorem dX6_takesOff_115 : decode cX6_takesOff 115 = .ok (.iaload, 1) := dk_46 (dk_at dksX6_takesOff_4 20 rfl rfl)
theorem dX6_takesOff_116 : decode cX6_takesOff 116 = .ok (.iload_n 3, 1) := dk_29 (dk_at dksX6_takesOff_4 21 rfl rfl)
theorem dX6_takesOff_117 : decode cX6_takesOff 117 = .ok (.iadd, 1) := dk_96 (dk_at dksX6_takesOff_4 22 rfl rfl)
theorem dX6_takesOff_118 : decode cX6_takesOff 118 = .ok (.iastore, 1) := dk_79 (dk_at dksX6_takesOff_4 23 rfl rfl)
theorem dX6_takesOff_119 : decode cX6_takesOff 119 = .ok (.iinc 2 1, 3) := dk_132 2 1 (dk_at dksX6_takesOff_5 0 rfl rfl)
theorem dX6_takesOff_122 : decode cX6_takesOff 122 = .ok (.goto (-110), 3) := dk_167 255 146 (dk_at dksX6_takesOff_5 3 rfl rfl)
theorem dX6_takesOff_125 : decode cX6_takesOff 125 = .ok (.iinc 1 1, 3) := dk_132 1 1 (dk_at dksX6_takesOff_5 6 rfl rfl)
theorem dX6_takesOff_128 : decode cX6_takesOff 128 = .ok (.goto (-126), 3) := dk_167 255 130 (dk_at dksX6_takesOff_5 9 rfl rfl)
theorem dX6_takesOff_131 : decode cX6_takesOff 131 = .ok (.return_, 1) := dk_177 (dk_at dksX6_takesOff_5 12 rfl rfl)
abbrev cX6_comesTo : ByteArray := prog_18_method_50_code
def yX6_comesTo : MethodName := ⟨RX6, "comesTo", "(I)V"⟩
def dkwX6_comesTo_9 : List UInt8 := [16, 24, 27, 104, 7, 96, 46, 79, 177]
abbrev dktX6_comesTo_9 : List UInt8 := dkwX6_comesTo_9 ++ []
def dkwX6_comesTo_8 : List UInt8 := [96, 28, 42, 180, 0, 57, 16, 24, 27, 104, 7, 96, 46, 164, 0, 7, 28, 167, 0, 14, 42, 180, 0, 57]
abbrev dktX6_comesTo_8 : List UInt8 := dkwX6_comesTo_8 ++ dktX6_comesTo_9
def dkwX6_comesTo_7 : List UInt8 := [100, 96, 79, 132, 2, 1, 167, 255, 85, 42, 27, 182, 1, 8, 61, 42, 180, 0, 57, 16, 24, 27, 104, 7]
abbrev dktX6_comesTo_7 : List UInt8 := dkwX6_comesTo_7 ++ dktX6_comesTo_8
def dkwX6_comesTo_6 : List UInt8 := [92, 46, 29, 21, 5, 100, 96, 79, 42, 180, 0, 57, 28, 184, 1, 2, 16, 11, 96, 92, 46, 29, 21, 5]
abbrev dktX6_comesTo_6 : List UInt8 := dkwX6_comesTo_6 ++ dktX6_comesTo_7
def dkwX6_comesTo_5 : List UInt8 := [79, 42, 180, 0, 78, 16, 8, 27, 104, 28, 96, 21, 5, 79, 42, 180, 0, 57, 16, 24, 27, 104, 6, 96]
abbrev dktX6_comesTo_5 : List UInt8 := dkwX6_comesTo_5 ++ dktX6_comesTo_6
def dkwX6_comesTo_4 : List UInt8 := [3, 184, 1, 11, 54, 5, 42, 180, 0, 57, 16, 24, 27, 104, 16, 15, 96, 28, 96, 92, 46, 21, 5, 96]
abbrev dktX6_comesTo_4 : List UInt8 := dkwX6_comesTo_4 ++ dktX6_comesTo_5
def dkwX6_comesTo_3 : List UInt8 := [104, 5, 96, 46, 42, 27, 182, 1, 8, 100, 54, 4, 29, 3, 21, 4, 158, 0, 8, 21, 4, 167, 0, 4]
abbrev dktX6_comesTo_3 : List UInt8 := dkwX6_comesTo_3 ++ dktX6_comesTo_4
def dkwX6_comesTo_2 : List UInt8 := [180, 0, 57, 28, 184, 1, 2, 8, 96, 92, 46, 29, 96, 79, 167, 0, 109, 42, 180, 0, 57, 16, 24, 27]
abbrev dktX6_comesTo_2 : List UInt8 := dkwX6_comesTo_2 ++ dktX6_comesTo_3
def dkwX6_comesTo_1 : List UInt8 := [154, 0, 6, 167, 0, 144, 42, 28, 27, 182, 1, 5, 42, 180, 0, 47, 28, 46, 4, 100, 160, 0, 21, 42]
abbrev dktX6_comesTo_1 : List UInt8 := dkwX6_comesTo_1 ++ dktX6_comesTo_2
def dkwX6_comesTo_0 : List UInt8 := [3, 61, 28, 42, 182, 0, 251, 162, 0, 169, 42, 180, 0, 75, 16, 8, 27, 104, 28, 96, 46, 62, 29]
abbrev dktX6_comesTo_0 : List UInt8 := dkwX6_comesTo_0 ++ dktX6_comesTo_1
theorem dksX6_comesTo_0 : cX6_comesTo.data.toList.drop 0 = dktX6_comesTo_0 := by decide +kernel
theorem dksX6_comesTo_1 : cX6_comesTo.data.toList.drop 23 = dktX6_comesTo_1 := dk_seg dksX6_comesTo_0 23 rfl rfl
theorem dksX6_comesTo_2 : cX6_comesTo.data.toList.drop 47 = dktX6_comesTo_2 := dk_seg dksX6_comesTo_1 24 rfl rfl
theorem dksX6_comesTo_3 : cX6_comesTo.data.toList.drop 71 = dktX6_comesTo_3 := dk_seg dksX6_comesTo_2 24 rfl rfl
theorem dksX6_comesTo_4 : cX6_comesTo.data.toList.drop 95 = dktX6_comesTo_4 := dk_seg dksX6_comesTo_3 24 rfl rfl
theorem dksX6_comesTo_5 : cX6_comesTo.data.toList.drop 119 = dktX6_comesTo_5 := dk_seg dksX6_comesTo_4 24 rfl rfl
theorem dksX6_comesTo_6 : cX6_comesTo.data.toList.drop 143 = dktX6_comesTo_6 := dk_seg dksX6_comesTo_5 24 rfl rfl
theorem dksX6_comesTo_7 : cX6_comesTo.data.toList.drop 167 = dktX6_comesTo_7 := dk_seg dksX6_comesTo_6 24 rfl rfl
theorem dksX6_comesTo_8 : cX6_comesTo.data.toList.drop 191 = dktX6_comesTo_8 := dk_seg dksX6_comesTo_7 24 rfl rfl
theorem dksX6_comesTo_9 : cX6_comesTo.data.toList.drop 215 = dktX6_comesTo_9 := dk_seg dksX6_comesTo_8 24 rfl rfl
theorem dX6_comesTo_0 : decode cX6_comesTo 0 = .ok (.iconst 0, 1) := dk_3 (dk_at dksX6_comesTo_0 0 rfl rfl)
theorem dX6_comesTo_1 : decode cX6_comesTo 1 = .ok (.istore_n 2, 1) := dk_61 (dk_at dksX6_comesTo_0 1 rfl rfl)
theorem dX6_comesTo_2 : decode cX6_comesTo 2 = .ok (.iload_n 2, 1) := dk_28 (dk_at dksX6_comesTo_0 2 rfl rfl)
theorem dX6_comesTo_3 : decode cX6_comesTo 3 = .ok (.aload_n 0, 1) := dk_42 (dk_at dksX6_comesTo_0 3 rfl rfl)
theorem dX6_comesTo_4 : decode cX6_comesTo 4 = .ok (.invokevirtual 251, 3) := dk_182 0 251 (dk_at dksX6_comesTo_0 4 rfl rfl)
theorem dX6_comesTo_7 : decode cX6_comesTo 7 = .ok (.if_icmp .ge 169, 3) := dk_162 0 169 (dk_at dksX6_comesTo_0 7 rfl rfl)
theorem dX6_comesTo_10 : decode cX6_comesTo 10 = .ok (.aload_n 0, 1) := dk_42 (dk_at dksX6_comesTo_0 10 rfl rfl)
theorem dX6_comesTo_11 : decode cX6_comesTo 11 = .ok (.getfield 75, 3) := dk_180 0 75 (dk_at dksX6_comesTo_0 11 rfl rfl)
theorem dX6_comesTo_14 : decode cX6_comesTo 14 = .ok (.bipush 8, 2) := dk_16 8 (dk_at dksX6_comesTo_0 14 rfl rfl)
theorem dX6_comesTo_16 : decode cX6_comesTo 16 = .ok (.iload_n 1, 1) := dk_27 (dk_at dksX6_comesTo_0 16 rfl rfl)
theorem dX6_comesTo_17 : decode cX6_comesTo 17 = .ok (.imul, 1) := dk_104 (dk_at dksX6_comesTo_0 17 rfl rfl)
theorem dX6_comesTo_18 : decode cX6_comesTo 18 = .ok (.iload_n 2, 1) := dk_28 (dk_at dksX6_comesTo_0 18 rfl rfl)
theorem dX6_comesTo_19 : decode cX6_comesTo 19 = .ok (.iadd, 1) := dk_96 (dk_at dksX6_comesTo_0 19 rfl rfl)
theorem dX6_comesTo_20 : decode cX6_comesTo 20 = .ok (.iaload, 1) := dk_46 (dk_at dksX6_comesTo_0 20 rfl rfl)
theorem dX6_comesTo_21 : decode cX6_comesTo 21 = .ok (.istore_n 3, 1) := dk_62 (dk_at dksX6_comesTo_0 21 rfl rfl)
theorem dX6_comesTo_22 : decode cX6_comesTo 22 = .ok (.iload_n 3, 1) := dk_29 (dk_at dksX6_comesTo_0 22 rfl rfl)
theorem dX6_comesTo_23 : decode cX6_comesTo 23 = .ok (.ifCond .ne 6, 3) := dk_154 0 6 (dk_at dksX6_comesTo_1 0 rfl rfl)
theorem dX6_comesTo_26 : decode cX6_comesTo 26 = .ok (.goto 144, 3) := dk_167 0 144 (dk_at dksX6_comesTo_1 3 rfl rfl)
theorem dX6_comesTo_29 : decode cX6_comesTo 29 = .ok (.aload_n 0, 1) := dk_42 (dk_at dksX6_comesTo_1 6 rfl rfl)
theorem dX6_comesTo_30 : decode cX6_comesTo 30 = .ok (.iload_n 2, 1) := dk_28 (dk_at dksX6_comesTo_1 7 rfl rfl)
theorem dX6_comesTo_31 : decode cX6_comesTo 31 = .ok (.iload_n 1, 1) := dk_27 (dk_at dksX6_comesTo_1 8 rfl rfl)
theorem dX6_comesTo_32 : decode cX6_comesTo 32 = .ok (.invokevirtual 261, 3) := dk_182 1 5 (dk_at dksX6_comesTo_1 9 rfl rfl)
theorem dX6_comesTo_35 : decode cX6_comesTo 35 = .ok (.aload_n 0, 1) := dk_42 (dk_at dksX6_comesTo_1 12 rfl rfl)
theorem dX6_comesTo_36 : decode cX6_comesTo 36 = .ok (.getfield 47, 3) := dk_180 0 47 (dk_at dksX6_comesTo_1 13 rfl rfl)
theorem dX6_comesTo_39 : decode cX6_comesTo 39 = .ok (.iload_n 2, 1) := dk_28 (dk_at dksX6_comesTo_1 16 rfl rfl)
theorem dX6_comesTo_40 : decode cX6_comesTo 40 = .ok (.iaload, 1) := dk_46 (dk_at dksX6_comesTo_1 17 rfl rfl)
theorem dX6_comesTo_41 : decode cX6_comesTo 41 = .ok (.iconst 1, 1) := dk_4 (dk_at dksX6_comesTo_1 18 rfl rfl)
theorem dX6_comesTo_42 : decode cX6_comesTo 42 = .ok (.isub, 1) := dk_100 (dk_at dksX6_comesTo_1 19 rfl rfl)
theorem dX6_comesTo_43 : decode cX6_comesTo 43 = .ok (.if_icmp .ne 21, 3) := dk_160 0 21 (dk_at dksX6_comesTo_1 20 rfl rfl)
theorem dX6_comesTo_46 : decode cX6_comesTo 46 = .ok (.aload_n 0, 1) := dk_42 (dk_at dksX6_comesTo_1 23 rfl rfl)
theorem dX6_comesTo_47 : decode cX6_comesTo 47 = .ok (.getfield 57, 3) := dk_180 0 57 (dk_at dksX6_comesTo_2 0 rfl rfl)
theorem dX6_comesTo_50 : decode cX6_comesTo 50 = .ok (.iload_n 2, 1) := dk_28 (dk_at dksX6_comesTo_2 3 rfl rfl)
theorem dX6_comesTo_51 : decode cX6_comesTo 51 = .ok (.invokestatic 258, 3) := dk_184 1 2 (dk_at dksX6_comesTo_2 4 rfl rfl)
theorem dX6_comesTo_54 : decode cX6_comesTo 54 = .ok (.iconst 5, 1) := dk_8 (dk_at dksX6_comesTo_2 7 rfl rfl)
theorem dX6_comesTo_55 : decode cX6_comesTo 55 = .ok (.iadd, 1) := dk_96 (dk_at dksX6_comesTo_2 8 rfl rfl)
theorem dX6_comesTo_56 : decode cX6_comesTo 56 = .ok (.dup2, 1) := dk_92 (dk_at dksX6_comesTo_2 9 rfl rfl)
theorem dX6_comesTo_57 : decode cX6_comesTo 57 = .ok (.iaload, 1) := dk_46 (dk_at dksX6_comesTo_2 10 rfl rfl)
theorem dX6_comesTo_58 : decode cX6_comesTo 58 = .ok (.iload_n 3, 1) := dk_29 (dk_at dksX6_comesTo_2 11 rfl rfl)
theorem dX6_comesTo_59 : decode cX6_comesTo 59 = .ok (.iadd, 1) := dk_96 (dk_at dksX6_comesTo_2 12 rfl rfl)
theorem dX6_comesTo_60 : decode cX6_comesTo 60 = .ok (.iastore, 1) := dk_79 (dk_at dksX6_comesTo_2 13 rfl rfl)
theorem dX6_comesTo_61 : decode cX6_comesTo 61 = .ok (.goto 109, 3) := dk_167 0 109 (dk_at dksX6_comesTo_2 14 rfl rfl)
theorem dX6_comesTo_64 : decode cX6_comesTo 64 = .ok (.aload_n 0, 1) := dk_42 (dk_at dksX6_comesTo_2 17 rfl rfl)
theorem dX6_comesTo_65 : decode cX6_comesTo 65 = .ok (.getfield 57, 3) := dk_180 0 57 (dk_at dksX6_comesTo_2 18 rfl rfl)
theorem dX6_comesTo_68 : decode cX6_comesTo 68 = .ok (.bipush 24, 2) := dk_16 24 (dk_at dksX6_comesTo_2 21 rfl rfl)
theorem dX6_comesTo_70 : decode cX6_comesTo 70 = .ok (.iload_n 1, 1) := dk_27 (dk_at dksX6_comesTo_2 23 rfl rfl)
theorem dX6_comesTo_71 : decode cX6_comesTo 71 = .ok (.imul, 1) := dk_104 (dk_at dksX6_comesTo_3 0 rfl rfl)
theorem dX6_comesTo_72 : decode cX6_comesTo 72 = .ok (.iconst 2, 1) := dk_5 (dk_at dksX6_comesTo_3 1 rfl rfl)
theorem dX6_comesTo_73 : decode cX6_comesTo 73 = .ok (.iadd, 1) := dk_96 (dk_at dksX6_comesTo_3 2 rfl rfl)
theorem dX6_comesTo_74 : decode cX6_comesTo 74 = .ok (.iaload, 1) := dk_46 (dk_at dksX6_comesTo_3 3 rfl rfl)
theorem dX6_comesTo_75 : decode cX6_comesTo 75 = .ok (.aload_n 0, 1) := dk_42 (dk_at dksX6_comesTo_3 4 rfl rfl)
theorem dX6_comesTo_76 : decode cX6_comesTo 76 = .ok (.iload_n 1, 1) := dk_27 (dk_at dksX6_comesTo_3 5 rfl rfl)
theorem dX6_comesTo_77 : decode cX6_comesTo 77 = .ok (.invokevirtual 264, 3) := dk_182 1 8 (dk_at dksX6_comesTo_3 6 rfl rfl)
theorem dX6_comesTo_80 : decode cX6_comesTo 80 = .ok (.isub, 1) := dk_100 (dk_at dksX6_comesTo_3 9 rfl rfl)
theorem dX6_comesTo_81 : decode cX6_comesTo 81 = .ok (.istore 4, 2) := dk_54 4 (dk_at dksX6_comesTo_3 10 rfl rfl)
theorem dX6_comesTo_83 : decode cX6_comesTo 83 = .ok (.iload_n 3, 1) := dk_29 (dk_at dksX6_comesTo_3 12 rfl rfl)
theorem dX6_comesTo_84 : decode cX6_comesTo 84 = .ok (.iconst 0, 1) := dk_3 (dk_at dksX6_comesTo_3 13 rfl rfl)
theorem dX6_comesTo_85 : decode cX6_comesTo 85 = .ok (.iload 4, 2) := dk_21 4 (dk_at dksX6_comesTo_3 14 rfl rfl)
theorem dX6_comesTo_87 : decode cX6_comesTo 87 = .ok (.ifCond .le 8, 3) := dk_158 0 8 (dk_at dksX6_comesTo_3 16 rfl rfl)
theorem dX6_comesTo_90 : decode cX6_comesTo 90 = .ok (.iload 4, 2) := dk_21 4 (dk_at dksX6_comesTo_3 19 rfl rfl)
theorem dX6_comesTo_92 : decode cX6_comesTo 92 = .ok (.goto 4, 3) := dk_167 0 4 (dk_at dksX6_comesTo_3 21 rfl rfl)
theorem dX6_comesTo_95 : decode cX6_comesTo 95 = .ok (.iconst 0, 1) := dk_3 (dk_at dksX6_comesTo_4 0 rfl rfl)
theorem dX6_comesTo_96 : decode cX6_comesTo 96 = .ok (.invokestatic 267, 3) := dk_184 1 11 (dk_at dksX6_comesTo_4 1 rfl rfl)
theorem dX6_comesTo_99 : decode cX6_comesTo 99 = .ok (.istore 5, 2) := dk_54 5 (dk_at dksX6_comesTo_4 4 rfl rfl)
theorem dX6_comesTo_101 : decode cX6_comesTo 101 = .ok (.aload_n 0, 1) := dk_42 (dk_at dksX6_comesTo_4 6 rfl rfl)
theorem dX6_comesTo_102 : decode cX6_comesTo 102 = .ok (.getfield 57, 3) := dk_180 0 57 (dk_at dksX6_comesTo_4 7 rfl rfl)
theorem dX6_comesTo_105 : decode cX6_comesTo 105 = .ok (.bipush 24, 2) := dk_16 24 (dk_at dksX6_comesTo_4 10 rfl rfl)
theorem dX6_comesTo_107 : decode cX6_comesTo 107 = .ok (.iload_n 1, 1) := dk_27 (dk_at dksX6_comesTo_4 12 rfl rfl)
theorem dX6_comesTo_108 : decode cX6_comesTo 108 = .ok (.imul, 1) := dk_104 (dk_at dksX6_comesTo_4 13 rfl rfl)
theorem dX6_comesTo_109 : decode cX6_comesTo 109 = .ok (.bipush 15, 2) := dk_16 15 (dk_at dksX6_comesTo_4 14 rfl rfl)
theorem dX6_comesTo_111 : decode cX6_comesTo 111 = .ok (.iadd, 1) := dk_96 (dk_at dksX6_comesTo_4 16 rfl rfl)
theorem dX6_comesTo_112 : decode cX6_comesTo 112 = .ok (.iload_n 2, 1) := dk_28 (dk_at dksX6_comesTo_4 17 rfl rfl)
theorem dX6_comesTo_113 : decode cX6_comesTo 113 = .ok (.iadd, 1) := dk_96 (dk_at dksX6_comesTo_4 18 rfl rfl)
theorem dX6_comesTo_114 : decode cX6_comesTo 114 = .ok (.dup2, 1) := dk_92 (dk_at dksX6_comesTo_4 19 rfl rfl)
theorem dX6_comesTo_115 : decode cX6_comesTo 115 = .ok (.iaload, 1) := dk_46 (dk_at dksX6_comesTo_4 20 rfl rfl)
theorem dX6_comesTo_116 : decode cX6_comesTo 116 = .ok (.iload 5, 2) := dk_21 5 (dk_at dksX6_comesTo_4 21 rfl rfl)
theorem dX6_comesTo_118 : decode cX6_comesTo 118 = .ok (.iadd, 1) := dk_96 (dk_at dksX6_comesTo_4 23 rfl rfl)
theorem dX6_comesTo_119 : decode cX6_comesTo 119 = .ok (.iastore, 1) := dk_79 (dk_at dksX6_comesTo_5 0 rfl rfl)
theorem dX6_comesTo_120 : decode cX6_comesTo 120 = .ok (.aload_n 0, 1) := dk_42 (dk_at dksX6_comesTo_5 1 rfl rfl)
theorem dX6_comesTo_121 : decode cX6_comesTo 121 = .ok (.getfield 78, 3) := dk_180 0 78 (dk_at dksX6_comesTo_5 2 rfl rfl)
theorem dX6_comesTo_124 : decode cX6_comesTo 124 = .ok (.bipush 8, 2) := dk_16 8 (dk_at dksX6_comesTo_5 5 rfl rfl)
theorem dX6_comesTo_126 : decode cX6_comesTo 126 = .ok (.iload_n 1, 1) := dk_27 (dk_at dksX6_comesTo_5 7 rfl rfl)
theorem dX6_comesTo_127 : decode cX6_comesTo 127 = .ok (.imul, 1) := dk_104 (dk_at dksX6_comesTo_5 8 rfl rfl)
theorem dX6_comesTo_128 : decode cX6_comesTo 128 = .ok (.iload_n 2, 1) := dk_28 (dk_at dksX6_comesTo_5 9 rfl rfl)
theorem dX6_comesTo_129 : decode cX6_comesTo 129 = .ok (.iadd, 1) := dk_96 (dk_at dksX6_comesTo_5 10 rfl rfl)
theorem dX6_comesTo_130 : decode cX6_comesTo 130 = .ok (.iload 5, 2) := dk_21 5 (dk_at dksX6_comesTo_5 11 rfl rfl)
theorem dX6_comesTo_132 : decode cX6_comesTo 132 = .ok (.iastore, 1) := dk_79 (dk_at dksX6_comesTo_5 13 rfl rfl)
theorem dX6_comesTo_133 : decode cX6_comesTo 133 = .ok (.aload_n 0, 1) := dk_42 (dk_at dksX6_comesTo_5 14 rfl rfl)
theorem dX6_comesTo_134 : decode cX6_comesTo 134 = .ok (.getfield 57, 3) := dk_180 0 57 (dk_at dksX6_comesTo_5 15 rfl rfl)
theorem dX6_comesTo_137 : decode cX6_comesTo 137 = .ok (.bipush 24, 2) := dk_16 24 (dk_at dksX6_comesTo_5 18 rfl rfl)
theorem dX6_comesTo_139 : decode cX6_comesTo 139 = .ok (.iload_n 1, 1) := dk_27 (dk_at dksX6_comesTo_5 20 rfl rfl)
theorem dX6_comesTo_140 : decode cX6_comesTo 140 = .ok (.imul, 1) := dk_104 (dk_at dksX6_comesTo_5 21 rfl rfl)
theorem dX6_comesTo_141 : decode cX6_comesTo 141 = .ok (.iconst 3, 1) := dk_6 (dk_at dksX6_comesTo_5 22 rfl rfl)
theorem dX6_comesTo_142 : decode cX6_comesTo 142 = .ok (.iadd, 1) := dk_96 (dk_at dksX6_comesTo_5 23 rfl rfl)
theorem dX6_comesTo_143 : decode cX6_comesTo 143 = .ok (.dup2, 1) := dk_92 (dk_at dksX6_comesTo_6 0 rfl rfl)
theorem dX6_comesTo_144 : decode cX6_comesTo 144 = .ok (.iaload, 1) := dk_46 (dk_at dksX6_comesTo_6 1 rfl rfl)
theorem dX6_comesTo_145 : decode cX6_comesTo 145 = .ok (.iload_n 3, 1) := dk_29 (dk_at dksX6_comesTo_6 2 rfl rfl)
theorem dX6_comesTo_146 : decode cX6_comesTo 146 = .ok (.iload 5, 2) := dk_21 5 (dk_at dksX6_comesTo_6 3 rfl rfl)
theorem dX6_comesTo_148 : decode cX6_comesTo 148 = .ok (.isub, 1) := dk_100 (dk_at dksX6_comesTo_6 5 rfl rfl)
theorem dX6_comesTo_149 : decode cX6_comesTo 149 = .ok (.iadd, 1) := dk_96 (dk_at dksX6_comesTo_6 6 rfl rfl)
theorem dX6_comesTo_150 : decode cX6_comesTo 150 = .ok (.iastore, 1) := dk_79 (dk_at dksX6_comesTo_6 7 rfl rfl)
theorem dX6_comesTo_151 : decode cX6_comesTo 151 = .ok (.aload_n 0, 1) := dk_42 (dk_at dksX6_comesTo_6 8 rfl rfl)
theorem dX6_comesTo_152 : decode cX6_comesTo 152 = .ok (.getfield 57, 3) := dk_180 0 57 (dk_at dksX6_comesTo_6 9 rfl rfl)
theorem dX6_comesTo_155 : decode cX6_comesTo 155 = .ok (.iload_n 2, 1) := dk_28 (dk_at dksX6_comesTo_6 12 rfl rfl)
theorem dX6_comesTo_156 : decode cX6_comesTo 156 = .ok (.invokestatic 258, 3) := dk_184 1 2 (dk_at dksX6_comesTo_6 13 rfl rfl)
theorem dX6_comesTo_159 : decode cX6_comesTo 159 = .ok (.bipush 11, 2) := dk_16 11 (dk_at dksX6_comesTo_6 16 rfl rfl)
theorem dX6_comesTo_161 : decode cX6_comesTo 161 = .ok (.iadd, 1) := dk_96 (dk_at dksX6_comesTo_6 18 rfl rfl)
theorem dX6_comesTo_162 : decode cX6_comesTo 162 = .ok (.dup2, 1) := dk_92 (dk_at dksX6_comesTo_6 19 rfl rfl)
theorem dX6_comesTo_163 : decode cX6_comesTo 163 = .ok (.iaload, 1) := dk_46 (dk_at dksX6_comesTo_6 20 rfl rfl)
theorem dX6_comesTo_164 : decode cX6_comesTo 164 = .ok (.iload_n 3, 1) := dk_29 (dk_at dksX6_comesTo_6 21 rfl rfl)
theorem dX6_comesTo_165 : decode cX6_comesTo 165 = .ok (.iload 5, 2) := dk_21 5 (dk_at dksX6_comesTo_6 22 rfl rfl)
theorem dX6_comesTo_167 : decode cX6_comesTo 167 = .ok (.isub, 1) := dk_100 (dk_at dksX6_comesTo_7 0 rfl rfl)
theorem dX6_comesTo_168 : decode cX6_comesTo 168 = .ok (.iadd, 1) := dk_96 (dk_at dksX6_comesTo_7 1 rfl rfl)
theorem dX6_comesTo_169 : decode cX6_comesTo 169 = .ok (.iastore, 1) := dk_79 (dk_at dksX6_comesTo_7 2 rfl rfl)
theorem dX6_comesTo_170 : decode cX6_comesTo 170 = .ok (.iinc 2 1, 3) := dk_132 2 1 (dk_at dksX6_comesTo_7 3 rfl rfl)
theorem dX6_comesTo_173 : decode cX6_comesTo 173 = .ok (.goto (-171), 3) := dk_167 255 85 (dk_at dksX6_comesTo_7 6 rfl rfl)
theorem dX6_comesTo_176 : decode cX6_comesTo 176 = .ok (.aload_n 0, 1) := dk_42 (dk_at dksX6_comesTo_7 9 rfl rfl)
theorem dX6_comesTo_177 : decode cX6_comesTo 177 = .ok (.iload_n 1, 1) := dk_27 (dk_at dksX6_comesTo_7 10 rfl rfl)
theorem dX6_comesTo_178 : decode cX6_comesTo 178 = .ok (.invokevirtual 264, 3) := dk_182 1 8 (dk_at dksX6_comesTo_7 11 rfl rfl)
theorem dX6_comesTo_181 : decode cX6_comesTo 181 = .ok (.istore_n 2, 1) := dk_61 (dk_at dksX6_comesTo_7 14 rfl rfl)
theorem dX6_comesTo_182 : decode cX6_comesTo 182 = .ok (.aload_n 0, 1) := dk_42 (dk_at dksX6_comesTo_7 15 rfl rfl)
theorem dX6_comesTo_183 : decode cX6_comesTo 183 = .ok (.getfield 57, 3) := dk_180 0 57 (dk_at dksX6_comesTo_7 16 rfl rfl)
theorem dX6_comesTo_186 : decode cX6_comesTo 186 = .ok (.bipush 24, 2) := dk_16 24 (dk_at dksX6_comesTo_7 19 rfl rfl)
theorem dX6_comesTo_188 : decode cX6_comesTo 188 = .ok (.iload_n 1, 1) := dk_27 (dk_at dksX6_comesTo_7 21 rfl rfl)
theorem dX6_comesTo_189 : decode cX6_comesTo 189 = .ok (.imul, 1) := dk_104 (dk_at dksX6_comesTo_7 22 rfl rfl)
theorem dX6_comesTo_190 : decode cX6_comesTo 190 = .ok (.iconst 4, 1) := dk_7 (dk_at dksX6_comesTo_7 23 rfl rfl)
theorem dX6_comesTo_191 : decode cX6_comesTo 191 = .ok (.iadd, 1) := dk_96 (dk_at dksX6_comesTo_8 0 rfl rfl)
theorem dX6_comesTo_192 : decode cX6_comesTo 192 = .ok (.iload_n 2, 1) := dk_28 (dk_at dksX6_comesTo_8 1 rfl rfl)
theorem dX6_comesTo_193 : decode cX6_comesTo 193 = .ok (.aload_n 0, 1) := dk_42 (dk_at dksX6_comesTo_8 2 rfl rfl)
theorem dX6_comesTo_194 : decode cX6_comesTo 194 = .ok (.getfield 57, 3) := dk_180 0 57 (dk_at dksX6_comesTo_8 3 rfl rfl)
theorem dX6_comesTo_197 : decode cX6_comesTo 197 = .ok (.bipush 24, 2) := dk_16 24 (dk_at dksX6_comesTo_8 6 rfl rfl)
theorem dX6_comesTo_199 : decode cX6_comesTo 199 = .ok (.iload_n 1, 1) := dk_27 (dk_at dksX6_comesTo_8 8 rfl rfl)
theorem dX6_comesTo_200 : decode cX6_comesTo 200 = .ok (.imul, 1) := dk_104 (dk_at dksX6_comesTo_8 9 rfl rfl)
theorem dX6_comesTo_201 : decode cX6_comesTo 201 = .ok (.iconst 4, 1) := dk_7 (dk_at dksX6_comesTo_8 10 rfl rfl)
theorem dX6_comesTo_202 : decode cX6_comesTo 202 = .ok (.iadd, 1) := dk_96 (dk_at dksX6_comesTo_8 11 rfl rfl)
theorem dX6_comesTo_203 : decode cX6_comesTo 203 = .ok (.iaload, 1) := dk_46 (dk_at dksX6_comesTo_8 12 rfl rfl)
theorem dX6_comesTo_204 : decode cX6_comesTo 204 = .ok (.if_icmp .le 7, 3) := dk_164 0 7 (dk_at dksX6_comesTo_8 13 rfl rfl)
theorem dX6_comesTo_207 : decode cX6_comesTo 207 = .ok (.iload_n 2, 1) := dk_28 (dk_at dksX6_comesTo_8 16 rfl rfl)
theorem dX6_comesTo_208 : decode cX6_comesTo 208 = .ok (.goto 14, 3) := dk_167 0 14 (dk_at dksX6_comesTo_8 17 rfl rfl)
theorem dX6_comesTo_211 : decode cX6_comesTo 211 = .ok (.aload_n 0, 1) := dk_42 (dk_at dksX6_comesTo_8 20 rfl rfl)
theorem dX6_comesTo_212 : decode cX6_comesTo 212 = .ok (.getfield 57, 3) := dk_180 0 57 (dk_at dksX6_comesTo_8 21 rfl rfl)
theorem dX6_comesTo_215 : decode cX6_comesTo 215 = .ok (.bipush 24, 2) := dk_16 24 (dk_at dksX6_comesTo_9 0 rfl rfl)
theorem dX6_comesTo_217 : decode cX6_comesTo 217 = .ok (.iload_n 1, 1) := dk_27 (dk_at dksX6_comesTo_9 2 rfl rfl)
theorem dX6_comesTo_218 : decode cX6_comesTo 218 = .ok (.imul, 1) := dk_104 (dk_at dksX6_comesTo_9 3 rfl rfl)
theorem dX6_comesTo_219 : decode cX6_comesTo 219 = .ok (.iconst 4, 1) := dk_7 (dk_at dksX6_comesTo_9 4 rfl rfl)
theorem dX6_comesTo_220 : decode cX6_comesTo 220 = .ok (.iadd, 1) := dk_96 (dk_at dksX6_comesTo_9 5 rfl rfl)
theorem dX6_comesTo_221 : decode cX6_comesTo 221 = .ok (.iaload, 1) := dk_46 (dk_at dksX6_comesTo_9 6 rfl rfl)
theorem dX6_comesTo_222 : decode cX6_comesTo 222 = .ok (.iastore, 1) := dk_79 (dk_at dksX6_comesTo_9 7 rfl rfl)
theorem dX6_comesTo_223 : decode cX6_comesTo 223 = .ok (.return_, 1) := dk_177 (dk_at dksX6_comesTo_9 8 rfl rfl)
abbrev cX6_queueOf : ByteArray := prog_18_method_42_code
def yX6_queueOf : MethodName := ⟨RX6, "queueOf", "(I)I"⟩
def dkwX6_queueOf_1 : List UInt8 := [46, 96, 61, 132, 3, 1, 167, 255, 230, 28, 172]
abbrev dktX6_queueOf_1 : List UInt8 := dkwX6_queueOf_1 ++ []
def dkwX6_queueOf_0 : List UInt8 := [3, 61, 3, 62, 29, 16, 8, 162, 0, 26, 28, 42, 180, 0, 57, 16, 24, 27, 104, 16, 15, 96, 29, 96]
abbrev dktX6_queueOf_0 : List UInt8 := dkwX6_queueOf_0 ++ dktX6_queueOf_1
theorem dksX6_queueOf_0 : cX6_queueOf.data.toList.drop 0 = dktX6_queueOf_0 := by decide +kernel
theorem dksX6_queueOf_1 : cX6_queueOf.data.toList.drop 24 = dktX6_queueOf_1 := dk_seg dksX6_queueOf_0 24 rfl rfl
theorem dX6_queueOf_0 : decode cX6_queueOf 0 = .ok (.iconst 0, 1) := dk_3 (dk_at dksX6_queueOf_0 0 rfl rfl)
theorem dX6_queueOf_1 : decode cX6_queueOf 1 = .ok (.istore_n 2, 1) := dk_61 (dk_at dksX6_queueOf_0 1 rfl rfl)
theorem dX6_queueOf_2 : decode cX6_queueOf 2 = .ok (.iconst 0, 1) := dk_3 (dk_at dksX6_queueOf_0 2 rfl rfl)
theorem dX6_queueOf_3 : decode cX6_queueOf 3 = .ok (.istore_n 3, 1) := dk_62 (dk_at dksX6_queueOf_0 3 rfl rfl)
theorem dX6_queueOf_4 : decode cX6_queueOf 4 = .ok (.iload_n 3, 1) := dk_29 (dk_at dksX6_queueOf_0 4 rfl rfl)
theorem dX6_queueOf_5 : decode cX6_queueOf 5 = .ok (.bipush 8, 2) := dk_16 8 (dk_at dksX6_queueOf_0 5 rfl rfl)
theorem dX6_queueOf_7 : decode cX6_queueOf 7 = .ok (.if_icmp .ge 26, 3) := dk_162 0 26 (dk_at dksX6_queueOf_0 7 rfl rfl)
theorem dX6_queueOf_10 : decode cX6_queueOf 10 = .ok (.iload_n 2, 1) := dk_28 (dk_at dksX6_queueOf_0 10 rfl rfl)
theorem dX6_queueOf_11 : decode cX6_queueOf 11 = .ok (.aload_n 0, 1) := dk_42 (dk_at dksX6_queueOf_0 11 rfl rfl)
theorem dX6_queueOf_12 : decode cX6_queueOf 12 = .ok (.getfield 57, 3) := dk_180 0 57 (dk_at dksX6_queueOf_0 12 rfl rfl)
theorem dX6_queueOf_15 : decode cX6_queueOf 15 = .ok (.bipush 24, 2) := dk_16 24 (dk_at dksX6_queueOf_0 15 rfl rfl)
theorem dX6_queueOf_17 : decode cX6_queueOf 17 = .ok (.iload_n 1, 1) := dk_27 (dk_at dksX6_queueOf_0 17 rfl rfl)
theorem dX6_queueOf_18 : decode cX6_queueOf 18 = .ok (.imul, 1) := dk_104 (dk_at dksX6_queueOf_0 18 rfl rfl)
theorem dX6_queueOf_19 : decode cX6_queueOf 19 = .ok (.bipush 15, 2) := dk_16 15 (dk_at dksX6_queueOf_0 19 rfl rfl)
theorem dX6_queueOf_21 : decode cX6_queueOf 21 = .ok (.iadd, 1) := dk_96 (dk_at dksX6_queueOf_0 21 rfl rfl)
theorem dX6_queueOf_22 : decode cX6_queueOf 22 = .ok (.iload_n 3, 1) := dk_29 (dk_at dksX6_queueOf_0 22 rfl rfl)
theorem dX6_queueOf_23 : decode cX6_queueOf 23 = .ok (.iadd, 1) := dk_96 (dk_at dksX6_queueOf_0 23 rfl rfl)
theorem dX6_queueOf_24 : decode cX6_queueOf 24 = .ok (.iaload, 1) := dk_46 (dk_at dksX6_queueOf_1 0 rfl rfl)
theorem dX6_queueOf_25 : decode cX6_queueOf 25 = .ok (.iadd, 1) := dk_96 (dk_at dksX6_queueOf_1 1 rfl rfl)
theorem dX6_queueOf_26 : decode cX6_queueOf 26 = .ok (.istore_n 2, 1) := dk_61 (dk_at dksX6_queueOf_1 2 rfl rfl)
theorem dX6_queueOf_27 : decode cX6_queueOf 27 = .ok (.iinc 3 1, 3) := dk_132 3 1 (dk_at dksX6_queueOf_1 3 rfl rfl)
theorem dX6_queueOf_30 : decode cX6_queueOf 30 = .ok (.goto (-26), 3) := dk_167 255 230 (dk_at dksX6_queueOf_1 6 rfl rfl)
theorem dX6_queueOf_33 : decode cX6_queueOf 33 = .ok (.iload_n 2, 1) := dk_28 (dk_at dksX6_queueOf_1 9 rfl rfl)
theorem dX6_queueOf_34 : decode cX6_queueOf 34 = .ok (.ireturn, 1) := dk_172 (dk_at dksX6_queueOf_1 10 rfl rfl)
abbrev cX6_asks : ByteArray := prog_18_method_51_code
def yX6_asks : MethodName := ⟨RX6, "asks", "(I)V"⟩
def dkwX6_asks_4 : List UInt8 := [42, 180, 0, 57, 16, 24, 27, 104, 4, 96, 46, 163, 0, 7, 3, 167, 0, 4, 29, 79, 177]
abbrev dktX6_asks_4 : List UInt8 := dkwX6_asks_4 ++ []
def dkwX6_asks_3 : List UInt8 := [104, 16, 10, 96, 28, 42, 180, 0, 57, 16, 24, 27, 104, 3, 96, 46, 161, 0, 7, 4, 167, 0, 23, 28]
abbrev dktX6_asks_3 : List UInt8 := dkwX6_asks_3 ++ dktX6_asks_4
def dkwX6_asks_2 : List UInt8 := [104, 16, 10, 96, 21, 4, 96, 4, 100, 46, 79, 132, 4, 255, 167, 255, 216, 42, 180, 0, 57, 16, 24, 27]
abbrev dktX6_asks_2 : List UInt8 := dkwX6_asks_2 ++ dktX6_asks_3
def dkwX6_asks_1 : List UInt8 := [158, 0, 41, 42, 180, 0, 57, 16, 24, 27, 104, 16, 10, 96, 21, 4, 96, 42, 180, 0, 57, 16, 24, 27]
abbrev dktX6_asks_1 : List UInt8 := dkwX6_asks_1 ++ dktX6_asks_2
def dkwX6_asks_0 : List UInt8 := [42, 27, 182, 1, 8, 61, 42, 180, 0, 57, 16, 24, 27, 104, 16, 10, 96, 46, 62, 7, 54, 4, 21, 4]
abbrev dktX6_asks_0 : List UInt8 := dkwX6_asks_0 ++ dktX6_asks_1
theorem dksX6_asks_0 : cX6_asks.data.toList.drop 0 = dktX6_asks_0 := by decide +kernel
theorem dksX6_asks_1 : cX6_asks.data.toList.drop 24 = dktX6_asks_1 := dk_seg dksX6_asks_0 24 rfl rfl
theorem dksX6_asks_2 : cX6_asks.data.toList.drop 48 = dktX6_asks_2 := dk_seg dksX6_asks_1 24 rfl rfl
theorem dksX6_asks_3 : cX6_asks.data.toList.drop 72 = dktX6_asks_3 := dk_seg dksX6_asks_2 24 rfl rfl
theorem dksX6_asks_4 : cX6_asks.data.toList.drop 96 = dktX6_asks_4 := dk_seg dksX6_asks_3 24 rfl rfl
theorem dX6_asks_0 : decode cX6_asks 0 = .ok (.aload_n 0, 1) := dk_42 (dk_at dksX6_asks_0 0 rfl rfl)
theorem dX6_asks_1 : decode cX6_asks 1 = .ok (.iload_n 1, 1) := dk_27 (dk_at dksX6_asks_0 1 rfl rfl)
theorem dX6_asks_2 : decode cX6_asks 2 = .ok (.invokevirtual 264, 3) := dk_182 1 8 (dk_at dksX6_asks_0 2 rfl rfl)
theorem dX6_asks_5 : decode cX6_asks 5 = .ok (.istore_n 2, 1) := dk_61 (dk_at dksX6_asks_0 5 rfl rfl)
theorem dX6_asks_6 : decode cX6_asks 6 = .ok (.aload_n 0, 1) := dk_42 (dk_at dksX6_asks_0 6 rfl rfl)
theorem dX6_asks_7 : decode cX6_asks 7 = .ok (.getfield 57, 3) := dk_180 0 57 (dk_at dksX6_asks_0 7 rfl rfl)
theorem dX6_asks_10 : decode cX6_asks 10 = .ok (.bipush 24, 2) := dk_16 24 (dk_at dksX6_asks_0 10 rfl rfl)
theorem dX6_asks_12 : decode cX6_asks 12 = .ok (.iload_n 1, 1) := dk_27 (dk_at dksX6_asks_0 12 rfl rfl)
theorem dX6_asks_13 : decode cX6_asks 13 = .ok (.imul, 1) := dk_104 (dk_at dksX6_asks_0 13 rfl rfl)
theorem dX6_asks_14 : decode cX6_asks 14 = .ok (.bipush 10, 2) := dk_16 10 (dk_at dksX6_asks_0 14 rfl rfl)
theorem dX6_asks_16 : decode cX6_asks 16 = .ok (.iadd, 1) := dk_96 (dk_at dksX6_asks_0 16 rfl rfl)
theorem dX6_asks_17 : decode cX6_asks 17 = .ok (.iaload, 1) := dk_46 (dk_at dksX6_asks_0 17 rfl rfl)
theorem dX6_asks_18 : decode cX6_asks 18 = .ok (.istore_n 3, 1) := dk_62 (dk_at dksX6_asks_0 18 rfl rfl)
theorem dX6_asks_19 : decode cX6_asks 19 = .ok (.iconst 4, 1) := dk_7 (dk_at dksX6_asks_0 19 rfl rfl)
theorem dX6_asks_20 : decode cX6_asks 20 = .ok (.istore 4, 2) := dk_54 4 (dk_at dksX6_asks_0 20 rfl rfl)
theorem dX6_asks_22 : decode cX6_asks 22 = .ok (.iload 4, 2) := dk_21 4 (dk_at dksX6_asks_0 22 rfl rfl)
theorem dX6_asks_24 : decode cX6_asks 24 = .ok (.ifCond .le 41, 3) := dk_158 0 41 (dk_at dksX6_asks_1 0 rfl rfl)
theorem dX6_asks_27 : decode cX6_asks 27 = .ok (.aload_n 0, 1) := dk_42 (dk_at dksX6_asks_1 3 rfl rfl)
theorem dX6_asks_28 : decode cX6_asks 28 = .ok (.getfield 57, 3) := dk_180 0 57 (dk_at dksX6_asks_1 4 rfl rfl)
theorem dX6_asks_31 : decode cX6_asks 31 = .ok (.bipush 24, 2) := dk_16 24 (dk_at dksX6_asks_1 7 rfl rfl)
theorem dX6_asks_33 : decode cX6_asks 33 = .ok (.iload_n 1, 1) := dk_27 (dk_at dksX6_asks_1 9 rfl rfl)
theorem dX6_asks_34 : decode cX6_asks 34 = .ok (.imul, 1) := dk_104 (dk_at dksX6_asks_1 10 rfl rfl)
theorem dX6_asks_35 : decode cX6_asks 35 = .ok (.bipush 10, 2) := dk_16 10 (dk_at dksX6_asks_1 11 rfl rfl)
theorem dX6_asks_37 : decode cX6_asks 37 = .ok (.iadd, 1) := dk_96 (dk_at dksX6_asks_1 13 rfl rfl)
theorem dX6_asks_38 : decode cX6_asks 38 = .ok (.iload 4, 2) := dk_21 4 (dk_at dksX6_asks_1 14 rfl rfl)
theorem dX6_asks_40 : decode cX6_asks 40 = .ok (.iadd, 1) := dk_96 (dk_at dksX6_asks_1 16 rfl rfl)
theorem dX6_asks_41 : decode cX6_asks 41 = .ok (.aload_n 0, 1) := dk_42 (dk_at dksX6_asks_1 17 rfl rfl)
theorem dX6_asks_42 : decode cX6_asks 42 = .ok (.getfield 57, 3) := dk_180 0 57 (dk_at dksX6_asks_1 18 rfl rfl)
theorem dX6_asks_45 : decode cX6_asks 45 = .ok (.bipush 24, 2) := dk_16 24 (dk_at dksX6_asks_1 21 rfl rfl)
theorem dX6_asks_47 : decode cX6_asks 47 = .ok (.iload_n 1, 1) := dk_27 (dk_at dksX6_asks_1 23 rfl rfl)
theorem dX6_asks_48 : decode cX6_asks 48 = .ok (.imul, 1) := dk_104 (dk_at dksX6_asks_2 0 rfl rfl)
theorem dX6_asks_49 : decode cX6_asks 49 = .ok (.bipush 10, 2) := dk_16 10 (dk_at dksX6_asks_2 1 rfl rfl)
theorem dX6_asks_51 : decode cX6_asks 51 = .ok (.iadd, 1) := dk_96 (dk_at dksX6_asks_2 3 rfl rfl)
theorem dX6_asks_52 : decode cX6_asks 52 = .ok (.iload 4, 2) := dk_21 4 (dk_at dksX6_asks_2 4 rfl rfl)
theorem dX6_asks_54 : decode cX6_asks 54 = .ok (.iadd, 1) := dk_96 (dk_at dksX6_asks_2 6 rfl rfl)
theorem dX6_asks_55 : decode cX6_asks 55 = .ok (.iconst 1, 1) := dk_4 (dk_at dksX6_asks_2 7 rfl rfl)
theorem dX6_asks_56 : decode cX6_asks 56 = .ok (.isub, 1) := dk_100 (dk_at dksX6_asks_2 8 rfl rfl)
theorem dX6_asks_57 : decode cX6_asks 57 = .ok (.iaload, 1) := dk_46 (dk_at dksX6_asks_2 9 rfl rfl)
theorem dX6_asks_58 : decode cX6_asks 58 = .ok (.iastore, 1) := dk_79 (dk_at dksX6_asks_2 10 rfl rfl)
theorem dX6_asks_59 : decode cX6_asks 59 = .ok (.iinc 4 (-1), 3) := dk_132 4 255 (dk_at dksX6_asks_2 11 rfl rfl)
theorem dX6_asks_62 : decode cX6_asks 62 = .ok (.goto (-40), 3) := dk_167 255 216 (dk_at dksX6_asks_2 14 rfl rfl)
theorem dX6_asks_65 : decode cX6_asks 65 = .ok (.aload_n 0, 1) := dk_42 (dk_at dksX6_asks_2 17 rfl rfl)
theorem dX6_asks_66 : decode cX6_asks 66 = .ok (.getfield 57, 3) := dk_180 0 57 (dk_at dksX6_asks_2 18 rfl rfl)
theorem dX6_asks_69 : decode cX6_asks 69 = .ok (.bipush 24, 2) := dk_16 24 (dk_at dksX6_asks_2 21 rfl rfl)
theorem dX6_asks_71 : decode cX6_asks 71 = .ok (.iload_n 1, 1) := dk_27 (dk_at dksX6_asks_2 23 rfl rfl)
theorem dX6_asks_72 : decode cX6_asks 72 = .ok (.imul, 1) := dk_104 (dk_at dksX6_asks_3 0 rfl rfl)
theorem dX6_asks_73 : decode cX6_asks 73 = .ok (.bipush 10, 2) := dk_16 10 (dk_at dksX6_asks_3 1 rfl rfl)
theorem dX6_asks_75 : decode cX6_asks 75 = .ok (.iadd, 1) := dk_96 (dk_at dksX6_asks_3 3 rfl rfl)
theorem dX6_asks_76 : decode cX6_asks 76 = .ok (.iload_n 2, 1) := dk_28 (dk_at dksX6_asks_3 4 rfl rfl)
theorem dX6_asks_77 : decode cX6_asks 77 = .ok (.aload_n 0, 1) := dk_42 (dk_at dksX6_asks_3 5 rfl rfl)
theorem dX6_asks_78 : decode cX6_asks 78 = .ok (.getfield 57, 3) := dk_180 0 57 (dk_at dksX6_asks_3 6 rfl rfl)
theorem dX6_asks_81 : decode cX6_asks 81 = .ok (.bipush 24, 2) := dk_16 24 (dk_at dksX6_asks_3 9 rfl rfl)
theorem dX6_asks_83 : decode cX6_asks 83 = .ok (.iload_n 1, 1) := dk_27 (dk_at dksX6_asks_3 11 rfl rfl)
theorem dX6_asks_84 : decode cX6_asks 84 = .ok (.imul, 1) := dk_104 (dk_at dksX6_asks_3 12 rfl rfl)
theorem dX6_asks_85 : decode cX6_asks 85 = .ok (.iconst 0, 1) := dk_3 (dk_at dksX6_asks_3 13 rfl rfl)
theorem dX6_asks_86 : decode cX6_asks 86 = .ok (.iadd, 1) := dk_96 (dk_at dksX6_asks_3 14 rfl rfl)
theorem dX6_asks_87 : decode cX6_asks 87 = .ok (.iaload, 1) := dk_46 (dk_at dksX6_asks_3 15 rfl rfl)
theorem dX6_asks_88 : decode cX6_asks 88 = .ok (.if_icmp .lt 7, 3) := dk_161 0 7 (dk_at dksX6_asks_3 16 rfl rfl)
theorem dX6_asks_91 : decode cX6_asks 91 = .ok (.iconst 1, 1) := dk_4 (dk_at dksX6_asks_3 19 rfl rfl)
theorem dX6_asks_92 : decode cX6_asks 92 = .ok (.goto 23, 3) := dk_167 0 23 (dk_at dksX6_asks_3 20 rfl rfl)
theorem dX6_asks_95 : decode cX6_asks 95 = .ok (.iload_n 2, 1) := dk_28 (dk_at dksX6_asks_3 23 rfl rfl)
theorem dX6_asks_96 : decode cX6_asks 96 = .ok (.aload_n 0, 1) := dk_42 (dk_at dksX6_asks_4 0 rfl rfl)
theorem dX6_asks_97 : decode cX6_asks 97 = .ok (.getfield 57, 3) := dk_180 0 57 (dk_at dksX6_asks_4 1 rfl rfl)
theorem dX6_asks_100 : decode cX6_asks 100 = .ok (.bipush 24, 2) := dk_16 24 (dk_at dksX6_asks_4 4 rfl rfl)
theorem dX6_asks_102 : decode cX6_asks 102 = .ok (.iload_n 1, 1) := dk_27 (dk_at dksX6_asks_4 6 rfl rfl)
theorem dX6_asks_103 : decode cX6_asks 103 = .ok (.imul, 1) := dk_104 (dk_at dksX6_asks_4 7 rfl rfl)
theorem dX6_asks_104 : decode cX6_asks 104 = .ok (.iconst 1, 1) := dk_4 (dk_at dksX6_asks_4 8 rfl rfl)
theorem dX6_asks_105 : decode cX6_asks 105 = .ok (.iadd, 1) := dk_96 (dk_at dksX6_asks_4 9 rfl rfl)
theorem dX6_asks_106 : decode cX6_asks 106 = .ok (.iaload, 1) := dk_46 (dk_at dksX6_asks_4 10 rfl rfl)
theorem dX6_asks_107 : decode cX6_asks 107 = .ok (.if_icmp .gt 7, 3) := dk_163 0 7 (dk_at dksX6_asks_4 11 rfl rfl)
theorem dX6_asks_110 : decode cX6_asks 110 = .ok (.iconst 0, 1) := dk_3 (dk_at dksX6_asks_4 14 rfl rfl)
theorem dX6_asks_111 : decode cX6_asks 111 = .ok (.goto 4, 3) := dk_167 0 4 (dk_at dksX6_asks_4 15 rfl rfl)
theorem dX6_asks_114 : decode cX6_asks 114 = .ok (.iload_n 3, 1) := dk_29 (dk_at dksX6_asks_4 18 rfl rfl)
theorem dX6_asks_115 : decode cX6_asks 115 = .ok (.iastore, 1) := dk_79 (dk_at dksX6_asks_4 19 rfl rfl)
theorem dX6_asks_116 : decode cX6_asks 116 = .ok (.return_, 1) := dk_177 (dk_at dksX6_asks_4 20 rfl rfl)
abbrev cX6_samples : ByteArray := prog_18_method_54_code
def yX6_samples : MethodName := ⟨RX6, "samples", "(I)V"⟩
def dkwX6_samples_7 : List UInt8 := [180, 0, 84, 42, 180, 1, 21, 21, 4, 79, 42, 89, 180, 1, 21, 4, 96, 181, 1, 21, 177]
abbrev dktX6_samples_7 : List UInt8 := dkwX6_samples_7 ++ []
def dkwX6_samples_6 : List UInt8 := [180, 0, 57, 28, 16, 6, 96, 92, 46, 4, 96, 79, 42, 180, 0, 81, 42, 180, 1, 21, 29, 79, 42]
abbrev dktX6_samples_6 : List UInt8 := dkwX6_samples_6 ++ dktX6_samples_7
def dkwX6_samples_5 : List UInt8 := [96, 79, 42, 180, 0, 57, 28, 16, 9, 96, 42, 27, 182, 1, 8, 79, 21, 4, 154, 0, 4, 177, 42]
abbrev dktX6_samples_5 : List UInt8 := dkwX6_samples_5 ++ dktX6_samples_6
def dkwX6_samples_4 : List UInt8 := [46, 112, 79, 42, 42, 27, 182, 1, 15, 182, 1, 18, 54, 4, 42, 180, 0, 57, 28, 8, 96, 92, 46, 4]
abbrev dktX6_samples_4 : List UInt8 := dkwX6_samples_4 ++ dktX6_samples_5
def dkwX6_samples_3 : List UInt8 := [167, 255, 194, 29, 2, 160, 0, 4, 177, 42, 180, 0, 57, 28, 16, 8, 96, 92, 46, 42, 180, 0, 13, 5]
abbrev dktX6_samples_3 : List UInt8 := dkwX6_samples_3 ++ dktX6_samples_4
def dkwX6_samples_2 : List UInt8 := [42, 180, 0, 57, 28, 16, 8, 96, 46, 42, 180, 0, 13, 5, 46, 161, 0, 6, 21, 4, 62, 132, 4, 1]
abbrev dktX6_samples_2 : List UInt8 := dkwX6_samples_2 ++ dktX6_samples_3
def dkwX6_samples_1 : List UInt8 := [16, 8, 96, 92, 46, 42, 180, 0, 78, 16, 8, 27, 104, 21, 4, 96, 46, 96, 79, 29, 2, 160, 0, 24]
abbrev dktX6_samples_1 : List UInt8 := dkwX6_samples_1 ++ dktX6_samples_2
def dkwX6_samples_0 : List UInt8 := [16, 24, 27, 104, 61, 2, 62, 3, 54, 4, 21, 4, 42, 182, 0, 251, 162, 0, 59, 42, 180, 0, 57, 28]
abbrev dktX6_samples_0 : List UInt8 := dkwX6_samples_0 ++ dktX6_samples_1
theorem dksX6_samples_0 : cX6_samples.data.toList.drop 0 = dktX6_samples_0 := by decide +kernel
theorem dksX6_samples_1 : cX6_samples.data.toList.drop 24 = dktX6_samples_1 := dk_seg dksX6_samples_0 24 rfl rfl
theorem dksX6_samples_2 : cX6_samples.data.toList.drop 48 = dktX6_samples_2 := dk_seg dksX6_samples_1 24 rfl rfl
theorem dksX6_samples_3 : cX6_samples.data.toList.drop 72 = dktX6_samples_3 := dk_seg dksX6_samples_2 24 rfl rfl
theorem dksX6_samples_4 : cX6_samples.data.toList.drop 96 = dktX6_samples_4 := dk_seg dksX6_samples_3 24 rfl rfl
theorem dksX6_samples_5 : cX6_samples.data.toList.drop 120 = dktX6_samples_5 := dk_seg dksX6_samples_4 24 rfl rfl
theorem dksX6_samples_6 : cX6_samples.data.toList.drop 143 = dktX6_samples_6 := dk_seg dksX6_samples_5 23 rfl rfl
theorem dksX6_samples_7 : cX6_samples.data.toList.drop 166 = dktX6_samples_7 := dk_seg dksX6_samples_6 23 rfl rfl
theorem dX6_samples_0 : decode cX6_samples 0 = .ok (.bipush 24, 2) := dk_16 24 (dk_at dksX6_samples_0 0 rfl rfl)
theorem dX6_samples_2 : decode cX6_samples 2 = .ok (.iload_n 1, 1) := dk_27 (dk_at dksX6_samples_0 2 rfl rfl)
theorem dX6_samples_3 : decode cX6_samples 3 = .ok (.imul, 1) := dk_104 (dk_at dksX6_samples_0 3 rfl rfl)
theorem dX6_samples_4 : decode cX6_samples 4 = .ok (.istore_n 2, 1) := dk_61 (dk_at dksX6_samples_0 4 rfl rfl)
theorem dX6_samples_5 : decode cX6_samples 5 = .ok (.iconst (-1), 1) := dk_2 (dk_at dksX6_samples_0 5 rfl rfl)
theorem dX6_samples_6 : decode cX6_samples 6 = .ok (.istore_n 3, 1) := dk_62 (dk_at dksX6_samples_0 6 rfl rfl)
theorem dX6_samples_7 : decode cX6_samples 7 = .ok (.iconst 0, 1) := dk_3 (dk_at dksX6_samples_0 7 rfl rfl)
theorem dX6_samples_8 : decode cX6_samples 8 = .ok (.istore 4, 2) := dk_54 4 (dk_at dksX6_samples_0 8 rfl rfl)
theorem dX6_samples_10 : decode cX6_samples 10 = .ok (.iload 4, 2) := dk_21 4 (dk_at dksX6_samples_0 10 rfl rfl)
theorem dX6_samples_12 : decode cX6_samples 12 = .ok (.aload_n 0, 1) := dk_42 (dk_at dksX6_samples_0 12 rfl rfl)
theorem dX6_samples_13 : decode cX6_samples 13 = .ok (.invokevirtual 251, 3) := dk_182 0 251 (dk_at dksX6_samples_0 13 rfl rfl)
theorem dX6_samples_16 : decode cX6_samples 16 = .ok (.if_icmp .ge 59, 3) := dk_162 0 59 (dk_at dksX6_samples_0 16 rfl rfl)
theorem dX6_samples_19 : decode cX6_samples 19 = .ok (.aload_n 0, 1) := dk_42 (dk_at dksX6_samples_0 19 rfl rfl)
theorem dX6_samples_20 : decode cX6_samples 20 = .ok (.getfield 57, 3) := dk_180 0 57 (dk_at dksX6_samples_0 20 rfl rfl)
theorem dX6_samples_23 : decode cX6_samples 23 = .ok (.iload_n 2, 1) := dk_28 (dk_at dksX6_samples_0 23 rfl rfl)
theorem dX6_samples_24 : decode cX6_samples 24 = .ok (.bipush 8, 2) := dk_16 8 (dk_at dksX6_samples_1 0 rfl rfl)
theorem dX6_samples_26 : decode cX6_samples 26 = .ok (.iadd, 1) := dk_96 (dk_at dksX6_samples_1 2 rfl rfl)
theorem dX6_samples_27 : decode cX6_samples 27 = .ok (.dup2, 1) := dk_92 (dk_at dksX6_samples_1 3 rfl rfl)
theorem dX6_samples_28 : decode cX6_samples 28 = .ok (.iaload, 1) := dk_46 (dk_at dksX6_samples_1 4 rfl rfl)
theorem dX6_samples_29 : decode cX6_samples 29 = .ok (.aload_n 0, 1) := dk_42 (dk_at dksX6_samples_1 5 rfl rfl)
theorem dX6_samples_30 : decode cX6_samples 30 = .ok (.getfield 78, 3) := dk_180 0 78 (dk_at dksX6_samples_1 6 rfl rfl)
theorem dX6_samples_33 : decode cX6_samples 33 = .ok (.bipush 8, 2) := dk_16 8 (dk_at dksX6_samples_1 9 rfl rfl)
theorem dX6_samples_35 : decode cX6_samples 35 = .ok (.iload_n 1, 1) := dk_27 (dk_at dksX6_samples_1 11 rfl rfl)
theorem dX6_samples_36 : decode cX6_samples 36 = .ok (.imul, 1) := dk_104 (dk_at dksX6_samples_1 12 rfl rfl)
theorem dX6_samples_37 : decode cX6_samples 37 = .ok (.iload 4, 2) := dk_21 4 (dk_at dksX6_samples_1 13 rfl rfl)
theorem dX6_samples_39 : decode cX6_samples 39 = .ok (.iadd, 1) := dk_96 (dk_at dksX6_samples_1 15 rfl rfl)
theorem dX6_samples_40 : decode cX6_samples 40 = .ok (.iaload, 1) := dk_46 (dk_at dksX6_samples_1 16 rfl rfl)
theorem dX6_samples_41 : decode cX6_samples 41 = .ok (.iadd, 1) := dk_96 (dk_at dksX6_samples_1 17 rfl rfl)
theorem dX6_samples_42 : decode cX6_samples 42 = .ok (.iastore, 1) := dk_79 (dk_at dksX6_samples_1 18 rfl rfl)
theorem dX6_samples_43 : decode cX6_samples 43 = .ok (.iload_n 3, 1) := dk_29 (dk_at dksX6_samples_1 19 rfl rfl)
theorem dX6_samples_44 : decode cX6_samples 44 = .ok (.iconst (-1), 1) := dk_2 (dk_at dksX6_samples_1 20 rfl rfl)
theorem dX6_samples_45 : decode cX6_samples 45 = .ok (.if_icmp .ne 24, 3) := dk_160 0 24 (dk_at dksX6_samples_1 21 rfl rfl)
theorem dX6_samples_48 : decode cX6_samples 48 = .ok (.aload_n 0, 1) := dk_42 (dk_at dksX6_samples_2 0 rfl rfl)
theorem dX6_samples_49 : decode cX6_samples 49 = .ok (.getfield 57, 3) := dk_180 0 57 (dk_at dksX6_samples_2 1 rfl rfl)
theorem dX6_samples_52 : decode cX6_samples 52 = .ok (.iload_n 2, 1) := dk_28 (dk_at dksX6_samples_2 4 rfl rfl)
theorem dX6_samples_53 : decode cX6_samples 53 = .ok (.bipush 8, 2) := dk_16 8 (dk_at dksX6_samples_2 5 rfl rfl)
theorem dX6_samples_55 : decode cX6_samples 55 = .ok (.iadd, 1) := dk_96 (dk_at dksX6_samples_2 7 rfl rfl)
theorem dX6_samples_56 : decode cX6_samples 56 = .ok (.iaload, 1) := dk_46 (dk_at dksX6_samples_2 8 rfl rfl)
theorem dX6_samples_57 : decode cX6_samples 57 = .ok (.aload_n 0, 1) := dk_42 (dk_at dksX6_samples_2 9 rfl rfl)
theorem dX6_samples_58 : decode cX6_samples 58 = .ok (.getfield 13, 3) := dk_180 0 13 (dk_at dksX6_samples_2 10 rfl rfl)
theorem dX6_samples_61 : decode cX6_samples 61 = .ok (.iconst 2, 1) := dk_5 (dk_at dksX6_samples_2 13 rfl rfl)
theorem dX6_samples_62 : decode cX6_samples 62 = .ok (.iaload, 1) := dk_46 (dk_at dksX6_samples_2 14 rfl rfl)
theorem dX6_samples_63 : decode cX6_samples 63 = .ok (.if_icmp .lt 6, 3) := dk_161 0 6 (dk_at dksX6_samples_2 15 rfl rfl)
theorem dX6_samples_66 : decode cX6_samples 66 = .ok (.iload 4, 2) := dk_21 4 (dk_at dksX6_samples_2 18 rfl rfl)
theorem dX6_samples_68 : decode cX6_samples 68 = .ok (.istore_n 3, 1) := dk_62 (dk_at dksX6_samples_2 20 rfl rfl)
theorem dX6_samples_69 : decode cX6_samples 69 = .ok (.iinc 4 1, 3) := dk_132 4 1 (dk_at dksX6_samples_2 21 rfl rfl)
theorem dX6_samples_72 : decode cX6_samples 72 = .ok (.goto (-62), 3) := dk_167 255 194 (dk_at dksX6_samples_3 0 rfl rfl)
theorem dX6_samples_75 : decode cX6_samples 75 = .ok (.iload_n 3, 1) := dk_29 (dk_at dksX6_samples_3 3 rfl rfl)
theorem dX6_samples_76 : decode cX6_samples 76 = .ok (.iconst (-1), 1) := dk_2 (dk_at dksX6_samples_3 4 rfl rfl)
theorem dX6_samples_77 : decode cX6_samples 77 = .ok (.if_icmp .ne 4, 3) := dk_160 0 4 (dk_at dksX6_samples_3 5 rfl rfl)
theorem dX6_samples_80 : decode cX6_samples 80 = .ok (.return_, 1) := dk_177 (dk_at dksX6_samples_3 8 rfl rfl)
theorem dX6_samples_81 : decode cX6_samples 81 = .ok (.aload_n 0, 1) := dk_42 (dk_at dksX6_samples_3 9 rfl rfl)
theorem dX6_samples_82 : decode cX6_samples 82 = .ok (.getfield 57, 3) := dk_180 0 57 (dk_at dksX6_samples_3 10 rfl rfl)
theorem dX6_samples_85 : decode cX6_samples 85 = .ok (.iload_n 2, 1) := dk_28 (dk_at dksX6_samples_3 13 rfl rfl)
theorem dX6_samples_86 : decode cX6_samples 86 = .ok (.bipush 8, 2) := dk_16 8 (dk_at dksX6_samples_3 14 rfl rfl)
theorem dX6_samples_88 : decode cX6_samples 88 = .ok (.iadd, 1) := dk_96 (dk_at dksX6_samples_3 16 rfl rfl)
theorem dX6_samples_89 : decode cX6_samples 89 = .ok (.dup2, 1) := dk_92 (dk_at dksX6_samples_3 17 rfl rfl)
theorem dX6_samples_90 : decode cX6_samples 90 = .ok (.iaload, 1) := dk_46 (dk_at dksX6_samples_3 18 rfl rfl)
theorem dX6_samples_91 : decode cX6_samples 91 = .ok (.aload_n 0, 1) := dk_42 (dk_at dksX6_samples_3 19 rfl rfl)
theorem dX6_samples_92 : decode cX6_samples 92 = .ok (.getfield 13, 3) := dk_180 0 13 (dk_at dksX6_samples_3 20 rfl rfl)
theorem dX6_samples_95 : decode cX6_samples 95 = .ok (.iconst 2, 1) := dk_5 (dk_at dksX6_samples_3 23 rfl rfl)
theorem dX6_samples_96 : decode cX6_samples 96 = .ok (.iaload, 1) := dk_46 (dk_at dksX6_samples_4 0 rfl rfl)
theorem dX6_samples_97 : decode cX6_samples 97 = .ok (.irem, 1) := dk_112 (dk_at dksX6_samples_4 1 rfl rfl)
theorem dX6_samples_98 : decode cX6_samples 98 = .ok (.iastore, 1) := dk_79 (dk_at dksX6_samples_4 2 rfl rfl)
theorem dX6_samples_99 : decode cX6_samples 99 = .ok (.aload_n 0, 1) := dk_42 (dk_at dksX6_samples_4 3 rfl rfl)
theorem dX6_samples_100 : decode cX6_samples 100 = .ok (.aload_n 0, 1) := dk_42 (dk_at dksX6_samples_4 4 rfl rfl)
theorem dX6_samples_101 : decode cX6_samples 101 = .ok (.iload_n 1, 1) := dk_27 (dk_at dksX6_samples_4 5 rfl rfl)
theorem dX6_samples_102 : decode cX6_samples 102 = .ok (.invokevirtual 271, 3) := dk_182 1 15 (dk_at dksX6_samples_4 6 rfl rfl)
theorem dX6_samples_105 : decode cX6_samples 105 = .ok (.invokevirtual 274, 3) := dk_182 1 18 (dk_at dksX6_samples_4 9 rfl rfl)
theorem dX6_samples_108 : decode cX6_samples 108 = .ok (.istore 4, 2) := dk_54 4 (dk_at dksX6_samples_4 12 rfl rfl)
theorem dX6_samples_110 : decode cX6_samples 110 = .ok (.aload_n 0, 1) := dk_42 (dk_at dksX6_samples_4 14 rfl rfl)
theorem dX6_samples_111 : decode cX6_samples 111 = .ok (.getfield 57, 3) := dk_180 0 57 (dk_at dksX6_samples_4 15 rfl rfl)
theorem dX6_samples_114 : decode cX6_samples 114 = .ok (.iload_n 2, 1) := dk_28 (dk_at dksX6_samples_4 18 rfl rfl)
theorem dX6_samples_115 : decode cX6_samples 115 = .ok (.iconst 5, 1) := dk_8 (dk_at dksX6_samples_4 19 rfl rfl)
theorem dX6_samples_116 : decode cX6_samples 116 = .ok (.iadd, 1) := dk_96 (dk_at dksX6_samples_4 20 rfl rfl)
theorem dX6_samples_117 : decode cX6_samples 117 = .ok (.dup2, 1) := dk_92 (dk_at dksX6_samples_4 21 rfl rfl)
theorem dX6_samples_118 : decode cX6_samples 118 = .ok (.iaload, 1) := dk_46 (dk_at dksX6_samples_4 22 rfl rfl)
theorem dX6_samples_119 : decode cX6_samples 119 = .ok (.iconst 1, 1) := dk_4 (dk_at dksX6_samples_4 23 rfl rfl)
theorem dX6_samples_120 : decode cX6_samples 120 = .ok (.iadd, 1) := dk_96 (dk_at dksX6_samples_5 0 rfl rfl)
theorem dX6_samples_121 : decode cX6_samples 121 = .ok (.iastore, 1) := dk_79 (dk_at dksX6_samples_5 1 rfl rfl)
theorem dX6_samples_122 : decode cX6_samples 122 = .ok (.aload_n 0, 1) := dk_42 (dk_at dksX6_samples_5 2 rfl rfl)
theorem dX6_samples_123 : decode cX6_samples 123 = .ok (.getfield 57, 3) := dk_180 0 57 (dk_at dksX6_samples_5 3 rfl rfl)
theorem dX6_samples_126 : decode cX6_samples 126 = .ok (.iload_n 2, 1) := dk_28 (dk_at dksX6_samples_5 6 rfl rfl)
theorem dX6_samples_127 : decode cX6_samples 127 = .ok (.bipush 9, 2) := dk_16 9 (dk_at dksX6_samples_5 7 rfl rfl)
theorem dX6_samples_129 : decode cX6_samples 129 = .ok (.iadd, 1) := dk_96 (dk_at dksX6_samples_5 9 rfl rfl)
theorem dX6_samples_130 : decode cX6_samples 130 = .ok (.aload_n 0, 1) := dk_42 (dk_at dksX6_samples_5 10 rfl rfl)
theorem dX6_samples_131 : decode cX6_samples 131 = .ok (.iload_n 1, 1) := dk_27 (dk_at dksX6_samples_5 11 rfl rfl)
theorem dX6_samples_132 : decode cX6_samples 132 = .ok (.invokevirtual 264, 3) := dk_182 1 8 (dk_at dksX6_samples_5 12 rfl rfl)
theorem dX6_samples_135 : decode cX6_samples 135 = .ok (.iastore, 1) := dk_79 (dk_at dksX6_samples_5 15 rfl rfl)
theorem dX6_samples_136 : decode cX6_samples 136 = .ok (.iload 4, 2) := dk_21 4 (dk_at dksX6_samples_5 16 rfl rfl)
theorem dX6_samples_138 : decode cX6_samples 138 = .ok (.ifCond .ne 4, 3) := dk_154 0 4 (dk_at dksX6_samples_5 18 rfl rfl)
theorem dX6_samples_141 : decode cX6_samples 141 = .ok (.return_, 1) := dk_177 (dk_at dksX6_samples_5 21 rfl rfl)
theorem dX6_samples_142 : decode cX6_samples 142 = .ok (.aload_n 0, 1) := dk_42 (dk_at dksX6_samples_5 22 rfl rfl)
theorem dX6_samples_143 : decode cX6_samples 143 = .ok (.getfield 57, 3) := dk_180 0 57 (dk_at dksX6_samples_6 0 rfl rfl)
theorem dX6_samples_146 : decode cX6_samples 146 = .ok (.iload_n 2, 1) := dk_28 (dk_at dksX6_samples_6 3 rfl rfl)
theorem dX6_samples_147 : decode cX6_samples 147 = .ok (.bipush 6, 2) := dk_16 6 (dk_at dksX6_samples_6 4 rfl rfl)
theorem dX6_samples_149 : decode cX6_samples 149 = .ok (.iadd, 1) := dk_96 (dk_at dksX6_samples_6 6 rfl rfl)
theorem dX6_samples_150 : decode cX6_samples 150 = .ok (.dup2, 1) := dk_92 (dk_at dksX6_samples_6 7 rfl rfl)
theorem dX6_samples_151 : decode cX6_samples 151 = .ok (.iaload, 1) := dk_46 (dk_at dksX6_samples_6 8 rfl rfl)
theorem dX6_samples_152 : decode cX6_samples 152 = .ok (.iconst 1, 1) := dk_4 (dk_at dksX6_samples_6 9 rfl rfl)
theorem dX6_samples_153 : decode cX6_samples 153 = .ok (.iadd, 1) := dk_96 (dk_at dksX6_samples_6 10 rfl rfl)
theorem dX6_samples_154 : decode cX6_samples 154 = .ok (.iastore, 1) := dk_79 (dk_at dksX6_samples_6 11 rfl rfl)
theorem dX6_samples_155 : decode cX6_samples 155 = .ok (.aload_n 0, 1) := dk_42 (dk_at dksX6_samples_6 12 rfl rfl)
theorem dX6_samples_156 : decode cX6_samples 156 = .ok (.getfield 81, 3) := dk_180 0 81 (dk_at dksX6_samples_6 13 rfl rfl)
theorem dX6_samples_159 : decode cX6_samples 159 = .ok (.aload_n 0, 1) := dk_42 (dk_at dksX6_samples_6 16 rfl rfl)
theorem dX6_samples_160 : decode cX6_samples 160 = .ok (.getfield 277, 3) := dk_180 1 21 (dk_at dksX6_samples_6 17 rfl rfl)
theorem dX6_samples_163 : decode cX6_samples 163 = .ok (.iload_n 3, 1) := dk_29 (dk_at dksX6_samples_6 20 rfl rfl)
theorem dX6_samples_164 : decode cX6_samples 164 = .ok (.iastore, 1) := dk_79 (dk_at dksX6_samples_6 21 rfl rfl)
theorem dX6_samples_165 : decode cX6_samples 165 = .ok (.aload_n 0, 1) := dk_42 (dk_at dksX6_samples_6 22 rfl rfl)
theorem dX6_samples_166 : decode cX6_samples 166 = .ok (.getfield 84, 3) := dk_180 0 84 (dk_at dksX6_samples_7 0 rfl rfl)
theorem dX6_samples_169 : decode cX6_samples 169 = .ok (.aload_n 0, 1) := dk_42 (dk_at dksX6_samples_7 3 rfl rfl)
theorem dX6_samples_170 : decode cX6_samples 170 = .ok (.getfield 277, 3) := dk_180 1 21 (dk_at dksX6_samples_7 4 rfl rfl)
theorem dX6_samples_173 : decode cX6_samples 173 = .ok (.iload 4, 2) := dk_21 4 (dk_at dksX6_samples_7 7 rfl rfl)
theorem dX6_samples_175 : decode cX6_samples 175 = .ok (.iastore, 1) := dk_79 (dk_at dksX6_samples_7 9 rfl rfl)
theorem dX6_samples_176 : decode cX6_samples 176 = .ok (.aload_n 0, 1) := dk_42 (dk_at dksX6_samples_7 10 rfl rfl)
theorem dX6_samples_177 : decode cX6_samples 177 = .ok (.dup, 1) := dk_89 (dk_at dksX6_samples_7 11 rfl rfl)
theorem dX6_samples_178 : decode cX6_samples 178 = .ok (.getfield 277, 3) := dk_180 1 21 (dk_at dksX6_samples_7 12 rfl rfl)
theorem dX6_samples_181 : decode cX6_samples 181 = .ok (.iconst 1, 1) := dk_4 (dk_at dksX6_samples_7 15 rfl rfl)
theorem dX6_samples_182 : decode cX6_samples 182 = .ok (.iadd, 1) := dk_96 (dk_at dksX6_samples_7 16 rfl rfl)
theorem dX6_samples_183 : decode cX6_samples 183 = .ok (.putfield 277, 3) := dk_181 1 21 (dk_at dksX6_samples_7 17 rfl rfl)
theorem dX6_samples_186 : decode cX6_samples 186 = .ok (.return_, 1) := dk_177 (dk_at dksX6_samples_7 20 rfl rfl)
abbrev cX6_feedbackOf : ByteArray := prog_18_method_52_code
def yX6_feedbackOf : MethodName := ⟨RX6, "feedbackOf", "(I)I"⟩
def dkwX6_feedbackOf_1 : List UInt8 := [180, 0, 57, 16, 24, 27, 104, 16, 9, 96, 46, 100, 104, 96, 172]
abbrev dktX6_feedbackOf_1 : List UInt8 := dkwX6_feedbackOf_1 ++ []
def dkwX6_feedbackOf_0 : List UInt8 := [42, 27, 182, 1, 8, 61, 28, 42, 180, 0, 13, 6, 46, 100, 42, 180, 0, 13, 7, 46, 28, 42]
abbrev dktX6_feedbackOf_0 : List UInt8 := dkwX6_feedbackOf_0 ++ dktX6_feedbackOf_1
theorem dksX6_feedbackOf_0 : cX6_feedbackOf.data.toList.drop 0 = dktX6_feedbackOf_0 := by decide +kernel
theorem dksX6_feedbackOf_1 : cX6_feedbackOf.data.toList.drop 22 = dktX6_feedbackOf_1 := dk_seg dksX6_feedbackOf_0 22 rfl rfl
theorem dX6_feedbackOf_0 : decode cX6_feedbackOf 0 = .ok (.aload_n 0, 1) := dk_42 (dk_at dksX6_feedbackOf_0 0 rfl rfl)
theorem dX6_feedbackOf_1 : decode cX6_feedbackOf 1 = .ok (.iload_n 1, 1) := dk_27 (dk_at dksX6_feedbackOf_0 1 rfl rfl)
theorem dX6_feedbackOf_2 : decode cX6_feedbackOf 2 = .ok (.invokevirtual 264, 3) := dk_182 1 8 (dk_at dksX6_feedbackOf_0 2 rfl rfl)
theorem dX6_feedbackOf_5 : decode cX6_feedbackOf 5 = .ok (.istore_n 2, 1) := dk_61 (dk_at dksX6_feedbackOf_0 5 rfl rfl)
theorem dX6_feedbackOf_6 : decode cX6_feedbackOf 6 = .ok (.iload_n 2, 1) := dk_28 (dk_at dksX6_feedbackOf_0 6 rfl rfl)
theorem dX6_feedbackOf_7 : decode cX6_feedbackOf 7 = .ok (.aload_n 0, 1) := dk_42 (dk_at dksX6_feedbackOf_0 7 rfl rfl)
theorem dX6_feedbackOf_8 : decode cX6_feedbackOf 8 = .ok (.getfield 13, 3) := dk_180 0 13 (dk_at dksX6_feedbackOf_0 8 rfl rfl)
theorem dX6_feedbackOf_11 : decode cX6_feedbackOf 11 = .ok (.iconst 3, 1) := dk_6 (dk_at dksX6_feedbackOf_0 11 rfl rfl)
theorem dX6_feedbackOf_12 : decode cX6_feedbackOf 12 = .ok (.iaload, 1) := dk_46 (dk_at dksX6_feedbackOf_0 12 rfl rfl)
theorem dX6_feedbackOf_13 : decode cX6_feedbackOf 13 = .ok (.isub, 1) := dk_100 (dk_at dksX6_feedbackOf_0 13 rfl rfl)
theorem dX6_feedbackOf_14 : decode cX6_feedbackOf 14 = .ok (.aload_n 0, 1) := dk_42 (dk_at dksX6_feedbackOf_0 14 rfl rfl)
theorem dX6_feedbackOf_15 : decode cX6_feedbackOf 15 = .ok (.getfield 13, 3) := dk_180 0 13 (dk_at dksX6_feedbackOf_0 15 rfl rfl)
theorem dX6_feedbackOf_18 : decode cX6_feedbackOf 18 = .ok (.iconst 4, 1) := dk_7 (dk_at dksX6_feedbackOf_0 18 rfl rfl)
theorem dX6_feedbackOf_19 : decode cX6_feedbackOf 19 = .ok (.iaload, 1) := dk_46 (dk_at dksX6_feedbackOf_0 19 rfl rfl)
theorem dX6_feedbackOf_20 : decode cX6_feedbackOf 20 = .ok (.iload_n 2, 1) := dk_28 (dk_at dksX6_feedbackOf_0 20 rfl rfl)
theorem dX6_feedbackOf_21 : decode cX6_feedbackOf 21 = .ok (.aload_n 0, 1) := dk_42 (dk_at dksX6_feedbackOf_0 21 rfl rfl)
theorem dX6_feedbackOf_22 : decode cX6_feedbackOf 22 = .ok (.getfield 57, 3) := dk_180 0 57 (dk_at dksX6_feedbackOf_1 0 rfl rfl)
theorem dX6_feedbackOf_25 : decode cX6_feedbackOf 25 = .ok (.bipush 24, 2) := dk_16 24 (dk_at dksX6_feedbackOf_1 3 rfl rfl)
theorem dX6_feedbackOf_27 : decode cX6_feedbackOf 27 = .ok (.iload_n 1, 1) := dk_27 (dk_at dksX6_feedbackOf_1 5 rfl rfl)
theorem dX6_feedbackOf_28 : decode cX6_feedbackOf 28 = .ok (.imul, 1) := dk_104 (dk_at dksX6_feedbackOf_1 6 rfl rfl)
theorem dX6_feedbackOf_29 : decode cX6_feedbackOf 29 = .ok (.bipush 9, 2) := dk_16 9 (dk_at dksX6_feedbackOf_1 7 rfl rfl)
theorem dX6_feedbackOf_31 : decode cX6_feedbackOf 31 = .ok (.iadd, 1) := dk_96 (dk_at dksX6_feedbackOf_1 9 rfl rfl)
theorem dX6_feedbackOf_32 : decode cX6_feedbackOf 32 = .ok (.iaload, 1) := dk_46 (dk_at dksX6_feedbackOf_1 10 rfl rfl)
theorem dX6_feedbackOf_33 : decode cX6_feedbackOf 33 = .ok (.isub, 1) := dk_100 (dk_at dksX6_feedbackOf_1 11 rfl rfl)
theorem dX6_feedbackOf_34 : decode cX6_feedbackOf 34 = .ok (.imul, 1) := dk_104 (dk_at dksX6_feedbackOf_1 12 rfl rfl)
theorem dX6_feedbackOf_35 : decode cX6_feedbackOf 35 = .ok (.iadd, 1) := dk_96 (dk_at dksX6_feedbackOf_1 13 rfl rfl)
theorem dX6_feedbackOf_36 : decode cX6_feedbackOf 36 = .ok (.ireturn, 1) := dk_172 (dk_at dksX6_feedbackOf_1 14 rfl rfl)
abbrev cX6_noticeOf : ByteArray := prog_18_method_53_code
def yX6_noticeOf : MethodName := ⟨RX6, "noticeOf", "(I)I"⟩
def dkwX6_noticeOf_1 : List UInt8 := [7, 46, 104, 96, 104, 108, 4, 16, 63, 184, 1, 11, 172]
abbrev dktX6_noticeOf_1 : List UInt8 := dkwX6_noticeOf_1 ++ []
def dkwX6_noticeOf_0 : List UInt8 := [27, 157, 0, 7, 3, 167, 0, 31, 27, 16, 64, 104, 42, 180, 0, 13, 6, 46, 4, 5, 42, 180, 0, 13]
abbrev dktX6_noticeOf_0 : List UInt8 := dkwX6_noticeOf_0 ++ dktX6_noticeOf_1
theorem dksX6_noticeOf_0 : cX6_noticeOf.data.toList.drop 0 = dktX6_noticeOf_0 := by decide +kernel
theorem dksX6_noticeOf_1 : cX6_noticeOf.data.toList.drop 24 = dktX6_noticeOf_1 := dk_seg dksX6_noticeOf_0 24 rfl rfl
theorem dX6_noticeOf_0 : decode cX6_noticeOf 0 = .ok (.iload_n 1, 1) := dk_27 (dk_at dksX6_noticeOf_0 0 rfl rfl)
theorem dX6_noticeOf_1 : decode cX6_noticeOf 1 = .ok (.ifCond .gt 7, 3) := dk_157 0 7 (dk_at dksX6_noticeOf_0 1 rfl rfl)
theorem dX6_noticeOf_4 : decode cX6_noticeOf 4 = .ok (.iconst 0, 1) := dk_3 (dk_at dksX6_noticeOf_0 4 rfl rfl)
theorem dX6_noticeOf_5 : decode cX6_noticeOf 5 = .ok (.goto 31, 3) := dk_167 0 31 (dk_at dksX6_noticeOf_0 5 rfl rfl)
theorem dX6_noticeOf_8 : decode cX6_noticeOf 8 = .ok (.iload_n 1, 1) := dk_27 (dk_at dksX6_noticeOf_0 8 rfl rfl)
theorem dX6_noticeOf_9 : decode cX6_noticeOf 9 = .ok (.bipush 64, 2) := dk_16 64 (dk_at dksX6_noticeOf_0 9 rfl rfl)
theorem dX6_noticeOf_11 : decode cX6_noticeOf 11 = .ok (.imul, 1) := dk_104 (dk_at dksX6_noticeOf_0 11 rfl rfl)
theorem dX6_noticeOf_12 : decode cX6_noticeOf 12 = .ok (.aload_n 0, 1) := dk_42 (dk_at dksX6_noticeOf_0 12 rfl rfl)
theorem dX6_noticeOf_13 : decode cX6_noticeOf 13 = .ok (.getfield 13, 3) := dk_180 0 13 (dk_at dksX6_noticeOf_0 13 rfl rfl)
theorem dX6_noticeOf_16 : decode cX6_noticeOf 16 = .ok (.iconst 3, 1) := dk_6 (dk_at dksX6_noticeOf_0 16 rfl rfl)
theorem dX6_noticeOf_17 : decode cX6_noticeOf 17 = .ok (.iaload, 1) := dk_46 (dk_at dksX6_noticeOf_0 17 rfl rfl)
theorem dX6_noticeOf_18 : decode cX6_noticeOf 18 = .ok (.iconst 1, 1) := dk_4 (dk_at dksX6_noticeOf_0 18 rfl rfl)
theorem dX6_noticeOf_19 : decode cX6_noticeOf 19 = .ok (.iconst 2, 1) := dk_5 (dk_at dksX6_noticeOf_0 19 rfl rfl)
theorem dX6_noticeOf_20 : decode cX6_noticeOf 20 = .ok (.aload_n 0, 1) := dk_42 (dk_at dksX6_noticeOf_0 20 rfl rfl)
theorem dX6_noticeOf_21 : decode cX6_noticeOf 21 = .ok (.getfield 13, 3) := dk_180 0 13 (dk_at dksX6_noticeOf_0 21 rfl rfl)
theorem dX6_noticeOf_24 : decode cX6_noticeOf 24 = .ok (.iconst 4, 1) := dk_7 (dk_at dksX6_noticeOf_1 0 rfl rfl)
theorem dX6_noticeOf_25 : decode cX6_noticeOf 25 = .ok (.iaload, 1) := dk_46 (dk_at dksX6_noticeOf_1 1 rfl rfl)
theorem dX6_noticeOf_26 : decode cX6_noticeOf 26 = .ok (.imul, 1) := dk_104 (dk_at dksX6_noticeOf_1 2 rfl rfl)
theorem dX6_noticeOf_27 : decode cX6_noticeOf 27 = .ok (.iadd, 1) := dk_96 (dk_at dksX6_noticeOf_1 3 rfl rfl)
theorem dX6_noticeOf_28 : decode cX6_noticeOf 28 = .ok (.imul, 1) := dk_104 (dk_at dksX6_noticeOf_1 4 rfl rfl)
theorem dX6_noticeOf_29 : decode cX6_noticeOf 29 = .ok (.idiv, 1) := dk_108 (dk_at dksX6_noticeOf_1 5 rfl rfl)
theorem dX6_noticeOf_30 : decode cX6_noticeOf 30 = .ok (.iconst 1, 1) := dk_4 (dk_at dksX6_noticeOf_1 6 rfl rfl)
theorem dX6_noticeOf_31 : decode cX6_noticeOf 31 = .ok (.bipush 63, 2) := dk_16 63 (dk_at dksX6_noticeOf_1 7 rfl rfl)
theorem dX6_noticeOf_33 : decode cX6_noticeOf 33 = .ok (.invokestatic 267, 3) := dk_184 1 11 (dk_at dksX6_noticeOf_1 9 rfl rfl)
theorem dX6_noticeOf_36 : decode cX6_noticeOf 36 = .ok (.ireturn, 1) := dk_172 (dk_at dksX6_noticeOf_1 12 rfl rfl)
abbrev cX6_takesNotices : ByteArray := prog_18_method_55_code
def yX6_takesNotices : MethodName := ⟨RX6, "takesNotices", "()V"⟩
def dkwX6_takesNotices_5 : List UInt8 := [28, 16, 9, 96, 3, 79, 42, 180, 0, 57, 28, 16, 10, 96, 3, 79, 132, 1, 1, 167, 255, 119, 177]
abbrev dktX6_takesNotices_5 : List UInt8 := dkwX6_takesNotices_5 ++ []
def dkwX6_takesNotices_4 : List UInt8 := [42, 180, 0, 57, 28, 5, 96, 3, 79, 42, 180, 0, 57, 28, 5, 96, 4, 96, 3, 79, 42, 180, 0, 57]
abbrev dktX6_takesNotices_4 : List UInt8 := dkwX6_takesNotices_4 ++ dktX6_takesNotices_5
def dkwX6_takesNotices_3 : List UInt8 := [17, 0, 128, 108, 100, 62, 42, 180, 0, 57, 28, 3, 96, 29, 4, 162, 0, 7, 4, 167, 0, 4, 29, 79]
abbrev dktX6_takesNotices_3 : List UInt8 := dkwX6_takesNotices_3 ++ dktX6_takesNotices_4
def dkwX6_takesNotices_2 : List UInt8 := [79, 42, 180, 0, 57, 28, 3, 96, 46, 42, 180, 0, 57, 28, 3, 96, 46, 42, 180, 0, 84, 27, 46, 104]
abbrev dktX6_takesNotices_2 : List UInt8 := dkwX6_takesNotices_2 ++ dktX6_takesNotices_3
def dkwX6_takesNotices_1 : List UInt8 := [28, 16, 6, 96, 92, 46, 4, 96, 79, 42, 180, 0, 57, 28, 4, 96, 42, 180, 0, 57, 28, 3, 96, 46]
abbrev dktX6_takesNotices_1 : List UInt8 := dkwX6_takesNotices_1 ++ dktX6_takesNotices_2
def dkwX6_takesNotices_0 : List UInt8 := [3, 60, 27, 42, 180, 1, 21, 162, 0, 135, 42, 180, 0, 81, 27, 46, 184, 1, 2, 61, 42, 180, 0, 57]
abbrev dktX6_takesNotices_0 : List UInt8 := dkwX6_takesNotices_0 ++ dktX6_takesNotices_1
theorem dksX6_takesNotices_0 : cX6_takesNotices.data.toList.drop 0 = dktX6_takesNotices_0 := by decide +kernel
theorem dksX6_takesNotices_1 : cX6_takesNotices.data.toList.drop 24 = dktX6_takesNotices_1 := dk_seg dksX6_takesNotices_0 24 rfl rfl
theorem dksX6_takesNotices_2 : cX6_takesNotices.data.toList.drop 48 = dktX6_takesNotices_2 := dk_seg dksX6_takesNotices_1 24 rfl rfl
theorem dksX6_takesNotices_3 : cX6_takesNotices.data.toList.drop 72 = dktX6_takesNotices_3 := dk_seg dksX6_takesNotices_2 24 rfl rfl
theorem dksX6_takesNotices_4 : cX6_takesNotices.data.toList.drop 96 = dktX6_takesNotices_4 := dk_seg dksX6_takesNotices_3 24 rfl rfl
theorem dksX6_takesNotices_5 : cX6_takesNotices.data.toList.drop 120 = dktX6_takesNotices_5 := dk_seg dksX6_takesNotices_4 24 rfl rfl
theorem dX6_takesNotices_0 : decode cX6_takesNotices 0 = .ok (.iconst 0, 1) := dk_3 (dk_at dksX6_takesNotices_0 0 rfl rfl)
theorem dX6_takesNotices_1 : decode cX6_takesNotices 1 = .ok (.istore_n 1, 1) := dk_60 (dk_at dksX6_takesNotices_0 1 rfl rfl)
theorem dX6_takesNotices_2 : decode cX6_takesNotices 2 = .ok (.iload_n 1, 1) := dk_27 (dk_at dksX6_takesNotices_0 2 rfl rfl)
theorem dX6_takesNotices_3 : decode cX6_takesNotices 3 = .ok (.aload_n 0, 1) := dk_42 (dk_at dksX6_takesNotices_0 3 rfl rfl)
theorem dX6_takesNotices_4 : decode cX6_takesNotices 4 = .ok (.getfield 277, 3) := dk_180 1 21 (dk_at dksX6_takesNotices_0 4 rfl rfl)
theorem dX6_takesNotices_7 : decode cX6_takesNotices 7 = .ok (.if_icmp .ge 135, 3) := dk_162 0 135 (dk_at dksX6_takesNotices_0 7 rfl rfl)
theorem dX6_takesNotices_10 : decode cX6_takesNotices 10 = .ok (.aload_n 0, 1) := dk_42 (dk_at dksX6_takesNotices_0 10 rfl rfl)
theorem dX6_takesNotices_11 : decode cX6_takesNotices 11 = .ok (.getfield 81, 3) := dk_180 0 81 (dk_at dksX6_takesNotices_0 11 rfl rfl)
theorem dX6_takesNotices_14 : decode cX6_takesNotices 14 = .ok (.iload_n 1, 1) := dk_27 (dk_at dksX6_takesNotices_0 14 rfl rfl)
theorem dX6_takesNotices_15 : decode cX6_takesNotices 15 = .ok (.iaload, 1) := dk_46 (dk_at dksX6_takesNotices_0 15 rfl rfl)
theorem dX6_takesNotices_16 : decode cX6_takesNotices 16 = .ok (.invokestatic 258, 3) := dk_184 1 2 (dk_at dksX6_takesNotices_0 16 rfl rfl)
theorem dX6_takesNotices_19 : decode cX6_takesNotices 19 = .ok (.istore_n 2, 1) := dk_61 (dk_at dksX6_takesNotices_0 19 rfl rfl)
theorem dX6_takesNotices_20 : decode cX6_takesNotices 20 = .ok (.aload_n 0, 1) := dk_42 (dk_at dksX6_takesNotices_0 20 rfl rfl)
theorem dX6_takesNotices_21 : decode cX6_takesNotices 21 = .ok (.getfield 57, 3) := dk_180 0 57 (dk_at dksX6_takesNotices_0 21 rfl rfl)
theorem dX6_takesNotices_24 : decode cX6_takesNotices 24 = .ok (.iload_n 2, 1) := dk_28 (dk_at dksX6_takesNotices_1 0 rfl rfl)
theorem dX6_takesNotices_25 : decode cX6_takesNotices 25 = .ok (.bipush 6, 2) := dk_16 6 (dk_at dksX6_takesNotices_1 1 rfl rfl)
theorem dX6_takesNotices_27 : decode cX6_takesNotices 27 = .ok (.iadd, 1) := dk_96 (dk_at dksX6_takesNotices_1 3 rfl rfl)
theorem dX6_takesNotices_28 : decode cX6_takesNotices 28 = .ok (.dup2, 1) := dk_92 (dk_at dksX6_takesNotices_1 4 rfl rfl)
theorem dX6_takesNotices_29 : decode cX6_takesNotices 29 = .ok (.iaload, 1) := dk_46 (dk_at dksX6_takesNotices_1 5 rfl rfl)
theorem dX6_takesNotices_30 : decode cX6_takesNotices 30 = .ok (.iconst 1, 1) := dk_4 (dk_at dksX6_takesNotices_1 6 rfl rfl)
theorem dX6_takesNotices_31 : decode cX6_takesNotices 31 = .ok (.iadd, 1) := dk_96 (dk_at dksX6_takesNotices_1 7 rfl rfl)
theorem dX6_takesNotices_32 : decode cX6_takesNotices 32 = .ok (.iastore, 1) := dk_79 (dk_at dksX6_takesNotices_1 8 rfl rfl)
theorem dX6_takesNotices_33 : decode cX6_takesNotices 33 = .ok (.aload_n 0, 1) := dk_42 (dk_at dksX6_takesNotices_1 9 rfl rfl)
theorem dX6_takesNotices_34 : decode cX6_takesNotices 34 = .ok (.getfield 57, 3) := dk_180 0 57 (dk_at dksX6_takesNotices_1 10 rfl rfl)
theorem dX6_takesNotices_37 : decode cX6_takesNotices 37 = .ok (.iload_n 2, 1) := dk_28 (dk_at dksX6_takesNotices_1 13 rfl rfl)
theorem dX6_takesNotices_38 : decode cX6_takesNotices 38 = .ok (.iconst 1, 1) := dk_4 (dk_at dksX6_takesNotices_1 14 rfl rfl)
theorem dX6_takesNotices_39 : decode cX6_takesNotices 39 = .ok (.iadd, 1) := dk_96 (dk_at dksX6_takesNotices_1 15 rfl rfl)
theorem dX6_takesNotices_40 : decode cX6_takesNotices 40 = .ok (.aload_n 0, 1) := dk_42 (dk_at dksX6_takesNotices_1 16 rfl rfl)
theorem dX6_takesNotices_41 : decode cX6_takesNotices 41 = .ok (.getfield 57, 3) := dk_180 0 57 (dk_at dksX6_takesNotices_1 17 rfl rfl)
theorem dX6_takesNotices_44 : decode cX6_takesNotices 44 = .ok (.iload_n 2, 1) := dk_28 (dk_at dksX6_takesNotices_1 20 rfl rfl)
theorem dX6_takesNotices_45 : decode cX6_takesNotices 45 = .ok (.iconst 0, 1) := dk_3 (dk_at dksX6_takesNotices_1 21 rfl rfl)
theorem dX6_takesNotices_46 : decode cX6_takesNotices 46 = .ok (.iadd, 1) := dk_96 (dk_at dksX6_takesNotices_1 22 rfl rfl)
theorem dX6_takesNotices_47 : decode cX6_takesNotices 47 = .ok (.iaload, 1) := dk_46 (dk_at dksX6_takesNotices_1 23 rfl rfl)
theorem dX6_takesNotices_48 : decode cX6_takesNotices 48 = .ok (.iastore, 1) := dk_79 (dk_at dksX6_takesNotices_2 0 rfl rfl)
theorem dX6_takesNotices_49 : decode cX6_takesNotices 49 = .ok (.aload_n 0, 1) := dk_42 (dk_at dksX6_takesNotices_2 1 rfl rfl)
theorem dX6_takesNotices_50 : decode cX6_takesNotices 50 = .ok (.getfield 57, 3) := dk_180 0 57 (dk_at dksX6_takesNotices_2 2 rfl rfl)
theorem dX6_takesNotices_53 : decode cX6_takesNotices 53 = .ok (.iload_n 2, 1) := dk_28 (dk_at dksX6_takesNotices_2 5 rfl rfl)
theorem dX6_takesNotices_54 : decode cX6_takesNotices 54 = .ok (.iconst 0, 1) := dk_3 (dk_at dksX6_takesNotices_2 6 rfl rfl)
theorem dX6_takesNotices_55 : decode cX6_takesNotices 55 = .ok (.iadd, 1) := dk_96 (dk_at dksX6_takesNotices_2 7 rfl rfl)
theorem dX6_takesNotices_56 : decode cX6_takesNotices 56 = .ok (.iaload, 1) := dk_46 (dk_at dksX6_takesNotices_2 8 rfl rfl)
theorem dX6_takesNotices_57 : decode cX6_takesNotices 57 = .ok (.aload_n 0, 1) := dk_42 (dk_at dksX6_takesNotices_2 9 rfl rfl)
theorem dX6_takesNotices_58 : decode cX6_takesNotices 58 = .ok (.getfield 57, 3) := dk_180 0 57 (dk_at dksX6_takesNotices_2 10 rfl rfl)
theorem dX6_takesNotices_61 : decode cX6_takesNotices 61 = .ok (.iload_n 2, 1) := dk_28 (dk_at dksX6_takesNotices_2 13 rfl rfl)
theorem dX6_takesNotices_62 : decode cX6_takesNotices 62 = .ok (.iconst 0, 1) := dk_3 (dk_at dksX6_takesNotices_2 14 rfl rfl)
theorem dX6_takesNotices_63 : decode cX6_takesNotices 63 = .ok (.iadd, 1) := dk_96 (dk_at dksX6_takesNotices_2 15 rfl rfl)
theorem dX6_takesNotices_64 : decode cX6_takesNotices 64 = .ok (.iaload, 1) := dk_46 (dk_at dksX6_takesNotices_2 16 rfl rfl)
theorem dX6_takesNotices_65 : decode cX6_takesNotices 65 = .ok (.aload_n 0, 1) := dk_42 (dk_at dksX6_takesNotices_2 17 rfl rfl)
theorem dX6_takesNotices_66 : decode cX6_takesNotices 66 = .ok (.getfield 84, 3) := dk_180 0 84 (dk_at dksX6_takesNotices_2 18 rfl rfl)
theorem dX6_takesNotices_69 : decode cX6_takesNotices 69 = .ok (.iload_n 1, 1) := dk_27 (dk_at dksX6_takesNotices_2 21 rfl rfl)
theorem dX6_takesNotices_70 : decode cX6_takesNotices 70 = .ok (.iaload, 1) := dk_46 (dk_at dksX6_takesNotices_2 22 rfl rfl)
theorem dX6_takesNotices_71 : decode cX6_takesNotices 71 = .ok (.imul, 1) := dk_104 (dk_at dksX6_takesNotices_2 23 rfl rfl)
theorem dX6_takesNotices_72 : decode cX6_takesNotices 72 = .ok (.sipush 128, 3) := dk_17 0 128 (dk_at dksX6_takesNotices_3 0 rfl rfl)
theorem dX6_takesNotices_75 : decode cX6_takesNotices 75 = .ok (.idiv, 1) := dk_108 (dk_at dksX6_takesNotices_3 3 rfl rfl)
theorem dX6_takesNotices_76 : decode cX6_takesNotices 76 = .ok (.isub, 1) := dk_100 (dk_at dksX6_takesNotices_3 4 rfl rfl)
theorem dX6_takesNotices_77 : decode cX6_takesNotices 77 = .ok (.istore_n 3, 1) := dk_62 (dk_at dksX6_takesNotices_3 5 rfl rfl)
theorem dX6_takesNotices_78 : decode cX6_takesNotices 78 = .ok (.aload_n 0, 1) := dk_42 (dk_at dksX6_takesNotices_3 6 rfl rfl)
theorem dX6_takesNotices_79 : decode cX6_takesNotices 79 = .ok (.getfield 57, 3) := dk_180 0 57 (dk_at dksX6_takesNotices_3 7 rfl rfl)
theorem dX6_takesNotices_82 : decode cX6_takesNotices 82 = .ok (.iload_n 2, 1) := dk_28 (dk_at dksX6_takesNotices_3 10 rfl rfl)
theorem dX6_takesNotices_83 : decode cX6_takesNotices 83 = .ok (.iconst 0, 1) := dk_3 (dk_at dksX6_takesNotices_3 11 rfl rfl)
theorem dX6_takesNotices_84 : decode cX6_takesNotices 84 = .ok (.iadd, 1) := dk_96 (dk_at dksX6_takesNotices_3 12 rfl rfl)
theorem dX6_takesNotices_85 : decode cX6_takesNotices 85 = .ok (.iload_n 3, 1) := dk_29 (dk_at dksX6_takesNotices_3 13 rfl rfl)
theorem dX6_takesNotices_86 : decode cX6_takesNotices 86 = .ok (.iconst 1, 1) := dk_4 (dk_at dksX6_takesNotices_3 14 rfl rfl)
theorem dX6_takesNotices_87 : decode cX6_takesNotices 87 = .ok (.if_icmp .ge 7, 3) := dk_162 0 7 (dk_at dksX6_takesNotices_3 15 rfl rfl)
theorem dX6_takesNotices_90 : decode cX6_takesNotices 90 = .ok (.iconst 1, 1) := dk_4 (dk_at dksX6_takesNotices_3 18 rfl rfl)
theorem dX6_takesNotices_91 : decode cX6_takesNotices 91 = .ok (.goto 4, 3) := dk_167 0 4 (dk_at dksX6_takesNotices_3 19 rfl rfl)
theorem dX6_takesNotices_94 : decode cX6_takesNotices 94 = .ok (.iload_n 3, 1) := dk_29 (dk_at dksX6_takesNotices_3 22 rfl rfl)
theorem dX6_takesNotices_95 : decode cX6_takesNotices 95 = .ok (.iastore, 1) := dk_79 (dk_at dksX6_takesNotices_3 23 rfl rfl)
theorem dX6_takesNotices_96 : decode cX6_takesNotices 96 = .ok (.aload_n 0, 1) := dk_42 (dk_at dksX6_takesNotices_4 0 rfl rfl)
theorem dX6_takesNotices_97 : decode cX6_takesNotices 97 = .ok (.getfield 57, 3) := dk_180 0 57 (dk_at dksX6_takesNotices_4 1 rfl rfl)
theorem dX6_takesNotices_100 : decode cX6_takesNotices 100 = .ok (.iload_n 2, 1) := dk_28 (dk_at dksX6_takesNotices_4 4 rfl rfl)
theorem dX6_takesNotices_101 : decode cX6_takesNotices 101 = .ok (.iconst 2, 1) := dk_5 (dk_at dksX6_takesNotices_4 5 rfl rfl)
theorem dX6_takesNotices_102 : decode cX6_takesNotices 102 = .ok (.iadd, 1) := dk_96 (dk_at dksX6_takesNotices_4 6 rfl rfl)
theorem dX6_takesNotices_103 : decode cX6_takesNotices 103 = .ok (.iconst 0, 1) := dk_3 (dk_at dksX6_takesNotices_4 7 rfl rfl)
theorem dX6_takesNotices_104 : decode cX6_takesNotices 104 = .ok (.iastore, 1) := dk_79 (dk_at dksX6_takesNotices_4 8 rfl rfl)
theorem dX6_takesNotices_105 : decode cX6_takesNotices 105 = .ok (.aload_n 0, 1) := dk_42 (dk_at dksX6_takesNotices_4 9 rfl rfl)
theorem dX6_takesNotices_106 : decode cX6_takesNotices 106 = .ok (.getfield 57, 3) := dk_180 0 57 (dk_at dksX6_takesNotices_4 10 rfl rfl)
theorem dX6_takesNotices_109 : decode cX6_takesNotices 109 = .ok (.iload_n 2, 1) := dk_28 (dk_at dksX6_takesNotices_4 13 rfl rfl)
theorem dX6_takesNotices_110 : decode cX6_takesNotices 110 = .ok (.iconst 2, 1) := dk_5 (dk_at dksX6_takesNotices_4 14 rfl rfl)
theorem dX6_takesNotices_111 : decode cX6_takesNotices 111 = .ok (.iadd, 1) := dk_96 (dk_at dksX6_takesNotices_4 15 rfl rfl)
theorem dX6_takesNotices_112 : decode cX6_takesNotices 112 = .ok (.iconst 1, 1) := dk_4 (dk_at dksX6_takesNotices_4 16 rfl rfl)
theorem dX6_takesNotices_113 : decode cX6_takesNotices 113 = .ok (.iadd, 1) := dk_96 (dk_at dksX6_takesNotices_4 17 rfl rfl)
theorem dX6_takesNotices_114 : decode cX6_takesNotices 114 = .ok (.iconst 0, 1) := dk_3 (dk_at dksX6_takesNotices_4 18 rfl rfl)
theorem dX6_takesNotices_115 : decode cX6_takesNotices 115 = .ok (.iastore, 1) := dk_79 (dk_at dksX6_takesNotices_4 19 rfl rfl)
theorem dX6_takesNotices_116 : decode cX6_takesNotices 116 = .ok (.aload_n 0, 1) := dk_42 (dk_at dksX6_takesNotices_4 20 rfl rfl)
theorem dX6_takesNotices_117 : decode cX6_takesNotices 117 = .ok (.getfield 57, 3) := dk_180 0 57 (dk_at dksX6_takesNotices_4 21 rfl rfl)
theorem dX6_takesNotices_120 : decode cX6_takesNotices 120 = .ok (.iload_n 2, 1) := dk_28 (dk_at dksX6_takesNotices_5 0 rfl rfl)
theorem dX6_takesNotices_121 : decode cX6_takesNotices 121 = .ok (.bipush 9, 2) := dk_16 9 (dk_at dksX6_takesNotices_5 1 rfl rfl)
theorem dX6_takesNotices_123 : decode cX6_takesNotices 123 = .ok (.iadd, 1) := dk_96 (dk_at dksX6_takesNotices_5 3 rfl rfl)
theorem dX6_takesNotices_124 : decode cX6_takesNotices 124 = .ok (.iconst 0, 1) := dk_3 (dk_at dksX6_takesNotices_5 4 rfl rfl)
theorem dX6_takesNotices_125 : decode cX6_takesNotices 125 = .ok (.iastore, 1) := dk_79 (dk_at dksX6_takesNotices_5 5 rfl rfl)
theorem dX6_takesNotices_126 : decode cX6_takesNotices 126 = .ok (.aload_n 0, 1) := dk_42 (dk_at dksX6_takesNotices_5 6 rfl rfl)
theorem dX6_takesNotices_127 : decode cX6_takesNotices 127 = .ok (.getfield 57, 3) := dk_180 0 57 (dk_at dksX6_takesNotices_5 7 rfl rfl)
theorem dX6_takesNotices_130 : decode cX6_takesNotices 130 = .ok (.iload_n 2, 1) := dk_28 (dk_at dksX6_takesNotices_5 10 rfl rfl)
theorem dX6_takesNotices_131 : decode cX6_takesNotices 131 = .ok (.bipush 10, 2) := dk_16 10 (dk_at dksX6_takesNotices_5 11 rfl rfl)
theorem dX6_takesNotices_133 : decode cX6_takesNotices 133 = .ok (.iadd, 1) := dk_96 (dk_at dksX6_takesNotices_5 13 rfl rfl)
theorem dX6_takesNotices_134 : decode cX6_takesNotices 134 = .ok (.iconst 0, 1) := dk_3 (dk_at dksX6_takesNotices_5 14 rfl rfl)
theorem dX6_takesNotices_135 : decode cX6_takesNotices 135 = .ok (.iastore, 1) := dk_79 (dk_at dksX6_takesNotices_5 15 rfl rfl)
theorem dX6_takesNotices_136 : decode cX6_takesNotices 136 = .ok (.iinc 1 1, 3) := dk_132 1 1 (dk_at dksX6_takesNotices_5 16 rfl rfl)
theorem dX6_takesNotices_139 : decode cX6_takesNotices 139 = .ok (.goto (-137), 3) := dk_167 255 119 (dk_at dksX6_takesNotices_5 19 rfl rfl)
theorem dX6_takesNotices_142 : decode cX6_takesNotices 142 = .ok (.return_, 1) := dk_177 (dk_at dksX6_takesNotices_5 22 rfl rfl)
abbrev cX6_recovers : ByteArray := prog_18_method_57_code
def yX6_recovers : MethodName := ⟨RX6, "recovers", "(I)V"⟩
def dkwX6_recovers_6 : List UInt8 := [28, 5, 96, 4, 96, 92, 46, 4, 96, 79, 42, 27, 182, 1, 24, 177]
abbrev dktX6_recovers_6 : List UInt8 := dkwX6_recovers_6 ++ []
def dkwX6_recovers_5 : List UInt8 := [180, 0, 13, 16, 6, 46, 162, 0, 4, 177, 42, 180, 0, 57, 28, 16, 10, 96, 3, 79, 42, 180, 0, 57]
abbrev dktX6_recovers_5 : List UInt8 := dkwX6_recovers_5 ++ dktX6_recovers_6
def dkwX6_recovers_4 : List UInt8 := [180, 0, 57, 28, 16, 10, 96, 92, 46, 4, 96, 79, 42, 180, 0, 57, 28, 16, 10, 96, 46, 42]
abbrev dktX6_recovers_4 : List UInt8 := dkwX6_recovers_4 ++ dktX6_recovers_5
def dkwX6_recovers_3 : List UInt8 := [100, 79, 42, 180, 0, 57, 28, 5, 96, 92, 46, 4, 96, 79, 42, 27, 182, 1, 24, 167, 255, 203, 42]
abbrev dktX6_recovers_3 : List UInt8 := dkwX6_recovers_3 ++ dktX6_recovers_4
def dkwX6_recovers_2 : List UInt8 := [180, 0, 13, 8, 46, 161, 0, 41, 42, 180, 0, 57, 28, 16, 9, 96, 92, 46, 42, 180, 0, 13, 8, 46]
abbrev dktX6_recovers_2 : List UInt8 := dkwX6_recovers_2 ++ dktX6_recovers_3
def dkwX6_recovers_1 : List UInt8 := [180, 0, 50, 8, 27, 104, 46, 104, 27, 96, 46, 96, 79, 42, 180, 0, 57, 28, 16, 9, 96, 46, 42]
abbrev dktX6_recovers_1 : List UInt8 := dkwX6_recovers_1 ++ dktX6_recovers_2
def dkwX6_recovers_0 : List UInt8 := [27, 184, 1, 2, 61, 42, 180, 0, 57, 28, 16, 9, 96, 92, 46, 42, 180, 0, 75, 16, 8, 42]
abbrev dktX6_recovers_0 : List UInt8 := dkwX6_recovers_0 ++ dktX6_recovers_1
theorem dksX6_recovers_0 : cX6_recovers.data.toList.drop 0 = dktX6_recovers_0 := by decide +kernel
theorem dksX6_recovers_1 : cX6_recovers.data.toList.drop 22 = dktX6_recovers_1 := dk_seg dksX6_recovers_0 22 rfl rfl
theorem dksX6_recovers_2 : cX6_recovers.data.toList.drop 45 = dktX6_recovers_2 := dk_seg dksX6_recovers_1 23 rfl rfl
theorem dksX6_recovers_3 : cX6_recovers.data.toList.drop 69 = dktX6_recovers_3 := dk_seg dksX6_recovers_2 24 rfl rfl
theorem dksX6_recovers_4 : cX6_recovers.data.toList.drop 92 = dktX6_recovers_4 := dk_seg dksX6_recovers_3 23 rfl rfl
theorem dksX6_recovers_5 : cX6_recovers.data.toList.drop 114 = dktX6_recovers_5 := dk_seg dksX6_recovers_4 22 rfl rfl
theorem dksX6_recovers_6 : cX6_recovers.data.toList.drop 138 = dktX6_recovers_6 := dk_seg dksX6_recovers_5 24 rfl rfl
theorem dX6_recovers_0 : decode cX6_recovers 0 = .ok (.iload_n 1, 1) := dk_27 (dk_at dksX6_recovers_0 0 rfl rfl)
theorem dX6_recovers_1 : decode cX6_recovers 1 = .ok (.invokestatic 258, 3) := dk_184 1 2 (dk_at dksX6_recovers_0 1 rfl rfl)
theorem dX6_recovers_4 : decode cX6_recovers 4 = .ok (.istore_n 2, 1) := dk_61 (dk_at dksX6_recovers_0 4 rfl rfl)
theorem dX6_recovers_5 : decode cX6_recovers 5 = .ok (.aload_n 0, 1) := dk_42 (dk_at dksX6_recovers_0 5 rfl rfl)
theorem dX6_recovers_6 : decode cX6_recovers 6 = .ok (.getfield 57, 3) := dk_180 0 57 (dk_at dksX6_recovers_0 6 rfl rfl)
theorem dX6_recovers_9 : decode cX6_recovers 9 = .ok (.iload_n 2, 1) := dk_28 (dk_at dksX6_recovers_0 9 rfl rfl)
theorem dX6_recovers_10 : decode cX6_recovers 10 = .ok (.bipush 9, 2) := dk_16 9 (dk_at dksX6_recovers_0 10 rfl rfl)
theorem dX6_recovers_12 : decode cX6_recovers 12 = .ok (.iadd, 1) := dk_96 (dk_at dksX6_recovers_0 12 rfl rfl)
theorem dX6_recovers_13 : decode cX6_recovers 13 = .ok (.dup2, 1) := dk_92 (dk_at dksX6_recovers_0 13 rfl rfl)
theorem dX6_recovers_14 : decode cX6_recovers 14 = .ok (.iaload, 1) := dk_46 (dk_at dksX6_recovers_0 14 rfl rfl)
theorem dX6_recovers_15 : decode cX6_recovers 15 = .ok (.aload_n 0, 1) := dk_42 (dk_at dksX6_recovers_0 15 rfl rfl)
theorem dX6_recovers_16 : decode cX6_recovers 16 = .ok (.getfield 75, 3) := dk_180 0 75 (dk_at dksX6_recovers_0 16 rfl rfl)
theorem dX6_recovers_19 : decode cX6_recovers 19 = .ok (.bipush 8, 2) := dk_16 8 (dk_at dksX6_recovers_0 19 rfl rfl)
theorem dX6_recovers_21 : decode cX6_recovers 21 = .ok (.aload_n 0, 1) := dk_42 (dk_at dksX6_recovers_0 21 rfl rfl)
theorem dX6_recovers_22 : decode cX6_recovers 22 = .ok (.getfield 50, 3) := dk_180 0 50 (dk_at dksX6_recovers_1 0 rfl rfl)
theorem dX6_recovers_25 : decode cX6_recovers 25 = .ok (.iconst 5, 1) := dk_8 (dk_at dksX6_recovers_1 3 rfl rfl)
theorem dX6_recovers_26 : decode cX6_recovers 26 = .ok (.iload_n 1, 1) := dk_27 (dk_at dksX6_recovers_1 4 rfl rfl)
theorem dX6_recovers_27 : decode cX6_recovers 27 = .ok (.imul, 1) := dk_104 (dk_at dksX6_recovers_1 5 rfl rfl)
theorem dX6_recovers_28 : decode cX6_recovers 28 = .ok (.iaload, 1) := dk_46 (dk_at dksX6_recovers_1 6 rfl rfl)
theorem dX6_recovers_29 : decode cX6_recovers 29 = .ok (.imul, 1) := dk_104 (dk_at dksX6_recovers_1 7 rfl rfl)
theorem dX6_recovers_30 : decode cX6_recovers 30 = .ok (.iload_n 1, 1) := dk_27 (dk_at dksX6_recovers_1 8 rfl rfl)
theorem dX6_recovers_31 : decode cX6_recovers 31 = .ok (.iadd, 1) := dk_96 (dk_at dksX6_recovers_1 9 rfl rfl)
theorem dX6_recovers_32 : decode cX6_recovers 32 = .ok (.iaload, 1) := dk_46 (dk_at dksX6_recovers_1 10 rfl rfl)
theorem dX6_recovers_33 : decode cX6_recovers 33 = .ok (.iadd, 1) := dk_96 (dk_at dksX6_recovers_1 11 rfl rfl)
theorem dX6_recovers_34 : decode cX6_recovers 34 = .ok (.iastore, 1) := dk_79 (dk_at dksX6_recovers_1 12 rfl rfl)
theorem dX6_recovers_35 : decode cX6_recovers 35 = .ok (.aload_n 0, 1) := dk_42 (dk_at dksX6_recovers_1 13 rfl rfl)
theorem dX6_recovers_36 : decode cX6_recovers 36 = .ok (.getfield 57, 3) := dk_180 0 57 (dk_at dksX6_recovers_1 14 rfl rfl)
theorem dX6_recovers_39 : decode cX6_recovers 39 = .ok (.iload_n 2, 1) := dk_28 (dk_at dksX6_recovers_1 17 rfl rfl)
theorem dX6_recovers_40 : decode cX6_recovers 40 = .ok (.bipush 9, 2) := dk_16 9 (dk_at dksX6_recovers_1 18 rfl rfl)
theorem dX6_recovers_42 : decode cX6_recovers 42 = .ok (.iadd, 1) := dk_96 (dk_at dksX6_recovers_1 20 rfl rfl)
theorem dX6_recovers_43 : decode cX6_recovers 43 = .ok (.iaload, 1) := dk_46 (dk_at dksX6_recovers_1 21 rfl rfl)
theorem dX6_recovers_44 : decode cX6_recovers 44 = .ok (.aload_n 0, 1) := dk_42 (dk_at dksX6_recovers_1 22 rfl rfl)
theorem dX6_recovers_45 : decode cX6_recovers 45 = .ok (.getfield 13, 3) := dk_180 0 13 (dk_at dksX6_recovers_2 0 rfl rfl)
theorem dX6_recovers_48 : decode cX6_recovers 48 = .ok (.iconst 5, 1) := dk_8 (dk_at dksX6_recovers_2 3 rfl rfl)
theorem dX6_recovers_49 : decode cX6_recovers 49 = .ok (.iaload, 1) := dk_46 (dk_at dksX6_recovers_2 4 rfl rfl)
theorem dX6_recovers_50 : decode cX6_recovers 50 = .ok (.if_icmp .lt 41, 3) := dk_161 0 41 (dk_at dksX6_recovers_2 5 rfl rfl)
theorem dX6_recovers_53 : decode cX6_recovers 53 = .ok (.aload_n 0, 1) := dk_42 (dk_at dksX6_recovers_2 8 rfl rfl)
theorem dX6_recovers_54 : decode cX6_recovers 54 = .ok (.getfield 57, 3) := dk_180 0 57 (dk_at dksX6_recovers_2 9 rfl rfl)
theorem dX6_recovers_57 : decode cX6_recovers 57 = .ok (.iload_n 2, 1) := dk_28 (dk_at dksX6_recovers_2 12 rfl rfl)
theorem dX6_recovers_58 : decode cX6_recovers 58 = .ok (.bipush 9, 2) := dk_16 9 (dk_at dksX6_recovers_2 13 rfl rfl)
theorem dX6_recovers_60 : decode cX6_recovers 60 = .ok (.iadd, 1) := dk_96 (dk_at dksX6_recovers_2 15 rfl rfl)
theorem dX6_recovers_61 : decode cX6_recovers 61 = .ok (.dup2, 1) := dk_92 (dk_at dksX6_recovers_2 16 rfl rfl)
theorem dX6_recovers_62 : decode cX6_recovers 62 = .ok (.iaload, 1) := dk_46 (dk_at dksX6_recovers_2 17 rfl rfl)
theorem dX6_recovers_63 : decode cX6_recovers 63 = .ok (.aload_n 0, 1) := dk_42 (dk_at dksX6_recovers_2 18 rfl rfl)
theorem dX6_recovers_64 : decode cX6_recovers 64 = .ok (.getfield 13, 3) := dk_180 0 13 (dk_at dksX6_recovers_2 19 rfl rfl)
theorem dX6_recovers_67 : decode cX6_recovers 67 = .ok (.iconst 5, 1) := dk_8 (dk_at dksX6_recovers_2 22 rfl rfl)
theorem dX6_recovers_68 : decode cX6_recovers 68 = .ok (.iaload, 1) := dk_46 (dk_at dksX6_recovers_2 23 rfl rfl)
theorem dX6_recovers_69 : decode cX6_recovers 69 = .ok (.isub, 1) := dk_100 (dk_at dksX6_recovers_3 0 rfl rfl)
theorem dX6_recovers_70 : decode cX6_recovers 70 = .ok (.iastore, 1) := dk_79 (dk_at dksX6_recovers_3 1 rfl rfl)
theorem dX6_recovers_71 : decode cX6_recovers 71 = .ok (.aload_n 0, 1) := dk_42 (dk_at dksX6_recovers_3 2 rfl rfl)
theorem dX6_recovers_72 : decode cX6_recovers 72 = .ok (.getfield 57, 3) := dk_180 0 57 (dk_at dksX6_recovers_3 3 rfl rfl)
theorem dX6_recovers_75 : decode cX6_recovers 75 = .ok (.iload_n 2, 1) := dk_28 (dk_at dksX6_recovers_3 6 rfl rfl)
theorem dX6_recovers_76 : decode cX6_recovers 76 = .ok (.iconst 2, 1) := dk_5 (dk_at dksX6_recovers_3 7 rfl rfl)
theorem dX6_recovers_77 : decode cX6_recovers 77 = .ok (.iadd, 1) := dk_96 (dk_at dksX6_recovers_3 8 rfl rfl)
theorem dX6_recovers_78 : decode cX6_recovers 78 = .ok (.dup2, 1) := dk_92 (dk_at dksX6_recovers_3 9 rfl rfl)
theorem dX6_recovers_79 : decode cX6_recovers 79 = .ok (.iaload, 1) := dk_46 (dk_at dksX6_recovers_3 10 rfl rfl)
theorem dX6_recovers_80 : decode cX6_recovers 80 = .ok (.iconst 1, 1) := dk_4 (dk_at dksX6_recovers_3 11 rfl rfl)
theorem dX6_recovers_81 : decode cX6_recovers 81 = .ok (.iadd, 1) := dk_96 (dk_at dksX6_recovers_3 12 rfl rfl)
theorem dX6_recovers_82 : decode cX6_recovers 82 = .ok (.iastore, 1) := dk_79 (dk_at dksX6_recovers_3 13 rfl rfl)
theorem dX6_recovers_83 : decode cX6_recovers 83 = .ok (.aload_n 0, 1) := dk_42 (dk_at dksX6_recovers_3 14 rfl rfl)
theorem dX6_recovers_84 : decode cX6_recovers 84 = .ok (.iload_n 1, 1) := dk_27 (dk_at dksX6_recovers_3 15 rfl rfl)
theorem dX6_recovers_85 : decode cX6_recovers 85 = .ok (.invokevirtual 280, 3) := dk_182 1 24 (dk_at dksX6_recovers_3 16 rfl rfl)
theorem dX6_recovers_88 : decode cX6_recovers 88 = .ok (.goto (-53), 3) := dk_167 255 203 (dk_at dksX6_recovers_3 19 rfl rfl)
theorem dX6_recovers_91 : decode cX6_recovers 91 = .ok (.aload_n 0, 1) := dk_42 (dk_at dksX6_recovers_3 22 rfl rfl)
theorem dX6_recovers_92 : decode cX6_recovers 92 = .ok (.getfield 57, 3) := dk_180 0 57 (dk_at dksX6_recovers_4 0 rfl rfl)
theorem dX6_recovers_95 : decode cX6_recovers 95 = .ok (.iload_n 2, 1) := dk_28 (dk_at dksX6_recovers_4 3 rfl rfl)
theorem dX6_recovers_96 : decode cX6_recovers 96 = .ok (.bipush 10, 2) := dk_16 10 (dk_at dksX6_recovers_4 4 rfl rfl)
theorem dX6_recovers_98 : decode cX6_recovers 98 = .ok (.iadd, 1) := dk_96 (dk_at dksX6_recovers_4 6 rfl rfl)
theorem dX6_recovers_99 : decode cX6_recovers 99 = .ok (.dup2, 1) := dk_92 (dk_at dksX6_recovers_4 7 rfl rfl)
theorem dX6_recovers_100 : decode cX6_recovers 100 = .ok (.iaload, 1) := dk_46 (dk_at dksX6_recovers_4 8 rfl rfl)
theorem dX6_recovers_101 : decode cX6_recovers 101 = .ok (.iconst 1, 1) := dk_4 (dk_at dksX6_recovers_4 9 rfl rfl)
theorem dX6_recovers_102 : decode cX6_recovers 102 = .ok (.iadd, 1) := dk_96 (dk_at dksX6_recovers_4 10 rfl rfl)
theorem dX6_recovers_103 : decode cX6_recovers 103 = .ok (.iastore, 1) := dk_79 (dk_at dksX6_recovers_4 11 rfl rfl)
theorem dX6_recovers_104 : decode cX6_recovers 104 = .ok (.aload_n 0, 1) := dk_42 (dk_at dksX6_recovers_4 12 rfl rfl)
theorem dX6_recovers_105 : decode cX6_recovers 105 = .ok (.getfield 57, 3) := dk_180 0 57 (dk_at dksX6_recovers_4 13 rfl rfl)
theorem dX6_recovers_108 : decode cX6_recovers 108 = .ok (.iload_n 2, 1) := dk_28 (dk_at dksX6_recovers_4 16 rfl rfl)
theorem dX6_recovers_109 : decode cX6_recovers 109 = .ok (.bipush 10, 2) := dk_16 10 (dk_at dksX6_recovers_4 17 rfl rfl)
theorem dX6_recovers_111 : decode cX6_recovers 111 = .ok (.iadd, 1) := dk_96 (dk_at dksX6_recovers_4 19 rfl rfl)
theorem dX6_recovers_112 : decode cX6_recovers 112 = .ok (.iaload, 1) := dk_46 (dk_at dksX6_recovers_4 20 rfl rfl)
theorem dX6_recovers_113 : decode cX6_recovers 113 = .ok (.aload_n 0, 1) := dk_42 (dk_at dksX6_recovers_4 21 rfl rfl)
theorem dX6_recovers_114 : decode cX6_recovers 114 = .ok (.getfield 13, 3) := dk_180 0 13 (dk_at dksX6_recovers_5 0 rfl rfl)
theorem dX6_recovers_117 : decode cX6_recovers 117 = .ok (.bipush 6, 2) := dk_16 6 (dk_at dksX6_recovers_5 3 rfl rfl)
theorem dX6_recovers_119 : decode cX6_recovers 119 = .ok (.iaload, 1) := dk_46 (dk_at dksX6_recovers_5 5 rfl rfl)
theorem dX6_recovers_120 : decode cX6_recovers 120 = .ok (.if_icmp .ge 4, 3) := dk_162 0 4 (dk_at dksX6_recovers_5 6 rfl rfl)
theorem dX6_recovers_123 : decode cX6_recovers 123 = .ok (.return_, 1) := dk_177 (dk_at dksX6_recovers_5 9 rfl rfl)
theorem dX6_recovers_124 : decode cX6_recovers 124 = .ok (.aload_n 0, 1) := dk_42 (dk_at dksX6_recovers_5 10 rfl rfl)
theorem dX6_recovers_125 : decode cX6_recovers 125 = .ok (.getfield 57, 3) := dk_180 0 57 (dk_at dksX6_recovers_5 11 rfl rfl)
theorem dX6_recovers_128 : decode cX6_recovers 128 = .ok (.iload_n 2, 1) := dk_28 (dk_at dksX6_recovers_5 14 rfl rfl)
theorem dX6_recovers_129 : decode cX6_recovers 129 = .ok (.bipush 10, 2) := dk_16 10 (dk_at dksX6_recovers_5 15 rfl rfl)
theorem dX6_recovers_131 : decode cX6_recovers 131 = .ok (.iadd, 1) := dk_96 (dk_at dksX6_recovers_5 17 rfl rfl)
theorem dX6_recovers_132 : decode cX6_recovers 132 = .ok (.iconst 0, 1) := dk_3 (dk_at dksX6_recovers_5 18 rfl rfl)
theorem dX6_recovers_133 : decode cX6_recovers 133 = .ok (.iastore, 1) := dk_79 (dk_at dksX6_recovers_5 19 rfl rfl)
theorem dX6_recovers_134 : decode cX6_recovers 134 = .ok (.aload_n 0, 1) := dk_42 (dk_at dksX6_recovers_5 20 rfl rfl)
theorem dX6_recovers_135 : decode cX6_recovers 135 = .ok (.getfield 57, 3) := dk_180 0 57 (dk_at dksX6_recovers_5 21 rfl rfl)
theorem dX6_recovers_138 : decode cX6_recovers 138 = .ok (.iload_n 2, 1) := dk_28 (dk_at dksX6_recovers_6 0 rfl rfl)
theorem dX6_recovers_139 : decode cX6_recovers 139 = .ok (.iconst 2, 1) := dk_5 (dk_at dksX6_recovers_6 1 rfl rfl)
theorem dX6_recovers_140 : decode cX6_recovers 140 = .ok (.iadd, 1) := dk_96 (dk_at dksX6_recovers_6 2 rfl rfl)
theorem dX6_recovers_141 : decode cX6_recovers 141 = .ok (.iconst 1, 1) := dk_4 (dk_at dksX6_recovers_6 3 rfl rfl)
theorem dX6_recovers_142 : decode cX6_recovers 142 = .ok (.iadd, 1) := dk_96 (dk_at dksX6_recovers_6 4 rfl rfl)
theorem dX6_recovers_143 : decode cX6_recovers 143 = .ok (.dup2, 1) := dk_92 (dk_at dksX6_recovers_6 5 rfl rfl)
theorem dX6_recovers_144 : decode cX6_recovers 144 = .ok (.iaload, 1) := dk_46 (dk_at dksX6_recovers_6 6 rfl rfl)
theorem dX6_recovers_145 : decode cX6_recovers 145 = .ok (.iconst 1, 1) := dk_4 (dk_at dksX6_recovers_6 7 rfl rfl)
theorem dX6_recovers_146 : decode cX6_recovers 146 = .ok (.iadd, 1) := dk_96 (dk_at dksX6_recovers_6 8 rfl rfl)
theorem dX6_recovers_147 : decode cX6_recovers 147 = .ok (.iastore, 1) := dk_79 (dk_at dksX6_recovers_6 9 rfl rfl)
theorem dX6_recovers_148 : decode cX6_recovers 148 = .ok (.aload_n 0, 1) := dk_42 (dk_at dksX6_recovers_6 10 rfl rfl)
theorem dX6_recovers_149 : decode cX6_recovers 149 = .ok (.iload_n 1, 1) := dk_27 (dk_at dksX6_recovers_6 11 rfl rfl)
theorem dX6_recovers_150 : decode cX6_recovers 150 = .ok (.invokevirtual 280, 3) := dk_182 1 24 (dk_at dksX6_recovers_6 12 rfl rfl)
theorem dX6_recovers_153 : decode cX6_recovers 153 = .ok (.return_, 1) := dk_177 (dk_at dksX6_recovers_6 15 rfl rfl)
abbrev cX6_climbs : ByteArray := prog_18_method_56_code
def yX6_climbs : MethodName := ⟨RX6, "climbs", "(I)V"⟩
def dkwX6_climbs_5 : List UInt8 := [28, 3, 96, 42, 180, 0, 57, 28, 3, 96, 46, 42, 180, 0, 57, 28, 4, 96, 46, 96, 5, 108, 79, 177]
abbrev dktX6_climbs_5 : List UInt8 := dkwX6_climbs_5 ++ []
def dkwX6_climbs_4 : List UInt8 := [96, 42, 180, 0, 57, 28, 4, 96, 46, 21, 5, 96, 3, 17, 4, 0, 184, 1, 11, 79, 42, 180, 0, 57]
abbrev dktX6_climbs_4 : List UInt8 := dkwX6_climbs_4 ++ dktX6_climbs_5
def dkwX6_climbs_3 : List UInt8 := [163, 0, 9, 21, 4, 8, 164, 0, 12, 42, 180, 0, 13, 16, 7, 46, 54, 5, 42, 180, 0, 57, 28, 4]
abbrev dktX6_climbs_3 : List UInt8 := dkwX6_climbs_3 ++ dktX6_climbs_4
def dkwX6_climbs_2 : List UInt8 := [104, 29, 21, 4, 162, 0, 7, 29, 167, 0, 5, 21, 4, 8, 100, 104, 54, 5, 167, 0, 23, 29, 8]
abbrev dktX6_climbs_2 : List UInt8 := dkwX6_climbs_2 ++ dktX6_climbs_3
def dkwX6_climbs_1 : List UInt8 := [54, 4, 3, 54, 5, 29, 8, 164, 0, 38, 21, 4, 8, 164, 0, 32, 42, 180, 0, 13, 16, 7, 46, 5]
abbrev dktX6_climbs_1 : List UInt8 := dkwX6_climbs_1 ++ dktX6_climbs_2
def dkwX6_climbs_0 : List UInt8 := [27, 184, 1, 2, 61, 42, 180, 0, 57, 28, 5, 96, 46, 62, 42, 180, 0, 57, 28, 5, 96, 4, 96, 46]
abbrev dktX6_climbs_0 : List UInt8 := dkwX6_climbs_0 ++ dktX6_climbs_1
theorem dksX6_climbs_0 : cX6_climbs.data.toList.drop 0 = dktX6_climbs_0 := by decide +kernel
theorem dksX6_climbs_1 : cX6_climbs.data.toList.drop 24 = dktX6_climbs_1 := dk_seg dksX6_climbs_0 24 rfl rfl
theorem dksX6_climbs_2 : cX6_climbs.data.toList.drop 48 = dktX6_climbs_2 := dk_seg dksX6_climbs_1 24 rfl rfl
theorem dksX6_climbs_3 : cX6_climbs.data.toList.drop 71 = dktX6_climbs_3 := dk_seg dksX6_climbs_2 23 rfl rfl
theorem dksX6_climbs_4 : cX6_climbs.data.toList.drop 95 = dktX6_climbs_4 := dk_seg dksX6_climbs_3 24 rfl rfl
theorem dksX6_climbs_5 : cX6_climbs.data.toList.drop 119 = dktX6_climbs_5 := dk_seg dksX6_climbs_4 24 rfl rfl
theorem dX6_climbs_0 : decode cX6_climbs 0 = .ok (.iload_n 1, 1) := dk_27 (dk_at dksX6_climbs_0 0 rfl rfl)
theorem dX6_climbs_1 : decode cX6_climbs 1 = .ok (.invokestatic 258, 3) := dk_184 1 2 (dk_at dksX6_climbs_0 1 rfl rfl)
theorem dX6_climbs_4 : decode cX6_climbs 4 = .ok (.istore_n 2, 1) := dk_61 (dk_at dksX6_climbs_0 4 rfl rfl)
theorem dX6_climbs_5 : decode cX6_climbs 5 = .ok (.aload_n 0, 1) := dk_42 (dk_at dksX6_climbs_0 5 rfl rfl)
theorem dX6_climbs_6 : decode cX6_climbs 6 = .ok (.getfield 57, 3) := dk_180 0 57 (dk_at dksX6_climbs_0 6 rfl rfl)
theorem dX6_climbs_9 : decode cX6_climbs 9 = .ok (.iload_n 2, 1) := dk_28 (dk_at dksX6_climbs_0 9 rfl rfl)
theorem dX6_climbs_10 : decode cX6_climbs 10 = .ok (.iconst 2, 1) := dk_5 (dk_at dksX6_climbs_0 10 rfl rfl)
theorem dX6_climbs_11 : decode cX6_climbs 11 = .ok (.iadd, 1) := dk_96 (dk_at dksX6_climbs_0 11 rfl rfl)
theorem dX6_climbs_12 : decode cX6_climbs 12 = .ok (.iaload, 1) := dk_46 (dk_at dksX6_climbs_0 12 rfl rfl)
theorem dX6_climbs_13 : decode cX6_climbs 13 = .ok (.istore_n 3, 1) := dk_62 (dk_at dksX6_climbs_0 13 rfl rfl)
theorem dX6_climbs_14 : decode cX6_climbs 14 = .ok (.aload_n 0, 1) := dk_42 (dk_at dksX6_climbs_0 14 rfl rfl)
theorem dX6_climbs_15 : decode cX6_climbs 15 = .ok (.getfield 57, 3) := dk_180 0 57 (dk_at dksX6_climbs_0 15 rfl rfl)
theorem dX6_climbs_18 : decode cX6_climbs 18 = .ok (.iload_n 2, 1) := dk_28 (dk_at dksX6_climbs_0 18 rfl rfl)
theorem dX6_climbs_19 : decode cX6_climbs 19 = .ok (.iconst 2, 1) := dk_5 (dk_at dksX6_climbs_0 19 rfl rfl)
theorem dX6_climbs_20 : decode cX6_climbs 20 = .ok (.iadd, 1) := dk_96 (dk_at dksX6_climbs_0 20 rfl rfl)
theorem dX6_climbs_21 : decode cX6_climbs 21 = .ok (.iconst 1, 1) := dk_4 (dk_at dksX6_climbs_0 21 rfl rfl)
theorem dX6_climbs_22 : decode cX6_climbs 22 = .ok (.iadd, 1) := dk_96 (dk_at dksX6_climbs_0 22 rfl rfl)
theorem dX6_climbs_23 : decode cX6_climbs 23 = .ok (.iaload, 1) := dk_46 (dk_at dksX6_climbs_0 23 rfl rfl)
theorem dX6_climbs_24 : decode cX6_climbs 24 = .ok (.istore 4, 2) := dk_54 4 (dk_at dksX6_climbs_1 0 rfl rfl)
theorem dX6_climbs_26 : decode cX6_climbs 26 = .ok (.iconst 0, 1) := dk_3 (dk_at dksX6_climbs_1 2 rfl rfl)
theorem dX6_climbs_27 : decode cX6_climbs 27 = .ok (.istore 5, 2) := dk_54 5 (dk_at dksX6_climbs_1 3 rfl rfl)
theorem dX6_climbs_29 : decode cX6_climbs 29 = .ok (.iload_n 3, 1) := dk_29 (dk_at dksX6_climbs_1 5 rfl rfl)
theorem dX6_climbs_30 : decode cX6_climbs 30 = .ok (.iconst 5, 1) := dk_8 (dk_at dksX6_climbs_1 6 rfl rfl)
theorem dX6_climbs_31 : decode cX6_climbs 31 = .ok (.if_icmp .le 38, 3) := dk_164 0 38 (dk_at dksX6_climbs_1 7 rfl rfl)
theorem dX6_climbs_34 : decode cX6_climbs 34 = .ok (.iload 4, 2) := dk_21 4 (dk_at dksX6_climbs_1 10 rfl rfl)
theorem dX6_climbs_36 : decode cX6_climbs 36 = .ok (.iconst 5, 1) := dk_8 (dk_at dksX6_climbs_1 12 rfl rfl)
theorem dX6_climbs_37 : decode cX6_climbs 37 = .ok (.if_icmp .le 32, 3) := dk_164 0 32 (dk_at dksX6_climbs_1 13 rfl rfl)
theorem dX6_climbs_40 : decode cX6_climbs 40 = .ok (.aload_n 0, 1) := dk_42 (dk_at dksX6_climbs_1 16 rfl rfl)
theorem dX6_climbs_41 : decode cX6_climbs 41 = .ok (.getfield 13, 3) := dk_180 0 13 (dk_at dksX6_climbs_1 17 rfl rfl)
theorem dX6_climbs_44 : decode cX6_climbs 44 = .ok (.bipush 7, 2) := dk_16 7 (dk_at dksX6_climbs_1 20 rfl rfl)
theorem dX6_climbs_46 : decode cX6_climbs 46 = .ok (.iaload, 1) := dk_46 (dk_at dksX6_climbs_1 22 rfl rfl)
theorem dX6_climbs_47 : decode cX6_climbs 47 = .ok (.iconst 2, 1) := dk_5 (dk_at dksX6_climbs_1 23 rfl rfl)
theorem dX6_climbs_48 : decode cX6_climbs 48 = .ok (.imul, 1) := dk_104 (dk_at dksX6_climbs_2 0 rfl rfl)
theorem dX6_climbs_49 : decode cX6_climbs 49 = .ok (.iload_n 3, 1) := dk_29 (dk_at dksX6_climbs_2 1 rfl rfl)
theorem dX6_climbs_50 : decode cX6_climbs 50 = .ok (.iload 4, 2) := dk_21 4 (dk_at dksX6_climbs_2 2 rfl rfl)
theorem dX6_climbs_52 : decode cX6_climbs 52 = .ok (.if_icmp .ge 7, 3) := dk_162 0 7 (dk_at dksX6_climbs_2 4 rfl rfl)
theorem dX6_climbs_55 : decode cX6_climbs 55 = .ok (.iload_n 3, 1) := dk_29 (dk_at dksX6_climbs_2 7 rfl rfl)
theorem dX6_climbs_56 : decode cX6_climbs 56 = .ok (.goto 5, 3) := dk_167 0 5 (dk_at dksX6_climbs_2 8 rfl rfl)
theorem dX6_climbs_59 : decode cX6_climbs 59 = .ok (.iload 4, 2) := dk_21 4 (dk_at dksX6_climbs_2 11 rfl rfl)
theorem dX6_climbs_61 : decode cX6_climbs 61 = .ok (.iconst 5, 1) := dk_8 (dk_at dksX6_climbs_2 13 rfl rfl)
theorem dX6_climbs_62 : decode cX6_climbs 62 = .ok (.isub, 1) := dk_100 (dk_at dksX6_climbs_2 14 rfl rfl)
theorem dX6_climbs_63 : decode cX6_climbs 63 = .ok (.imul, 1) := dk_104 (dk_at dksX6_climbs_2 15 rfl rfl)
theorem dX6_climbs_64 : decode cX6_climbs 64 = .ok (.istore 5, 2) := dk_54 5 (dk_at dksX6_climbs_2 16 rfl rfl)
theorem dX6_climbs_66 : decode cX6_climbs 66 = .ok (.goto 23, 3) := dk_167 0 23 (dk_at dksX6_climbs_2 18 rfl rfl)
theorem dX6_climbs_69 : decode cX6_climbs 69 = .ok (.iload_n 3, 1) := dk_29 (dk_at dksX6_climbs_2 21 rfl rfl)
theorem dX6_climbs_70 : decode cX6_climbs 70 = .ok (.iconst 5, 1) := dk_8 (dk_at dksX6_climbs_2 22 rfl rfl)
theorem dX6_climbs_71 : decode cX6_climbs 71 = .ok (.if_icmp .gt 9, 3) := dk_163 0 9 (dk_at dksX6_climbs_3 0 rfl rfl)
theorem dX6_climbs_74 : decode cX6_climbs 74 = .ok (.iload 4, 2) := dk_21 4 (dk_at dksX6_climbs_3 3 rfl rfl)
theorem dX6_climbs_76 : decode cX6_climbs 76 = .ok (.iconst 5, 1) := dk_8 (dk_at dksX6_climbs_3 5 rfl rfl)
theorem dX6_climbs_77 : decode cX6_climbs 77 = .ok (.if_icmp .le 12, 3) := dk_164 0 12 (dk_at dksX6_climbs_3 6 rfl rfl)
theorem dX6_climbs_80 : decode cX6_climbs 80 = .ok (.aload_n 0, 1) := dk_42 (dk_at dksX6_climbs_3 9 rfl rfl)
theorem dX6_climbs_81 : decode cX6_climbs 81 = .ok (.getfield 13, 3) := dk_180 0 13 (dk_at dksX6_climbs_3 10 rfl rfl)
theorem dX6_climbs_84 : decode cX6_climbs 84 = .ok (.bipush 7, 2) := dk_16 7 (dk_at dksX6_climbs_3 13 rfl rfl)
theorem dX6_climbs_86 : decode cX6_climbs 86 = .ok (.iaload, 1) := dk_46 (dk_at dksX6_climbs_3 15 rfl rfl)
theorem dX6_climbs_87 : decode cX6_climbs 87 = .ok (.istore 5, 2) := dk_54 5 (dk_at dksX6_climbs_3 16 rfl rfl)
theorem dX6_climbs_89 : decode cX6_climbs 89 = .ok (.aload_n 0, 1) := dk_42 (dk_at dksX6_climbs_3 18 rfl rfl)
theorem dX6_climbs_90 : decode cX6_climbs 90 = .ok (.getfield 57, 3) := dk_180 0 57 (dk_at dksX6_climbs_3 19 rfl rfl)
theorem dX6_climbs_93 : decode cX6_climbs 93 = .ok (.iload_n 2, 1) := dk_28 (dk_at dksX6_climbs_3 22 rfl rfl)
theorem dX6_climbs_94 : decode cX6_climbs 94 = .ok (.iconst 1, 1) := dk_4 (dk_at dksX6_climbs_3 23 rfl rfl)
theorem dX6_climbs_95 : decode cX6_climbs 95 = .ok (.iadd, 1) := dk_96 (dk_at dksX6_climbs_4 0 rfl rfl)
theorem dX6_climbs_96 : decode cX6_climbs 96 = .ok (.aload_n 0, 1) := dk_42 (dk_at dksX6_climbs_4 1 rfl rfl)
theorem dX6_climbs_97 : decode cX6_climbs 97 = .ok (.getfield 57, 3) := dk_180 0 57 (dk_at dksX6_climbs_4 2 rfl rfl)
theorem dX6_climbs_100 : decode cX6_climbs 100 = .ok (.iload_n 2, 1) := dk_28 (dk_at dksX6_climbs_4 5 rfl rfl)
theorem dX6_climbs_101 : decode cX6_climbs 101 = .ok (.iconst 1, 1) := dk_4 (dk_at dksX6_climbs_4 6 rfl rfl)
theorem dX6_climbs_102 : decode cX6_climbs 102 = .ok (.iadd, 1) := dk_96 (dk_at dksX6_climbs_4 7 rfl rfl)
theorem dX6_climbs_103 : decode cX6_climbs 103 = .ok (.iaload, 1) := dk_46 (dk_at dksX6_climbs_4 8 rfl rfl)
theorem dX6_climbs_104 : decode cX6_climbs 104 = .ok (.iload 5, 2) := dk_21 5 (dk_at dksX6_climbs_4 9 rfl rfl)
theorem dX6_climbs_106 : decode cX6_climbs 106 = .ok (.iadd, 1) := dk_96 (dk_at dksX6_climbs_4 11 rfl rfl)
theorem dX6_climbs_107 : decode cX6_climbs 107 = .ok (.iconst 0, 1) := dk_3 (dk_at dksX6_climbs_4 12 rfl rfl)
theorem dX6_climbs_108 : decode cX6_climbs 108 = .ok (.sipush 1024, 3) := dk_17 4 0 (dk_at dksX6_climbs_4 13 rfl rfl)
theorem dX6_climbs_111 : decode cX6_climbs 111 = .ok (.invokestatic 267, 3) := dk_184 1 11 (dk_at dksX6_climbs_4 16 rfl rfl)
theorem dX6_climbs_114 : decode cX6_climbs 114 = .ok (.iastore, 1) := dk_79 (dk_at dksX6_climbs_4 19 rfl rfl)
theorem dX6_climbs_115 : decode cX6_climbs 115 = .ok (.aload_n 0, 1) := dk_42 (dk_at dksX6_climbs_4 20 rfl rfl)
theorem dX6_climbs_116 : decode cX6_climbs 116 = .ok (.getfield 57, 3) := dk_180 0 57 (dk_at dksX6_climbs_4 21 rfl rfl)
theorem dX6_climbs_119 : decode cX6_climbs 119 = .ok (.iload_n 2, 1) := dk_28 (dk_at dksX6_climbs_5 0 rfl rfl)
theorem dX6_climbs_120 : decode cX6_climbs 120 = .ok (.iconst 0, 1) := dk_3 (dk_at dksX6_climbs_5 1 rfl rfl)
theorem dX6_climbs_121 : decode cX6_climbs 121 = .ok (.iadd, 1) := dk_96 (dk_at dksX6_climbs_5 2 rfl rfl)
theorem dX6_climbs_122 : decode cX6_climbs 122 = .ok (.aload_n 0, 1) := dk_42 (dk_at dksX6_climbs_5 3 rfl rfl)
theorem dX6_climbs_123 : decode cX6_climbs 123 = .ok (.getfield 57, 3) := dk_180 0 57 (dk_at dksX6_climbs_5 4 rfl rfl)
theorem dX6_climbs_126 : decode cX6_climbs 126 = .ok (.iload_n 2, 1) := dk_28 (dk_at dksX6_climbs_5 7 rfl rfl)
theorem dX6_climbs_127 : decode cX6_climbs 127 = .ok (.iconst 0, 1) := dk_3 (dk_at dksX6_climbs_5 8 rfl rfl)
theorem dX6_climbs_128 : decode cX6_climbs 128 = .ok (.iadd, 1) := dk_96 (dk_at dksX6_climbs_5 9 rfl rfl)
theorem dX6_climbs_129 : decode cX6_climbs 129 = .ok (.iaload, 1) := dk_46 (dk_at dksX6_climbs_5 10 rfl rfl)
theorem dX6_climbs_130 : decode cX6_climbs 130 = .ok (.aload_n 0, 1) := dk_42 (dk_at dksX6_climbs_5 11 rfl rfl)
theorem dX6_climbs_131 : decode cX6_climbs 131 = .ok (.getfield 57, 3) := dk_180 0 57 (dk_at dksX6_climbs_5 12 rfl rfl)
theorem dX6_climbs_134 : decode cX6_climbs 134 = .ok (.iload_n 2, 1) := dk_28 (dk_at dksX6_climbs_5 15 rfl rfl)
theorem dX6_climbs_135 : decode cX6_climbs 135 = .ok (.iconst 1, 1) := dk_4 (dk_at dksX6_climbs_5 16 rfl rfl)
theorem dX6_climbs_136 : decode cX6_climbs 136 = .ok (.iadd, 1) := dk_96 (dk_at dksX6_climbs_5 17 rfl rfl)
theorem dX6_climbs_137 : decode cX6_climbs 137 = .ok (.iaload, 1) := dk_46 (dk_at dksX6_climbs_5 18 rfl rfl)
theorem dX6_climbs_138 : decode cX6_climbs 138 = .ok (.iadd, 1) := dk_96 (dk_at dksX6_climbs_5 19 rfl rfl)
theorem dX6_climbs_139 : decode cX6_climbs 139 = .ok (.iconst 2, 1) := dk_5 (dk_at dksX6_climbs_5 20 rfl rfl)
theorem dX6_climbs_140 : decode cX6_climbs 140 = .ok (.idiv, 1) := dk_108 (dk_at dksX6_climbs_5 21 rfl rfl)
theorem dX6_climbs_141 : decode cX6_climbs 141 = .ok (.iastore, 1) := dk_79 (dk_at dksX6_climbs_5 22 rfl rfl)
theorem dX6_climbs_142 : decode cX6_climbs 142 = .ok (.return_, 1) := dk_177 (dk_at dksX6_climbs_5 23 rfl rfl)
abbrev cX6_rate : ByteArray := prog_18_method_62_code
def yX6_rate : MethodName := ⟨RX6, "rate", "(II)I"⟩
def dkwX6_rate_3 : List UInt8 := [172]
abbrev dktX6_rate_3 : List UInt8 := dkwX6_rate_3 ++ []
def dkwX6_rate_2 : List UInt8 := [180, 0, 57, 27, 184, 1, 2, 3, 96, 28, 79, 42, 180, 0, 57, 27, 184, 1, 2, 4, 96, 28, 79, 29]
abbrev dktX6_rate_2 : List UInt8 := dkwX6_rate_2 ++ dktX6_rate_3
def dkwX6_rate_1 : List UInt8 := [164, 0, 5, 2, 172, 42, 182, 1, 54, 42, 180, 0, 57, 27, 184, 1, 2, 3, 96, 46, 62, 42]
abbrev dktX6_rate_1 : List UInt8 := dkwX6_rate_1 ++ dktX6_rate_2
def dkwX6_rate_0 : List UInt8 := [42, 3, 181, 0, 115, 42, 27, 182, 1, 60, 153, 0, 15, 28, 4, 161, 0, 10, 28, 17, 4, 0]
abbrev dktX6_rate_0 : List UInt8 := dkwX6_rate_0 ++ dktX6_rate_1
theorem dksX6_rate_0 : cX6_rate.data.toList.drop 0 = dktX6_rate_0 := by decide +kernel
theorem dksX6_rate_1 : cX6_rate.data.toList.drop 22 = dktX6_rate_1 := dk_seg dksX6_rate_0 22 rfl rfl
theorem dksX6_rate_2 : cX6_rate.data.toList.drop 44 = dktX6_rate_2 := dk_seg dksX6_rate_1 22 rfl rfl
theorem dksX6_rate_3 : cX6_rate.data.toList.drop 68 = dktX6_rate_3 := dk_seg dksX6_rate_2 24 rfl rfl
theorem dX6_rate_0 : decode cX6_rate 0 = .ok (.aload_n 0, 1) := dk_42 (dk_at dksX6_rate_0 0 rfl rfl)
theorem dX6_rate_1 : decode cX6_rate 1 = .ok (.iconst 0, 1) := dk_3 (dk_at dksX6_rate_0 1 rfl rfl)
theorem dX6_rate_2 : decode cX6_rate 2 = .ok (.putfield 115, 3) := dk_181 0 115 (dk_at dksX6_rate_0 2 rfl rfl)
theorem dX6_rate_5 : decode cX6_rate 5 = .ok (.aload_n 0, 1) := dk_42 (dk_at dksX6_rate_0 5 rfl rfl)
theorem dX6_rate_6 : decode cX6_rate 6 = .ok (.iload_n 1, 1) := dk_27 (dk_at dksX6_rate_0 6 rfl rfl)
theorem dX6_rate_7 : decode cX6_rate 7 = .ok (.invokevirtual 316, 3) := dk_182 1 60 (dk_at dksX6_rate_0 7 rfl rfl)
theorem dX6_rate_10 : decode cX6_rate 10 = .ok (.ifCond .eq 15, 3) := dk_153 0 15 (dk_at dksX6_rate_0 10 rfl rfl)
theorem dX6_rate_13 : decode cX6_rate 13 = .ok (.iload_n 2, 1) := dk_28 (dk_at dksX6_rate_0 13 rfl rfl)
theorem dX6_rate_14 : decode cX6_rate 14 = .ok (.iconst 1, 1) := dk_4 (dk_at dksX6_rate_0 14 rfl rfl)
theorem dX6_rate_15 : decode cX6_rate 15 = .ok (.if_icmp .lt 10, 3) := dk_161 0 10 (dk_at dksX6_rate_0 15 rfl rfl)
theorem dX6_rate_18 : decode cX6_rate 18 = .ok (.iload_n 2, 1) := dk_28 (dk_at dksX6_rate_0 18 rfl rfl)
theorem dX6_rate_19 : decode cX6_rate 19 = .ok (.sipush 1024, 3) := dk_17 4 0 (dk_at dksX6_rate_0 19 rfl rfl)
theorem dX6_rate_22 : decode cX6_rate 22 = .ok (.if_icmp .le 5, 3) := dk_164 0 5 (dk_at dksX6_rate_1 0 rfl rfl)
theorem dX6_rate_25 : decode cX6_rate 25 = .ok (.iconst (-1), 1) := dk_2 (dk_at dksX6_rate_1 3 rfl rfl)
theorem dX6_rate_26 : decode cX6_rate 26 = .ok (.ireturn, 1) := dk_172 (dk_at dksX6_rate_1 4 rfl rfl)
theorem dX6_rate_27 : decode cX6_rate 27 = .ok (.aload_n 0, 1) := dk_42 (dk_at dksX6_rate_1 5 rfl rfl)
theorem dX6_rate_28 : decode cX6_rate 28 = .ok (.invokevirtual 310, 3) := dk_182 1 54 (dk_at dksX6_rate_1 6 rfl rfl)
theorem dX6_rate_31 : decode cX6_rate 31 = .ok (.aload_n 0, 1) := dk_42 (dk_at dksX6_rate_1 9 rfl rfl)
theorem dX6_rate_32 : decode cX6_rate 32 = .ok (.getfield 57, 3) := dk_180 0 57 (dk_at dksX6_rate_1 10 rfl rfl)
theorem dX6_rate_35 : decode cX6_rate 35 = .ok (.iload_n 1, 1) := dk_27 (dk_at dksX6_rate_1 13 rfl rfl)
theorem dX6_rate_36 : decode cX6_rate 36 = .ok (.invokestatic 258, 3) := dk_184 1 2 (dk_at dksX6_rate_1 14 rfl rfl)
theorem dX6_rate_39 : decode cX6_rate 39 = .ok (.iconst 0, 1) := dk_3 (dk_at dksX6_rate_1 17 rfl rfl)
theorem dX6_rate_40 : decode cX6_rate 40 = .ok (.iadd, 1) := dk_96 (dk_at dksX6_rate_1 18 rfl rfl)
theorem dX6_rate_41 : decode cX6_rate 41 = .ok (.iaload, 1) := dk_46 (dk_at dksX6_rate_1 19 rfl rfl)
theorem dX6_rate_42 : decode cX6_rate 42 = .ok (.istore_n 3, 1) := dk_62 (dk_at dksX6_rate_1 20 rfl rfl)
theorem dX6_rate_43 : decode cX6_rate 43 = .ok (.aload_n 0, 1) := dk_42 (dk_at dksX6_rate_1 21 rfl rfl)
theorem dX6_rate_44 : decode cX6_rate 44 = .ok (.getfield 57, 3) := dk_180 0 57 (dk_at dksX6_rate_2 0 rfl rfl)
theorem dX6_rate_47 : decode cX6_rate 47 = .ok (.iload_n 1, 1) := dk_27 (dk_at dksX6_rate_2 3 rfl rfl)
theorem dX6_rate_48 : decode cX6_rate 48 = .ok (.invokestatic 258, 3) := dk_184 1 2 (dk_at dksX6_rate_2 4 rfl rfl)
theorem dX6_rate_51 : decode cX6_rate 51 = .ok (.iconst 0, 1) := dk_3 (dk_at dksX6_rate_2 7 rfl rfl)
theorem dX6_rate_52 : decode cX6_rate 52 = .ok (.iadd, 1) := dk_96 (dk_at dksX6_rate_2 8 rfl rfl)
theorem dX6_rate_53 : decode cX6_rate 53 = .ok (.iload_n 2, 1) := dk_28 (dk_at dksX6_rate_2 9 rfl rfl)
theorem dX6_rate_54 : decode cX6_rate 54 = .ok (.iastore, 1) := dk_79 (dk_at dksX6_rate_2 10 rfl rfl)
theorem dX6_rate_55 : decode cX6_rate 55 = .ok (.aload_n 0, 1) := dk_42 (dk_at dksX6_rate_2 11 rfl rfl)
theorem dX6_rate_56 : decode cX6_rate 56 = .ok (.getfield 57, 3) := dk_180 0 57 (dk_at dksX6_rate_2 12 rfl rfl)
theorem dX6_rate_59 : decode cX6_rate 59 = .ok (.iload_n 1, 1) := dk_27 (dk_at dksX6_rate_2 15 rfl rfl)
theorem dX6_rate_60 : decode cX6_rate 60 = .ok (.invokestatic 258, 3) := dk_184 1 2 (dk_at dksX6_rate_2 16 rfl rfl)
theorem dX6_rate_63 : decode cX6_rate 63 = .ok (.iconst 1, 1) := dk_4 (dk_at dksX6_rate_2 19 rfl rfl)
theorem dX6_rate_64 : decode cX6_rate 64 = .ok (.iadd, 1) := dk_96 (dk_at dksX6_rate_2 20 rfl rfl)
theorem dX6_rate_65 : decode cX6_rate 65 = .ok (.iload_n 2, 1) := dk_28 (dk_at dksX6_rate_2 21 rfl rfl)
theorem dX6_rate_66 : decode cX6_rate 66 = .ok (.iastore, 1) := dk_79 (dk_at dksX6_rate_2 22 rfl rfl)
theorem dX6_rate_67 : decode cX6_rate 67 = .ok (.iload_n 3, 1) := dk_29 (dk_at dksX6_rate_2 23 rfl rfl)
theorem dX6_rate_68 : decode cX6_rate 68 = .ok (.ireturn, 1) := dk_172 (dk_at dksX6_rate_3 0 rfl rfl)