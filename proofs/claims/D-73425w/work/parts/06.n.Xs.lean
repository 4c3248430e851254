/-! LosslessFabric$Told -/
set_option maxRecDepth 100000
def RX2 : String := "LosslessFabric$Told"
def TX2 : u_T := fun k => match k with
  | 0 => ("LosslessFabric$Told", "links", "[LLosslessFabric$Link;", true)
  | 1 => ("LosslessFabric$Told", "flows", "[LLosslessFabric$Flow;", true)
  | 2 => ("LosslessFabric$Told", "linkMany", "I", false)
  | 3 => ("LosslessFabric$Told", "flowMany", "I", false)
  | 4 => ("LosslessFabric$Told", "each", "I", false)
  | 5 => ("LosslessFabric$Told", "middle", "I", false)
  | 6 => ("LosslessFabric$Told", "weight", "I", false)
  | 7 => ("LosslessFabric$Told", "cells", "I", false)
  | 8 => ("LosslessFabric$Told", "ticks", "I", false)
  | 9 => ("LosslessFabric$Told", "more", "I", false)
  | 10 => ("LosslessFabric$Told", "seed", "I", false)
  | 11 => ("LosslessFabric$Told", "lines", "I", false)
  | _ => ("LosslessFabric$Told", "told", "I", false)
def tyX2 : Nat → FieldType := fun k => match k with
  | 0 => .array (.object "LosslessFabric$Link")
  | 1 => .array (.object "LosslessFabric$Flow")
  | 2 => .int
  | 3 => .int
  | 4 => .int
  | 5 => .int
  | 6 => .int
  | 7 => .int
  | 8 => .int
  | 9 => .int
  | 10 => .int
  | 11 => .int
  | _ => .int
abbrev wsX20 : List Cond := u_ws RX2 TX2 13
set_option maxRecDepth 100000 in
theorem nmX2 : ∀ a, a < 13 → ∀ b, b < 13 → a ≠ b → (TX2 a).2.1 ≠ (TX2 b).2.1 := by decide +kernel
set_option maxRecDepth 100000 in
theorem tyX2_ok : ∀ k, k < 13 → parseFieldDescriptor (TX2 k).2.2.1 = some (tyX2 k) := by decide +kernel
abbrev cX2_init : ByteArray := prog_16_method_1_code
def yX2_init : MethodName := ⟨RX2, "<init>", "()V"⟩
def dkwX2_init_2 : List UInt8 := [16, 10, 181, 0, 36, 42, 7, 181, 0, 39, 177]
abbrev dktX2_init_2 : List UInt8 := dkwX2_init_2 ++ []
def dkwX2_init_1 : List UInt8 := [16, 20, 181, 0, 23, 42, 16, 26, 181, 0, 27, 42, 5, 181, 0, 30, 42, 16, 50, 181, 0, 33, 42]
abbrev dktX2_init_1 : List UInt8 := dkwX2_init_1 ++ dktX2_init_2
def dkwX2_init_0 : List UInt8 := [42, 183, 0, 3, 42, 16, 10, 189, 0, 9, 181, 0, 11, 42, 16, 8, 189, 0, 17, 181, 0, 19, 42]
abbrev dktX2_init_0 : List UInt8 := dkwX2_init_0 ++ dktX2_init_1
theorem dksX2_init_0 : cX2_init.data.toList.drop 0 = dktX2_init_0 := by decide +kernel
theorem dksX2_init_1 : cX2_init.data.toList.drop 23 = dktX2_init_1 := dk_seg dksX2_init_0 23 rfl rfl
theorem dksX2_init_2 : cX2_init.data.toList.drop 46 = dktX2_init_2 := dk_seg dksX2_init_1 23 rfl rfl
theorem dX2_init_0 : decode cX2_init 0 = .ok (.aload_n 0, 1) := dk_42 (dk_at dksX2_init_0 0 rfl rfl)
theorem dX2_init_1 : decode cX2_init 1 = .ok (.invokespecial 3, 3) := dk_183 0 3 (dk_at dksX2_init_0 1 rfl rfl)
theorem dX2_init_4 : decode cX2_init 4 = .ok (.aload_n 0, 1) := dk_42 (dk_at dksX2_init_0 4 rfl rfl)
theorem dX2_init_5 : decode cX2_init 5 = .ok (.bipush 10, 2) := dk_16 10 (dk_at dksX2_init_0 5 rfl rfl)
theorem dX2_init_7 : decode cX2_init 7 = .ok (.anewarray 9, 3) := dk_189 0 9 (dk_at dksX2_init_0 7 rfl rfl)
theorem dX2_init_10 : decode cX2_init 10 = .ok (.putfield 11, 3) := dk_181 0 11 (dk_at dksX2_init_0 10 rfl rfl)
theorem dX2_init_13 : decode cX2_init 13 = .ok (.aload_n 0, 1) := dk_42 (dk_at dksX2_init_0 13 rfl rfl)
theorem dX2_init_14 : decode cX2_init 14 = .ok (.bipush 8, 2) := dk_16 8 (dk_at dksX2_init_0 14 rfl rfl)
theorem dX2_init_16 : decode cX2_init 16 = .ok (.anewarray 17, 3) := dk_189 0 17 (dk_at dksX2_init_0 16 rfl rfl)
theorem dX2_init_19 : decode cX2_init 19 = .ok (.putfield 19, 3) := dk_181 0 19 (dk_at dksX2_init_0 19 rfl rfl)
theorem dX2_init_22 : decode cX2_init 22 = .ok (.aload_n 0, 1) := dk_42 (dk_at dksX2_init_0 22 rfl rfl)
theorem dX2_init_23 : decode cX2_init 23 = .ok (.bipush 20, 2) := dk_16 20 (dk_at dksX2_init_1 0 rfl rfl)
theorem dX2_init_25 : decode cX2_init 25 = .ok (.putfield 23, 3) := dk_181 0 23 (dk_at dksX2_init_1 2 rfl rfl)
theorem dX2_init_28 : decode cX2_init 28 = .ok (.aload_n 0, 1) := dk_42 (dk_at dksX2_init_1 5 rfl rfl)
theorem dX2_init_29 : decode cX2_init 29 = .ok (.bipush 26, 2) := dk_16 26 (dk_at dksX2_init_1 6 rfl rfl)
theorem dX2_init_31 : decode cX2_init 31 = .ok (.putfield 27, 3) := dk_181 0 27 (dk_at dksX2_init_1 8 rfl rfl)
theorem dX2_init_34 : decode cX2_init 34 = .ok (.aload_n 0, 1) := dk_42 (dk_at dksX2_init_1 11 rfl rfl)
theorem dX2_init_35 : decode cX2_init 35 = .ok (.iconst 2, 1) := dk_5 (dk_at dksX2_init_1 12 rfl rfl)
theorem dX2_init_36 : decode cX2_init 36 = .ok (.putfield 30, 3) := dk_181 0 30 (dk_at dksX2_init_1 13 rfl rfl)
theorem dX2_init_39 : decode cX2_init 39 = .ok (.aload_n 0, 1) := dk_42 (dk_at dksX2_init_1 16 rfl rfl)
theorem dX2_init_40 : decode cX2_init 40 = .ok (.bipush 50, 2) := dk_16 50 (dk_at dksX2_init_1 17 rfl rfl)
theorem dX2_init_42 : decode cX2_init 42 = .ok (.putfield 33, 3) := dk_181 0 33 (dk_at dksX2_init_1 19 rfl rfl)
theorem dX2_init_45 : decode cX2_init 45 = .ok (.aload_n 0, 1) := dk_42 (dk_at dksX2_init_1 22 rfl rfl)
theorem dX2_init_46 : decode cX2_init 46 = .ok (.bipush 10, 2) := dk_16 10 (dk_at dksX2_init_2 0 rfl rfl)
theorem dX2_init_48 : decode cX2_init 48 = .ok (.putfield 36, 3) := dk_181 0 36 (dk_at dksX2_init_2 2 rfl rfl)
theorem dX2_init_51 : decode cX2_init 51 = .ok (.aload_n 0, 1) := dk_42 (dk_at dksX2_init_2 5 rfl rfl)
theorem dX2_init_52 : decode cX2_init 52 = .ok (.iconst 4, 1) := dk_7 (dk_at dksX2_init_2 6 rfl rfl)
theorem dX2_init_53 : decode cX2_init 53 = .ok (.putfield 39, 3) := dk_181 0 39 (dk_at dksX2_init_2 7 rfl rfl)
theorem dX2_init_56 : decode cX2_init 56 = .ok (.return_, 1) := dk_177 (dk_at dksX2_init_2 10 rfl rfl)
abbrev cX2_link : ByteArray := prog_16_method_2_code
def yX2_link : MethodName := ⟨RX2, "link", "(I)I"⟩
def dkwX2_link_1 : List UInt8 := [172, 132, 2, 1, 167, 255, 230, 2, 172]
abbrev dktX2_link_1 : List UInt8 := dkwX2_link_1 ++ []
def dkwX2_link_0 : List UInt8 := [3, 61, 28, 42, 180, 0, 42, 162, 0, 24, 42, 180, 0, 11, 28, 50, 180, 0, 45, 27, 160, 0, 5, 28]
abbrev dktX2_link_0 : List UInt8 := dkwX2_link_0 ++ dktX2_link_1
theorem dksX2_link_0 : cX2_link.data.toList.drop 0 = dktX2_link_0 := by decide +kernel
theorem dksX2_link_1 : cX2_link.data.toList.drop 24 = dktX2_link_1 := dk_seg dksX2_link_0 24 rfl rfl
theorem dX2_link_0 : decode cX2_link 0 = .ok (.iconst 0, 1) := dk_3 (dk_at dksX2_link_0 0 rfl rfl)
theorem dX2_link_1 : decode cX2_link 1 = .ok (.istore_n 2, 1) := dk_61 (dk_at dksX2_link_0 1 rfl rfl)
theorem dX2_link_2 : decode cX2_link 2 = .ok (.iload_n 2, 1) := dk_28 (dk_at dksX2_link_0 2 rfl rfl)
theorem dX2_link_3 : decode cX2_link 3 = .ok (.aload_n 0, 1) := dk_42 (dk_at dksX2_link_0 3 rfl rfl)
theorem dX2_link_4 : decode cX2_link 4 = .ok (.getfield 42, 3) := dk_180 0 42 (dk_at dksX2_link_0 4 rfl rfl)
theorem dX2_link_7 : decode cX2_link 7 = .ok (.if_icmp .ge 24, 3) := dk_162 0 24 (dk_at dksX2_link_0 7 rfl rfl)
theorem dX2_link_10 : decode cX2_link 10 = .ok (.aload_n 0, 1) := dk_42 (dk_at dksX2_link_0 10 rfl rfl)
theorem dX2_link_11 : decode cX2_link 11 = .ok (.getfield 11, 3) := dk_180 0 11 (dk_at dksX2_link_0 11 rfl rfl)
theorem dX2_link_14 : decode cX2_link 14 = .ok (.iload_n 2, 1) := dk_28 (dk_at dksX2_link_0 14 rfl rfl)
theorem dX2_link_15 : decode cX2_link 15 = .ok (.aaload, 1) := dk_50 (dk_at dksX2_link_0 15 rfl rfl)
theorem dX2_link_16 : decode cX2_link 16 = .ok (.getfield 45, 3) := dk_180 0 45 (dk_at dksX2_link_0 16 rfl rfl)
theorem dX2_link_19 : decode cX2_link 19 = .ok (.iload_n 1, 1) := dk_27 (dk_at dksX2_link_0 19 rfl rfl)
theorem dX2_link_20 : decode cX2_link 20 = .ok (.if_icmp .ne 5, 3) := dk_160 0 5 (dk_at dksX2_link_0 20 rfl rfl)
theorem dX2_link_23 : decode cX2_link 23 = .ok (.iload_n 2, 1) := dk_28 (dk_at dksX2_link_0 23 rfl rfl)
theorem dX2_link_24 : decode cX2_link 24 = .ok (.ireturn, 1) := dk_172 (dk_at dksX2_link_1 0 rfl rfl)
theorem dX2_link_25 : decode cX2_link 25 = .ok (.iinc 2 1, 3) := dk_132 2 1 (dk_at dksX2_link_1 1 rfl rfl)
theorem dX2_link_28 : decode cX2_link 28 = .ok (.goto (-26), 3) := dk_167 255 230 (dk_at dksX2_link_1 4 rfl rfl)
theorem dX2_link_31 : decode cX2_link 31 = .ok (.iconst (-1), 1) := dk_2 (dk_at dksX2_link_1 7 rfl rfl)
theorem dX2_link_32 : decode cX2_link 32 = .ok (.ireturn, 1) := dk_172 (dk_at dksX2_link_1 8 rfl rfl)
abbrev cX2_flow : ByteArray := prog_16_method_3_code
def yX2_flow : MethodName := ⟨RX2, "flow", "(I)I"⟩
def dkwX2_flow_1 : List UInt8 := [172, 132, 2, 1, 167, 255, 230, 2, 172]
abbrev dktX2_flow_1 : List UInt8 := dkwX2_flow_1 ++ []
def dkwX2_flow_0 : List UInt8 := [3, 61, 28, 42, 180, 0, 48, 162, 0, 24, 42, 180, 0, 19, 28, 50, 180, 0, 51, 27, 160, 0, 5, 28]
abbrev dktX2_flow_0 : List UInt8 := dkwX2_flow_0 ++ dktX2_flow_1
theorem dksX2_flow_0 : cX2_flow.data.toList.drop 0 = dktX2_flow_0 := by decide +kernel
theorem dksX2_flow_1 : cX2_flow.data.toList.drop 24 = dktX2_flow_1 := dk_seg dksX2_flow_0 24 rfl rfl
theorem dX2_flow_0 : decode cX2_flow 0 = .ok (.iconst 0, 1) := dk_3 (dk_at dksX2_flow_0 0 rfl rfl)
theorem dX2_flow_1 : decode cX2_flow 1 = .ok (.istore_n 2, 1) := dk_61 (dk_at dksX2_flow_0 1 rfl rfl)
theorem dX2_flow_2 : decode cX2_flow 2 = .ok (.iload_n 2, 1) := dk_28 (dk_at dksX2_flow_0 2 rfl rfl)
theorem dX2_flow_3 : decode cX2_flow 3 = .ok (.aload_n 0, 1) := dk_42 (dk_at dksX2_flow_0 3 rfl rfl)
theorem dX2_flow_4 : decode cX2_flow 4 = .ok (.getfield 48, 3) := dk_180 0 48 (dk_at dksX2_flow_0 4 rfl rfl)
theorem dX2_flow_7 : decode cX2_flow 7 = .ok (.if_icmp .ge 24, 3) := dk_162 0 24 (dk_at dksX2_flow_0 7 rfl rfl)
theorem dX2_flow_10 : decode cX2_flow 10 = .ok (.aload_n 0, 1) := dk_42 (dk_at dksX2_flow_0 10 rfl rfl)
theorem dX2_flow_11 : decode cX2_flow 11 = .ok (.getfield 19, 3) := dk_180 0 19 (dk_at dksX2_flow_0 11 rfl rfl)
theorem dX2_flow_14 : decode cX2_flow 14 = .ok (.iload_n 2, 1) := dk_28 (dk_at dksX2_flow_0 14 rfl rfl)
theorem dX2_flow_15 : decode cX2_flow 15 = .ok (.aaload, 1) := dk_50 (dk_at dksX2_flow_0 15 rfl rfl)
theorem dX2_flow_16 : decode cX2_flow 16 = .ok (.getfield 51, 3) := dk_180 0 51 (dk_at dksX2_flow_0 16 rfl rfl)
theorem dX2_flow_19 : decode cX2_flow 19 = .ok (.iload_n 1, 1) := dk_27 (dk_at dksX2_flow_0 19 rfl rfl)
theorem dX2_flow_20 : decode cX2_flow 20 = .ok (.if_icmp .ne 5, 3) := dk_160 0 5 (dk_at dksX2_flow_0 20 rfl rfl)
theorem dX2_flow_23 : decode cX2_flow 23 = .ok (.iload_n 2, 1) := dk_28 (dk_at dksX2_flow_0 23 rfl rfl)
theorem dX2_flow_24 : decode cX2_flow 24 = .ok (.ireturn, 1) := dk_172 (dk_at dksX2_flow_1 0 rfl rfl)
theorem dX2_flow_25 : decode cX2_flow 25 = .ok (.iinc 2 1, 3) := dk_132 2 1 (dk_at dksX2_flow_1 1 rfl rfl)
theorem dX2_flow_28 : decode cX2_flow 28 = .ok (.goto (-26), 3) := dk_167 255 230 (dk_at dksX2_flow_1 4 rfl rfl)
theorem dX2_flow_31 : decode cX2_flow 31 = .ok (.iconst (-1), 1) := dk_2 (dk_at dksX2_flow_1 7 rfl rfl)
theorem dX2_flow_32 : decode cX2_flow 32 = .ok (.ireturn, 1) := dk_172 (dk_at dksX2_flow_1 8 rfl rfl)
theorem q102 : (Jvm.Cond.initialized "LosslessFabric$Told") ∈ lw_all := lw_g (lw_at lw_m1 2 rfl) rfl
theorem q137 : (Jvm.Cond.instantiable "LosslessFabric$Told" (13 : Nat)) ∈ lw_all := lw_g (lw_at lw_m1 37 rfl) rfl
theorem q139 : (Jvm.Cond.instanceMethod ({ cls := "LosslessFabric$Told", name := "<init>", desc := "()V" } : Jvm.MethodName)) ∈ lw_all := lw_g (lw_at lw_m1 39 rfl) rfl
theorem q140 : (Jvm.Cond.code ({ cls := "LosslessFabric$Told", name := "<init>", desc := "()V" } : Jvm.MethodName) prog_16_method_1_code (1 : Nat) (Option.none : Option Jvm.ClassFile.FieldType)) ∈ lw_all := lw_g (lw_at lw_m1 40 rfl) rfl
theorem q141 : (Jvm.Cond.methodLink "LosslessFabric$Told" (3 : Nat) ({ cls := "java/lang/Object", name := "<init>", desc := "()V" } : Jvm.MethodName)) ∈ lw_all := lw_g (lw_at lw_m1 41 rfl) rfl
theorem q142 : (Jvm.Cond.classLink "LosslessFabric$Told" (9 : Nat) "LosslessFabric$Link") ∈ lw_all := lw_g (lw_at lw_m1 42 rfl) rfl
theorem q144 : (Jvm.Cond.classLink "LosslessFabric$Told" (17 : Nat) "LosslessFabric$Flow") ∈ lw_all := lw_g (lw_at lw_m1 44 rfl) rfl
theorem q146 : (Jvm.Cond.fieldLink "LosslessFabric$Told" (11 : Nat) "LosslessFabric$Told" "links" "[LLosslessFabric$Link;") ∈ lw_all := lw_g (lw_at lw_m1 46 rfl) rfl
theorem q151 : (Jvm.Cond.fieldLink "LosslessFabric$Told" (19 : Nat) "LosslessFabric$Told" "flows" "[LLosslessFabric$Flow;") ∈ lw_all := lw_g (lw_at lw_m1 51 rfl) rfl
theorem q156 : (Jvm.Cond.fieldLink "LosslessFabric$Told" (42 : Nat) "LosslessFabric$Told" "linkMany" "I") ∈ lw_all := lw_g (lw_at lw_m1 56 rfl) rfl
theorem q164 : (Jvm.Cond.fieldLink "LosslessFabric$Told" (48 : Nat) "LosslessFabric$Told" "flowMany" "I") ∈ lw_all := lw_g (lw_at lw_m1 64 rfl) rfl
theorem q167 : (Jvm.Cond.fieldLink "LosslessFabric$Told" (23 : Nat) "LosslessFabric$Told" "each" "I") ∈ lw_all := lw_g (lw_at lw_m1 67 rfl) rfl
theorem q170 : (Jvm.Cond.fieldLink "LosslessFabric$Told" (27 : Nat) "LosslessFabric$Told" "middle" "I") ∈ lw_all := lw_g (lw_at lw_m1 70 rfl) rfl
theorem q173 : (Jvm.Cond.fieldLink "LosslessFabric$Told" (30 : Nat) "LosslessFabric$Told" "weight" "I") ∈ lw_all := lw_g (lw_at lw_m1 73 rfl) rfl
theorem q176 : (Jvm.Cond.fieldLink "LosslessFabric$Told" (33 : Nat) "LosslessFabric$Told" "cells" "I") ∈ lw_all := lw_g (lw_at lw_m1 76 rfl) rfl
theorem q179 : (Jvm.Cond.fieldLink "LosslessFabric$Told" (36 : Nat) "LosslessFabric$Told" "ticks" "I") ∈ lw_all := lw_g (lw_at lw_m1 79 rfl) rfl
theorem q182 : (Jvm.Cond.fieldLink "LosslessFabric$Told" (39 : Nat) "LosslessFabric$Told" "more" "I") ∈ lw_all := lw_g (lw_at lw_m1 82 rfl) rfl
theorem q190 : (Jvm.Cond.laysFinal "LosslessFabric$Told" "LosslessFabric$Told" "links" "[LLosslessFabric$Link;") ∈ lw_all := lw_g (lw_at lw_m1 90 rfl) rfl
theorem q191 : (Jvm.Cond.soleField "LosslessFabric$Told" "links") ∈ lw_all := lw_g (lw_at lw_m1 91 rfl) rfl
theorem q192 : (Jvm.Cond.laysFinal "LosslessFabric$Told" "LosslessFabric$Told" "flows" "[LLosslessFabric$Flow;") ∈ lw_all := lw_g (lw_at lw_m1 92 rfl) rfl
theorem q193 : (Jvm.Cond.soleField "LosslessFabric$Told" "flows") ∈ lw_all := lw_g (lw_at lw_m1 93 rfl) rfl
theorem q194 : (Jvm.Cond.lays "LosslessFabric$Told" "LosslessFabric$Told" "linkMany" "I") ∈ lw_all := lw_g (lw_at lw_m1 94 rfl) rfl
theorem q195 : (Jvm.Cond.soleField "LosslessFabric$Told" "linkMany") ∈ lw_all := lw_g (lw_at lw_m1 95 rfl) rfl
theorem q196 : (Jvm.Cond.lays "LosslessFabric$Told" "LosslessFabric$Told" "flowMany" "I") ∈ lw_all := lw_g (lw_at lw_m1 96 rfl) rfl
theorem q197 : (Jvm.Cond.soleField "LosslessFabric$Told" "flowMany") ∈ lw_all := lw_g (lw_at lw_m1 97 rfl) rfl
theorem q198 : (Jvm.Cond.lays "LosslessFabric$Told" "LosslessFabric$Told" "each" "I") ∈ lw_all := lw_g (lw_at lw_m1 98 rfl) rfl
theorem q199 : (Jvm.Cond.soleField "LosslessFabric$Told" "each") ∈ lw_all := lw_g (lw_at lw_m1 99 rfl) rfl
theorem q200 : (Jvm.Cond.lays "LosslessFabric$Told" "LosslessFabric$Told" "middle" "I") ∈ lw_all := lw_g (lw_at lw_m1 100 rfl) rfl
theorem q201 : (Jvm.Cond.soleField "LosslessFabric$Told" "middle") ∈ lw_all := lw_g (lw_at lw_m1 101 rfl) rfl
theorem q202 : (Jvm.Cond.lays "LosslessFabric$Told" "LosslessFabric$Told" "weight" "I") ∈ lw_all := lw_g (lw_at lw_m1 102 rfl) rfl
theorem q203 : (Jvm.Cond.soleField "LosslessFabric$Told" "weight") ∈ lw_all := lw_g (lw_at lw_m1 103 rfl) rfl
theorem q204 : (Jvm.Cond.lays "LosslessFabric$Told" "LosslessFabric$Told" "cells" "I") ∈ lw_all := lw_g (lw_at lw_m1 104 rfl) rfl
theorem q205 : (Jvm.Cond.soleField "LosslessFabric$Told" "cells") ∈ lw_all := lw_g (lw_at lw_m1 105 rfl) rfl
theorem q206 : (Jvm.Cond.lays "LosslessFabric$Told" "LosslessFabric$Told" "ticks" "I") ∈ lw_all := lw_g (lw_at lw_m1 106 rfl) rfl
theorem q207 : (Jvm.Cond.soleField "LosslessFabric$Told" "ticks") ∈ lw_all := lw_g (lw_at lw_m1 107 rfl) rfl
theorem q208 : (Jvm.Cond.lays "LosslessFabric$Told" "LosslessFabric$Told" "more" "I") ∈ lw_all := lw_g (lw_at lw_m1 108 rfl) rfl
theorem q209 : (Jvm.Cond.soleField "LosslessFabric$Told" "more") ∈ lw_all := lw_g (lw_at lw_m1 109 rfl) rfl
theorem q210 : (Jvm.Cond.lays "LosslessFabric$Told" "LosslessFabric$Told" "seed" "I") ∈ lw_all := lw_g (lw_at lw_m1 110 rfl) rfl
theorem q211 : (Jvm.Cond.soleField "LosslessFabric$Told" "seed") ∈ lw_all := lw_g (lw_at lw_m1 111 rfl) rfl
theorem q212 : (Jvm.Cond.lays "LosslessFabric$Told" "LosslessFabric$Told" "lines" "I") ∈ lw_all := lw_g (lw_at lw_m1 112 rfl) rfl
theorem q213 : (Jvm.Cond.soleField "LosslessFabric$Told" "lines") ∈ lw_all := lw_g (lw_at lw_m1 113 rfl) rfl
theorem q214 : (Jvm.Cond.lays "LosslessFabric$Told" "LosslessFabric$Told" "told" "I") ∈ lw_all := lw_g (lw_at lw_m1 114 rfl) rfl
theorem q215 : (Jvm.Cond.soleField "LosslessFabric$Told" "told") ∈ lw_all := lw_g (lw_at lw_m1 115 rfl) rfl
theorem q216 : (Jvm.Cond.superclass "LosslessFabric$Told" "java/lang/Object") ∈ lw_all := lw_g (lw_at lw_m1 116 rfl) rfl
theorem q715 : (Jvm.Cond.instanceMethod ({ cls := "LosslessFabric$Told", name := "link", desc := "(I)I" } : Jvm.MethodName)) ∈ lw_all := lw_g (lw_at lw_m3 135 rfl) rfl
theorem q716 : (Jvm.Cond.selects "LosslessFabric$Told" ({ cls := "LosslessFabric$Told", name := "link", desc := "(I)I" } : Jvm.MethodName) ({ cls := "LosslessFabric$Told", name := "link", desc := "(I)I" } : Jvm.MethodName)) ∈ lw_all := lw_g (lw_at lw_m3 136 rfl) rfl
theorem q717 : (Jvm.Cond.code ({ cls := "LosslessFabric$Told", name := "link", desc := "(I)I" } : Jvm.MethodName) prog_16_method_2_code (3 : Nat) (Option.some Jvm.ClassFile.FieldType.int)) ∈ lw_all := lw_g (lw_at lw_m3 137 rfl) rfl
theorem q729 : (Jvm.Cond.fieldLinkNest "LosslessFabric$Told" (45 : Nat) "LosslessFabric$Link" "name" "I" "LosslessFabric") ∈ lw_tbl := lw_at lw_m3 149 rfl
theorem q760 : (Jvm.Cond.instanceMethod ({ cls := "LosslessFabric$Told", name := "flow", desc := "(I)I" } : Jvm.MethodName)) ∈ lw_all := lw_g (lw_at lw_m3 180 rfl) rfl
theorem q761 : (Jvm.Cond.selects "LosslessFabric$Told" ({ cls := "LosslessFabric$Told", name := "flow", desc := "(I)I" } : Jvm.MethodName) ({ cls := "LosslessFabric$Told", name := "flow", desc := "(I)I" } : Jvm.MethodName)) ∈ lw_all := lw_g (lw_at lw_m3 181 rfl) rfl
theorem q762 : (Jvm.Cond.code ({ cls := "LosslessFabric$Told", name := "flow", desc := "(I)I" } : Jvm.MethodName) prog_16_method_3_code (3 : Nat) (Option.some Jvm.ClassFile.FieldType.int)) ∈ lw_all := lw_g (lw_at lw_m3 182 rfl) rfl
theorem q773 : (Jvm.Cond.fieldLinkNest "LosslessFabric$Told" (51 : Nat) "LosslessFabric$Flow" "name" "I" "LosslessFabric") ∈ lw_tbl := lw_at lw_m3 193 rfl
theorem q1924 : (Jvm.Cond.castable "LosslessFabric$Told" "java/lang/Object") ∈ lw_tbl := lw_at lw_m8 144 rfl
theorem in_X2 : ∀ w ∈ wsX20, w ∈ lw_all := lw_in wsX20 [190, 192, 194, 196, 198, 200, 202, 204, 206, 208, 210, 212, 214] (by decide +kernel) (by decide +kernel)

/-! LosslessFabric$State -/
set_option maxRecDepth 100000
def RX3 : String := "LosslessFabric$State"
def TX3 : u_T := fun k => match k with
  | 0 => ("LosslessFabric$State", "t", "LLosslessFabric$Told;", false)
  | 1 => ("LosslessFabric$State", "tick", "I", false)
  | 2 => ("LosslessFabric$State", "ends", "[LLosslessFabric$End;", true)
  | _ => ("LosslessFabric$State", "senders", "[LLosslessFabric$Sender;", true)
def tyX3 : Nat → FieldType := fun k => match k with
  | 0 => .object "LosslessFabric$Told"
  | 1 => .int
  | 2 => .array (.object "LosslessFabric$End")
  | _ => .array (.object "LosslessFabric$Sender")
abbrev wsX30 : List Cond := u_ws RX3 TX3 4
theorem nmX3 : ∀ a, a < 4 → ∀ b, b < 4 → a ≠ b → (TX3 a).2.1 ≠ (TX3 b).2.1 := by decide +kernel
theorem tyX3_ok : ∀ k, k < 4 → parseFieldDescriptor (TX3 k).2.2.1 = some (tyX3 k) := by decide +kernel
abbrev cX3_init : ByteArray := prog_15_method_1_code
def yX3_init : MethodName := ⟨RX3, "<init>", "()V"⟩
def dkwX3_init_3 : List UInt8 := [132, 1, 1, 167, 255, 234, 177]
abbrev dktX3_init_3 : List UInt8 := dkwX3_init_3 ++ []
def dkwX3_init_2 : List UInt8 := [167, 255, 234, 3, 60, 27, 16, 8, 162, 0, 22, 42, 180, 0, 19, 27, 187, 0, 17, 89, 183, 0, 24, 83]
abbrev dktX3_init_2 : List UInt8 := dkwX3_init_2 ++ dktX3_init_3
def dkwX3_init_1 : List UInt8 := [27, 16, 10, 162, 0, 22, 42, 180, 0, 11, 27, 187, 0, 9, 89, 183, 0, 23, 83, 132, 1, 1]
abbrev dktX3_init_1 : List UInt8 := dkwX3_init_1 ++ dktX3_init_2
def dkwX3_init_0 : List UInt8 := [42, 183, 0, 3, 42, 16, 10, 189, 0, 9, 181, 0, 11, 42, 16, 8, 189, 0, 17, 181, 0, 19, 3, 60]
abbrev dktX3_init_0 : List UInt8 := dkwX3_init_0 ++ dktX3_init_1
theorem dksX3_init_0 : cX3_init.data.toList.drop 0 = dktX3_init_0 := by decide +kernel
theorem dksX3_init_1 : cX3_init.data.toList.drop 24 = dktX3_init_1 := dk_seg dksX3_init_0 24 rfl rfl
theorem dksX3_init_2 : cX3_init.data.toList.drop 46 = dktX3_init_2 := dk_seg dksX3_init_1 22 rfl rfl
theorem dksX3_init_3 : cX3_init.data.toList.drop 70 = dktX3_init_3 := dk_seg dksX3_init_2 24 rfl rfl
theorem dX3_init_0 : decode cX3_init 0 = .ok (.aload_n 0, 1) := dk_42 (dk_at dksX3_init_0 0 rfl rfl)
theorem dX3_init_1 : decode cX3_init 1 = .ok (.invokespecial 3, 3) := dk_183 0 3 (dk_at dksX3_init_0 1 rfl rfl)
theorem dX3_init_4 : decode cX3_init 4 = .ok (.aload_n 0, 1) := dk_42 (dk_at dksX3_init_0 4 rfl rfl)
theorem dX3_init_5 : decode cX3_init 5 = .ok (.bipush 10, 2) := dk_16 10 (dk_at dksX3_init_0 5 rfl rfl)
theorem dX3_init_7 : decode cX3_init 7 = .ok (.anewarray 9, 3) := dk_189 0 9 (dk_at dksX3_init_0 7 rfl rfl)
theorem dX3_init_10 : decode cX3_init 10 = .ok (.putfield 11, 3) := dk_181 0 11 (dk_at dksX3_init_0 10 rfl rfl)
theorem dX3_init_13 : decode cX3_init 13 = .ok (.aload_n 0, 1) := dk_42 (dk_at dksX3_init_0 13 rfl rfl)
theorem dX3_init_14 : decode cX3_init 14 = .ok (.bipush 8, 2) := dk_16 8 (dk_at dksX3_init_0 14 rfl rfl)
theorem dX3_init_16 : decode cX3_init 16 = .ok (.anewarray 17, 3) := dk_189 0 17 (dk_at dksX3_init_0 16 rfl rfl)
theorem dX3_init_19 : decode cX3_init 19 = .ok (.putfield 19, 3) := dk_181 0 19 (dk_at dksX3_init_0 19 rfl rfl)
theorem dX3_init_22 : decode cX3_init 22 = .ok (.iconst 0, 1) := dk_3 (dk_at dksX3_init_0 22 rfl rfl)
theorem dX3_init_23 : decode cX3_init 23 = .ok (.istore_n 1, 1) := dk_60 (dk_at dksX3_init_0 23 rfl rfl)
theorem dX3_init_24 : decode cX3_init 24 = .ok (.iload_n 1, 1) := dk_27 (dk_at dksX3_init_1 0 rfl rfl)
theorem dX3_init_25 : decode cX3_init 25 = .ok (.bipush 10, 2) := dk_16 10 (dk_at dksX3_init_1 1 rfl rfl)
theorem dX3_init_27 : decode cX3_init 27 = .ok (.if_icmp .ge 22, 3) := dk_162 0 22 (dk_at dksX3_init_1 3 rfl rfl)
theorem dX3_init_30 : decode cX3_init 30 = .ok (.aload_n 0, 1) := dk_42 (dk_at dksX3_init_1 6 rfl rfl)
theorem dX3_init_31 : decode cX3_init 31 = .ok (.getfield 11, 3) := dk_180 0 11 (dk_at dksX3_init_1 7 rfl rfl)
theorem dX3_init_34 : decode cX3_init 34 = .ok (.iload_n 1, 1) := dk_27 (dk_at dksX3_init_1 10 rfl rfl)
theorem dX3_init_35 : decode cX3_init 35 = .ok (.new 9, 3) := dk_187 0 9 (dk_at dksX3_init_1 11 rfl rfl)
theorem dX3_init_38 : decode cX3_init 38 = .ok (.dup, 1) := dk_89 (dk_at dksX3_init_1 14 rfl rfl)
theorem dX3_init_39 : decode cX3_init 39 = .ok (.invokespecial 23, 3) := dk_183 0 23 (dk_at dksX3_init_1 15 rfl rfl)
theorem dX3_init_42 : decode cX3_init 42 = .ok (.aastore, 1) := dk_83 (dk_at dksX3_init_1 18 rfl rfl)
theorem dX3_init_43 : decode cX3_init 43 = .ok (.iinc 1 1, 3) := dk_132 1 1 (dk_at dksX3_init_1 19 rfl rfl)
theorem dX3_init_46 : decode cX3_init 46 = .ok (.goto (-22), 3) := dk_167 255 234 (dk_at dksX3_init_2 0 rfl rfl)
theorem dX3_init_49 : decode cX3_init 49 = .ok (.iconst 0, 1) := dk_3 (dk_at dksX3_init_2 3 rfl rfl)
theorem dX3_init_50 : decode cX3_init 50 = .ok (.istore_n 1, 1) := dk_60 (dk_at dksX3_init_2 4 rfl rfl)
theorem dX3_init_51 : decode cX3_init 51 = .ok (.iload_n 1, 1) := dk_27 (dk_at dksX3_init_2 5 rfl rfl)
theorem dX3_init_52 : decode cX3_init 52 = .ok (.bipush 8, 2) := dk_16 8 (dk_at dksX3_init_2 6 rfl rfl)
theorem dX3_init_54 : decode cX3_init 54 = .ok (.if_icmp .ge 22, 3) := dk_162 0 22 (dk_at dksX3_init_2 8 rfl rfl)
theorem dX3_init_57 : decode cX3_init 57 = .ok (.aload_n 0, 1) := dk_42 (dk_at dksX3_init_2 11 rfl rfl)
theorem dX3_init_58 : decode cX3_init 58 = .ok (.getfield 19, 3) := dk_180 0 19 (dk_at dksX3_init_2 12 rfl rfl)
theorem dX3_init_61 : decode cX3_init 61 = .ok (.iload_n 1, 1) := dk_27 (dk_at dksX3_init_2 15 rfl rfl)
theorem dX3_init_62 : decode cX3_init 62 = .ok (.new 17, 3) := dk_187 0 17 (dk_at dksX3_init_2 16 rfl rfl)
theorem dX3_init_65 : decode cX3_init 65 = .ok (.dup, 1) := dk_89 (dk_at dksX3_init_2 19 rfl rfl)
theorem dX3_init_66 : decode cX3_init 66 = .ok (.invokespecial 24, 3) := dk_183 0 24 (dk_at dksX3_init_2 20 rfl rfl)
theorem dX3_init_69 : decode cX3_init 69 = .ok (.aastore, 1) := dk_83 (dk_at dksX3_init_2 23 rfl rfl)
theorem dX3_init_70 : decode cX3_init 70 = .ok (.iinc 1 1, 3) := dk_132 1 1 (dk_at dksX3_init_3 0 rfl rfl)
theorem dX3_init_73 : decode cX3_init 73 = .ok (.goto (-22), 3) := dk_167 255 234 (dk_at dksX3_init_3 3 rfl rfl)
theorem dX3_init_76 : decode cX3_init 76 = .ok (.return_, 1) := dk_177 (dk_at dksX3_init_3 6 rfl rfl)
abbrev cX3_fresh : ByteArray := prog_15_method_2_code
def yX3_fresh : MethodName := ⟨RX3, "fresh", "(LLosslessFabric$Told;)V"⟩
def dkwX3_fresh_3 : List UInt8 := [180, 0, 49, 28, 50, 182, 0, 53, 132, 2, 1, 167, 255, 224, 177]
abbrev dktX3_fresh_3 : List UInt8 := dkwX3_fresh_3 ++ []
def dkwX3_fresh_2 : List UInt8 := [61, 28, 42, 180, 0, 25, 180, 0, 46, 162, 0, 27, 42, 180, 0, 19, 28, 50, 42, 180, 0, 25]
abbrev dktX3_fresh_2 : List UInt8 := dkwX3_fresh_2 ++ dktX3_fresh_3
def dkwX3_fresh_1 : List UInt8 := [180, 0, 11, 28, 50, 42, 180, 0, 25, 180, 0, 38, 28, 50, 182, 0, 42, 132, 2, 1, 167, 255, 224, 3]
abbrev dktX3_fresh_1 : List UInt8 := dkwX3_fresh_1 ++ dktX3_fresh_2
def dkwX3_fresh_0 : List UInt8 := [42, 43, 181, 0, 25, 42, 3, 181, 0, 29, 3, 61, 28, 42, 180, 0, 25, 180, 0, 33, 162, 0, 27, 42]
abbrev dktX3_fresh_0 : List UInt8 := dkwX3_fresh_0 ++ dktX3_fresh_1
theorem dksX3_fresh_0 : cX3_fresh.data.toList.drop 0 = dktX3_fresh_0 := by decide +kernel
theorem dksX3_fresh_1 : cX3_fresh.data.toList.drop 24 = dktX3_fresh_1 := dk_seg dksX3_fresh_0 24 rfl rfl
theorem dksX3_fresh_2 : cX3_fresh.data.toList.drop 48 = dktX3_fresh_2 := dk_seg dksX3_fresh_1 24 rfl rfl
theorem dksX3_fresh_3 : cX3_fresh.data.toList.drop 70 = dktX3_fresh_3 := dk_seg dksX3_fresh_2 22 rfl rfl
theorem dX3_fresh_0 : decode cX3_fresh 0 = .ok (.aload_n 0, 1) := dk_42 (dk_at dksX3_fresh_0 0 rfl rfl)
theorem dX3_fresh_1 : decode cX3_fresh 1 = .ok (.aload_n 1, 1) := dk_43 (dk_at dksX3_fresh_0 1 rfl rfl)
theorem dX3_fresh_2 : decode cX3_fresh 2 = .ok (.putfield 25, 3) := dk_181 0 25 (dk_at dksX3_fresh_0 2 rfl rfl)
theorem dX3_fresh_5 : decode cX3_fresh 5 = .ok (.aload_n 0, 1) := dk_42 (dk_at dksX3_fresh_0 5 rfl rfl)
theorem dX3_fresh_6 : decode cX3_fresh 6 = .ok (.iconst 0, 1) := dk_3 (dk_at dksX3_fresh_0 6 rfl rfl)
theorem dX3_fresh_7 : decode cX3_fresh 7 = .ok (.putfield 29, 3) := dk_181 0 29 (dk_at dksX3_fresh_0 7 rfl rfl)
theorem dX3_fresh_10 : decode cX3_fresh 10 = .ok (.iconst 0, 1) := dk_3 (dk_at dksX3_fresh_0 10 rfl rfl)
theorem dX3_fresh_11 : decode cX3_fresh 11 = .ok (.istore_n 2, 1) := dk_61 (dk_at dksX3_fresh_0 11 rfl rfl)
theorem dX3_fresh_12 : decode cX3_fresh 12 = .ok (.iload_n 2, 1) := dk_28 (dk_at dksX3_fresh_0 12 rfl rfl)
theorem dX3_fresh_13 : decode cX3_fresh 13 = .ok (.aload_n 0, 1) := dk_42 (dk_at dksX3_fresh_0 13 rfl rfl)
theorem dX3_fresh_14 : decode cX3_fresh 14 = .ok (.getfield 25, 3) := dk_180 0 25 (dk_at dksX3_fresh_0 14 rfl rfl)
theorem dX3_fresh_17 : decode cX3_fresh 17 = .ok (.getfield 33, 3) := dk_180 0 33 (dk_at dksX3_fresh_0 17 rfl rfl)
theorem dX3_fresh_20 : decode cX3_fresh 20 = .ok (.if_icmp .ge 27, 3) := dk_162 0 27 (dk_at dksX3_fresh_0 20 rfl rfl)
theorem dX3_fresh_23 : decode cX3_fresh 23 = .ok (.aload_n 0, 1) := dk_42 (dk_at dksX3_fresh_0 23 rfl rfl)
theorem dX3_fresh_24 : decode cX3_fresh 24 = .ok (.getfield 11, 3) := dk_180 0 11 (dk_at dksX3_fresh_1 0 rfl rfl)
theorem dX3_fresh_27 : decode cX3_fresh 27 = .ok (.iload_n 2, 1) := dk_28 (dk_at dksX3_fresh_1 3 rfl rfl)
theorem dX3_fresh_28 : decode cX3_fresh 28 = .ok (.aaload, 1) := dk_50 (dk_at dksX3_fresh_1 4 rfl rfl)
theorem dX3_fresh_29 : decode cX3_fresh 29 = .ok (.aload_n 0, 1) := dk_42 (dk_at dksX3_fresh_1 5 rfl rfl)
theorem dX3_fresh_30 : decode cX3_fresh 30 = .ok (.getfield 25, 3) := dk_180 0 25 (dk_at dksX3_fresh_1 6 rfl rfl)
theorem dX3_fresh_33 : decode cX3_fresh 33 = .ok (.getfield 38, 3) := dk_180 0 38 (dk_at dksX3_fresh_1 9 rfl rfl)
theorem dX3_fresh_36 : decode cX3_fresh 36 = .ok (.iload_n 2, 1) := dk_28 (dk_at dksX3_fresh_1 12 rfl rfl)
theorem dX3_fresh_37 : decode cX3_fresh 37 = .ok (.aaload, 1) := dk_50 (dk_at dksX3_fresh_1 13 rfl rfl)
theorem dX3_fresh_38 : decode cX3_fresh 38 = .ok (.invokevirtual 42, 3) := dk_182 0 42 (dk_at dksX3_fresh_1 14 rfl rfl)
theorem dX3_fresh_41 : decode cX3_fresh 41 = .ok (.iinc 2 1, 3) := dk_132 2 1 (dk_at dksX3_fresh_1 17 rfl rfl)
theorem dX3_fresh_44 : decode cX3_fresh 44 = .ok (.goto (-32), 3) := dk_167 255 224 (dk_at dksX3_fresh_1 20 rfl rfl)
theorem dX3_fresh_47 : decode cX3_fresh 47 = .ok (.iconst 0, 1) := dk_3 (dk_at dksX3_fresh_1 23 rfl rfl)
theorem dX3_fresh_48 : decode cX3_fresh 48 = .ok (.istore_n 2, 1) := dk_61 (dk_at dksX3_fresh_2 0 rfl rfl)
theorem dX3_fresh_49 : decode cX3_fresh 49 = .ok (.iload_n 2, 1) := dk_28 (dk_at dksX3_fresh_2 1 rfl rfl)
theorem dX3_fresh_50 : decode cX3_fresh 50 = .ok (.aload_n 0, 1) := dk_42 (dk_at dksX3_fresh_2 2 rfl rfl)
theorem dX3_fresh_51 : decode cX3_fresh 51 = .ok (.getfield 25, 3) := dk_180 0 25 (dk_at dksX3_fresh_2 3 rfl rfl)
theorem dX3_fresh_54 : decode cX3_fresh 54 = .ok (.getfield 46, 3) := dk_180 0 46 (dk_at dksX3_fresh_2 6 rfl rfl)
theorem dX3_fresh_57 : decode cX3_fresh 57 = .ok (.if_icmp .ge 27, 3) := dk_162 0 27 (dk_at dksX3_fresh_2 9 rfl rfl)
theorem dX3_fresh_60 : decode cX3_fresh 60 = .ok (.aload_n 0, 1) := dk_42 (dk_at dksX3_fresh_2 12 rfl rfl)
theorem dX3_fresh_61 : decode cX3_fresh 61 = .ok (.getfield 19, 3) := dk_180 0 19 (dk_at dksX3_fresh_2 13 rfl rfl)
theorem dX3_fresh_64 : decode cX3_fresh 64 = .ok (.iload_n 2, 1) := dk_28 (dk_at dksX3_fresh_2 16 rfl rfl)
theorem dX3_fresh_65 : decode cX3_fresh 65 = .ok (.aaload, 1) := dk_50 (dk_at dksX3_fresh_2 17 rfl rfl)
theorem dX3_fresh_66 : decode cX3_fresh 66 = .ok (.aload_n 0, 1) := dk_42 (dk_at dksX3_fresh_2 18 rfl rfl)
theorem dX3_fresh_67 : decode cX3_fresh 67 = .ok (.getfield 25, 3) := dk_180 0 25 (dk_at dksX3_fresh_2 19 rfl rfl)
theorem dX3_fresh_70 : decode cX3_fresh 70 = .ok (.getfield 49, 3) := dk_180 0 49 (dk_at dksX3_fresh_3 0 rfl rfl)
theorem dX3_fresh_73 : decode cX3_fresh 73 = .ok (.iload_n 2, 1) := dk_28 (dk_at dksX3_fresh_3 3 rfl rfl)
theorem dX3_fresh_74 : decode cX3_fresh 74 = .ok (.aaload, 1) := dk_50 (dk_at dksX3_fresh_3 4 rfl rfl)
theorem dX3_fresh_75 : decode cX3_fresh 75 = .ok (.invokevirtual 53, 3) := dk_182 0 53 (dk_at dksX3_fresh_3 5 rfl rfl)
theorem dX3_fresh_78 : decode cX3_fresh 78 = .ok (.iinc 2 1, 3) := dk_132 2 1 (dk_at dksX3_fresh_3 8 rfl rfl)
theorem dX3_fresh_81 : decode cX3_fresh 81 = .ok (.goto (-32), 3) := dk_167 255 224 (dk_at dksX3_fresh_3 11 rfl rfl)
theorem dX3_fresh_84 : decode cX3_fresh 84 = .ok (.return_, 1) := dk_177 (dk_at dksX3_fresh_3 14 rfl rfl)
abbrev cX3_like : ByteArray := prog_15_method_3_code
def yX3_like : MethodName := ⟨RX3, "like", "(LLosslessFabric$State;)LLosslessFabric$State;"⟩
def dkwX3_like_3 : List UInt8 := [180, 0, 19, 28, 50, 182, 0, 60, 132, 2, 1, 167, 255, 227, 42, 176]
abbrev dktX3_like_3 : List UInt8 := dkwX3_like_3 ++ []
def dkwX3_like_2 : List UInt8 := [167, 255, 227, 3, 61, 28, 42, 180, 0, 25, 180, 0, 46, 162, 0, 24, 42, 180, 0, 19, 28, 50, 43]
abbrev dktX3_like_2 : List UInt8 := dkwX3_like_2 ++ dktX3_like_3
def dkwX3_like_1 : List UInt8 := [180, 0, 33, 162, 0, 24, 42, 180, 0, 11, 28, 50, 43, 180, 0, 11, 28, 50, 182, 0, 56, 132, 2, 1]
abbrev dktX3_like_1 : List UInt8 := dkwX3_like_1 ++ dktX3_like_2
def dkwX3_like_0 : List UInt8 := [42, 43, 180, 0, 25, 181, 0, 25, 42, 43, 180, 0, 29, 181, 0, 29, 3, 61, 28, 42, 180, 0, 25]
abbrev dktX3_like_0 : List UInt8 := dkwX3_like_0 ++ dktX3_like_1
theorem dksX3_like_0 : cX3_like.data.toList.drop 0 = dktX3_like_0 := by decide +kernel
theorem dksX3_like_1 : cX3_like.data.toList.drop 23 = dktX3_like_1 := dk_seg dksX3_like_0 23 rfl rfl
theorem dksX3_like_2 : cX3_like.data.toList.drop 47 = dktX3_like_2 := dk_seg dksX3_like_1 24 rfl rfl
theorem dksX3_like_3 : cX3_like.data.toList.drop 70 = dktX3_like_3 := dk_seg dksX3_like_2 23 rfl rfl
theorem dX3_like_0 : decode cX3_like 0 = .ok (.aload_n 0, 1) := dk_42 (dk_at dksX3_like_0 0 rfl rfl)
theorem dX3_like_1 : decode cX3_like 1 = .ok (.aload_n 1, 1) := dk_43 (dk_at dksX3_like_0 1 rfl rfl)
theorem dX3_like_2 : decode cX3_like 2 = .ok (.getfield 25, 3) := dk_180 0 25 (dk_at dksX3_like_0 2 rfl rfl)
theorem dX3_like_5 : decode cX3_like 5 = .ok (.putfield 25, 3) := dk_181 0 25 (dk_at dksX3_like_0 5 rfl rfl)
theorem dX3_like_8 : decode cX3_like 8 = .ok (.aload_n 0, 1) := dk_42 (dk_at dksX3_like_0 8 rfl rfl)
theorem dX3_like_9 : decode cX3_like 9 = .ok (.aload_n 1, 1) := dk_43 (dk_at dksX3_like_0 9 rfl rfl)
theorem dX3_like_10 : decode cX3_like 10 = .ok (.getfield 29, 3) := dk_180 0 29 (dk_at dksX3_like_0 10 rfl rfl)
theorem dX3_like_13 : decode cX3_like 13 = .ok (.putfield 29, 3) := dk_181 0 29 (dk_at dksX3_like_0 13 rfl rfl)
theorem dX3_like_16 : decode cX3_like 16 = .ok (.iconst 0, 1) := dk_3 (dk_at dksX3_like_0 16 rfl rfl)
theorem dX3_like_17 : decode cX3_like 17 = .ok (.istore_n 2, 1) := dk_61 (dk_at dksX3_like_0 17 rfl rfl)
theorem dX3_like_18 : decode cX3_like 18 = .ok (.iload_n 2, 1) := dk_28 (dk_at dksX3_like_0 18 rfl rfl)
theorem dX3_like_19 : decode cX3_like 19 = .ok (.aload_n 0, 1) := dk_42 (dk_at dksX3_like_0 19 rfl rfl)
theorem dX3_like_20 : decode cX3_like 20 = .ok (.getfield 25, 3) := dk_180 0 25 (dk_at dksX3_like_0 20 rfl rfl)
theorem dX3_like_23 : decode cX3_like 23 = .ok (.getfield 33, 3) := dk_180 0 33 (dk_at dksX3_like_1 0 rfl rfl)
theorem dX3_like_26 : decode cX3_like 26 = .ok (.if_icmp .ge 24, 3) := dk_162 0 24 (dk_at dksX3_like_1 3 rfl rfl)
theorem dX3_like_29 : decode cX3_like 29 = .ok (.aload_n 0, 1) := dk_42 (dk_at dksX3_like_1 6 rfl rfl)
theorem dX3_like_30 : decode cX3_like 30 = .ok (.getfield 11, 3) := dk_180 0 11 (dk_at dksX3_like_1 7 rfl rfl)
theorem dX3_like_33 : decode cX3_like 33 = .ok (.iload_n 2, 1) := dk_28 (dk_at dksX3_like_1 10 rfl rfl)
theorem dX3_like_34 : decode cX3_like 34 = .ok (.aaload, 1) := dk_50 (dk_at dksX3_like_1 11 rfl rfl)
theorem dX3_like_35 : decode cX3_like 35 = .ok (.aload_n 1, 1) := dk_43 (dk_at dksX3_like_1 12 rfl rfl)
theorem dX3_like_36 : decode cX3_like 36 = .ok (.getfield 11, 3) := dk_180 0 11 (dk_at dksX3_like_1 13 rfl rfl)
theorem dX3_like_39 : decode cX3_like 39 = .ok (.iload_n 2, 1) := dk_28 (dk_at dksX3_like_1 16 rfl rfl)
theorem dX3_like_40 : decode cX3_like 40 = .ok (.aaload, 1) := dk_50 (dk_at dksX3_like_1 17 rfl rfl)
theorem dX3_like_41 : decode cX3_like 41 = .ok (.invokevirtual 56, 3) := dk_182 0 56 (dk_at dksX3_like_1 18 rfl rfl)
theorem dX3_like_44 : decode cX3_like 44 = .ok (.iinc 2 1, 3) := dk_132 2 1 (dk_at dksX3_like_1 21 rfl rfl)
theorem dX3_like_47 : decode cX3_like 47 = .ok (.goto (-29), 3) := dk_167 255 227 (dk_at dksX3_like_2 0 rfl rfl)
theorem dX3_like_50 : decode cX3_like 50 = .ok (.iconst 0, 1) := dk_3 (dk_at dksX3_like_2 3 rfl rfl)
theorem dX3_like_51 : decode cX3_like 51 = .ok (.istore_n 2, 1) := dk_61 (dk_at dksX3_like_2 4 rfl rfl)
theorem dX3_like_52 : decode cX3_like 52 = .ok (.iload_n 2, 1) := dk_28 (dk_at dksX3_like_2 5 rfl rfl)
theorem dX3_like_53 : decode cX3_like 53 = .ok (.aload_n 0, 1) := dk_42 (dk_at dksX3_like_2 6 rfl rfl)
theorem dX3_like_54 : decode cX3_like 54 = .ok (.getfield 25, 3) := dk_180 0 25 (dk_at dksX3_like_2 7 rfl rfl)
theorem dX3_like_57 : decode cX3_like 57 = .ok (.getfield 46, 3) := dk_180 0 46 (dk_at dksX3_like_2 10 rfl rfl)
theorem dX3_like_60 : decode cX3_like 60 = .ok (.if_icmp .ge 24, 3) := dk_162 0 24 (dk_at dksX3_like_2 13 rfl rfl)
theorem dX3_like_63 : decode cX3_like 63 = .ok (.aload_n 0, 1) := dk_42 (dk_at dksX3_like_2 16 rfl rfl)
theorem dX3_like_64 : decode cX3_like 64 = .ok (.getfield 19, 3) := dk_180 0 19 (dk_at dksX3_like_2 17 rfl rfl)
theorem dX3_like_67 : decode cX3_like 67 = .ok (.iload_n 2, 1) := dk_28 (dk_at dksX3_like_2 20 rfl rfl)
theorem dX3_like_68 : decode cX3_like 68 = .ok (.aaload, 1) := dk_50 (dk_at dksX3_like_2 21 rfl rfl)
theorem dX3_like_69 : decode cX3_like 69 = .ok (.aload_n 1, 1) := dk_43 (dk_at dksX3_like_2 22 rfl rfl)
theorem dX3_like_70 : decode cX3_like 70 = .ok (.getfield 19, 3) := dk_180 0 19 (dk_at dksX3_like_3 0 rfl rfl)
theorem dX3_like_73 : decode cX3_like 73 = .ok (.iload_n 2, 1) := dk_28 (dk_at dksX3_like_3 3 rfl rfl)
theorem dX3_like_74 : decode cX3_like 74 = .ok (.aaload, 1) := dk_50 (dk_at dksX3_like_3 4 rfl rfl)
theorem dX3_like_75 : decode cX3_like 75 = .ok (.invokevirtual 60, 3) := dk_182 0 60 (dk_at dksX3_like_3 5 rfl rfl)
theorem dX3_like_78 : decode cX3_like 78 = .ok (.iinc 2 1, 3) := dk_132 2 1 (dk_at dksX3_like_3 8 rfl rfl)
theorem dX3_like_81 : decode cX3_like 81 = .ok (.goto (-29), 3) := dk_167 255 227 (dk_at dksX3_like_3 11 rfl rfl)
theorem dX3_like_84 : decode cX3_like 84 = .ok (.aload_n 0, 1) := dk_42 (dk_at dksX3_like_3 14 rfl rfl)
theorem dX3_like_85 : decode cX3_like 85 = .ok (.areturn, 1) := dk_176 (dk_at dksX3_like_3 15 rfl rfl)
abbrev cX3_ready : ByteArray := prog_15_method_5_code
def yX3_ready : MethodName := ⟨RX3, "ready", "(II)I"⟩
def dkwX3_ready_2 : List UInt8 := [180, 0, 25, 180, 0, 49, 28, 50, 180, 0, 80, 29, 4, 100, 46, 50, 180, 0, 84, 28, 46, 172]
abbrev dktX3_ready_2 : List UInt8 := dkwX3_ready_2 ++ []
def dkwX3_ready_1 : List UInt8 := [154, 0, 18, 42, 180, 0, 19, 28, 50, 180, 0, 77, 16, 16, 108, 167, 0, 29, 42, 180, 0, 11, 42]
abbrev dktX3_ready_1 : List UInt8 := dkwX3_ready_1 ++ dktX3_ready_2
def dkwX3_ready_0 : List UInt8 := [42, 180, 0, 25, 180, 0, 49, 28, 50, 27, 182, 0, 71, 62, 29, 156, 0, 7, 3, 167, 0, 48, 29]
abbrev dktX3_ready_0 : List UInt8 := dkwX3_ready_0 ++ dktX3_ready_1
theorem dksX3_ready_0 : cX3_ready.data.toList.drop 0 = dktX3_ready_0 := by decide +kernel
theorem dksX3_ready_1 : cX3_ready.data.toList.drop 23 = dktX3_ready_1 := dk_seg dksX3_ready_0 23 rfl rfl
theorem dksX3_ready_2 : cX3_ready.data.toList.drop 46 = dktX3_ready_2 := dk_seg dksX3_ready_1 23 rfl rfl
theorem dX3_ready_0 : decode cX3_ready 0 = .ok (.aload_n 0, 1) := dk_42 (dk_at dksX3_ready_0 0 rfl rfl)
theorem dX3_ready_1 : decode cX3_ready 1 = .ok (.getfield 25, 3) := dk_180 0 25 (dk_at dksX3_ready_0 1 rfl rfl)
theorem dX3_ready_4 : decode cX3_ready 4 = .ok (.getfield 49, 3) := dk_180 0 49 (dk_at dksX3_ready_0 4 rfl rfl)
theorem dX3_ready_7 : decode cX3_ready 7 = .ok (.iload_n 2, 1) := dk_28 (dk_at dksX3_ready_0 7 rfl rfl)
theorem dX3_ready_8 : decode cX3_ready 8 = .ok (.aaload, 1) := dk_50 (dk_at dksX3_ready_0 8 rfl rfl)
theorem dX3_ready_9 : decode cX3_ready 9 = .ok (.iload_n 1, 1) := dk_27 (dk_at dksX3_ready_0 9 rfl rfl)
theorem dX3_ready_10 : decode cX3_ready 10 = .ok (.invokevirtual 71, 3) := dk_182 0 71 (dk_at dksX3_ready_0 10 rfl rfl)
theorem dX3_ready_13 : decode cX3_ready 13 = .ok (.istore_n 3, 1) := dk_62 (dk_at dksX3_ready_0 13 rfl rfl)
theorem dX3_ready_14 : decode cX3_ready 14 = .ok (.iload_n 3, 1) := dk_29 (dk_at dksX3_ready_0 14 rfl rfl)
theorem dX3_ready_15 : decode cX3_ready 15 = .ok (.ifCond .ge 7, 3) := dk_156 0 7 (dk_at dksX3_ready_0 15 rfl rfl)
theorem dX3_ready_18 : decode cX3_ready 18 = .ok (.iconst 0, 1) := dk_3 (dk_at dksX3_ready_0 18 rfl rfl)
theorem dX3_ready_19 : decode cX3_ready 19 = .ok (.goto 48, 3) := dk_167 0 48 (dk_at dksX3_ready_0 19 rfl rfl)
theorem dX3_ready_22 : decode cX3_ready 22 = .ok (.iload_n 3, 1) := dk_29 (dk_at dksX3_ready_0 22 rfl rfl)
theorem dX3_ready_23 : decode cX3_ready 23 = .ok (.ifCond .ne 18, 3) := dk_154 0 18 (dk_at dksX3_ready_1 0 rfl rfl)
theorem dX3_ready_26 : decode cX3_ready 26 = .ok (.aload_n 0, 1) := dk_42 (dk_at dksX3_ready_1 3 rfl rfl)
theorem dX3_ready_27 : decode cX3_ready 27 = .ok (.getfield 19, 3) := dk_180 0 19 (dk_at dksX3_ready_1 4 rfl rfl)
theorem dX3_ready_30 : decode cX3_ready 30 = .ok (.iload_n 2, 1) := dk_28 (dk_at dksX3_ready_1 7 rfl rfl)
theorem dX3_ready_31 : decode cX3_ready 31 = .ok (.aaload, 1) := dk_50 (dk_at dksX3_ready_1 8 rfl rfl)
theorem dX3_ready_32 : decode cX3_ready 32 = .ok (.getfield 77, 3) := dk_180 0 77 (dk_at dksX3_ready_1 9 rfl rfl)
theorem dX3_ready_35 : decode cX3_ready 35 = .ok (.bipush 16, 2) := dk_16 16 (dk_at dksX3_ready_1 12 rfl rfl)
theorem dX3_ready_37 : decode cX3_ready 37 = .ok (.idiv, 1) := dk_108 (dk_at dksX3_ready_1 14 rfl rfl)
theorem dX3_ready_38 : decode cX3_ready 38 = .ok (.goto 29, 3) := dk_167 0 29 (dk_at dksX3_ready_1 15 rfl rfl)
theorem dX3_ready_41 : decode cX3_ready 41 = .ok (.aload_n 0, 1) := dk_42 (dk_at dksX3_ready_1 18 rfl rfl)
theorem dX3_ready_42 : decode cX3_ready 42 = .ok (.getfield 11, 3) := dk_180 0 11 (dk_at dksX3_ready_1 19 rfl rfl)
theorem dX3_ready_45 : decode cX3_ready 45 = .ok (.aload_n 0, 1) := dk_42 (dk_at dksX3_ready_1 22 rfl rfl)
theorem dX3_ready_46 : decode cX3_ready 46 = .ok (.getfield 25, 3) := dk_180 0 25 (dk_at dksX3_ready_2 0 rfl rfl)
theorem dX3_ready_49 : decode cX3_ready 49 = .ok (.getfield 49, 3) := dk_180 0 49 (dk_at dksX3_ready_2 3 rfl rfl)
theorem dX3_ready_52 : decode cX3_ready 52 = .ok (.iload_n 2, 1) := dk_28 (dk_at dksX3_ready_2 6 rfl rfl)
theorem dX3_ready_53 : decode cX3_ready 53 = .ok (.aaload, 1) := dk_50 (dk_at dksX3_ready_2 7 rfl rfl)
theorem dX3_ready_54 : decode cX3_ready 54 = .ok (.getfield 80, 3) := dk_180 0 80 (dk_at dksX3_ready_2 8 rfl rfl)
theorem dX3_ready_57 : decode cX3_ready 57 = .ok (.iload_n 3, 1) := dk_29 (dk_at dksX3_ready_2 11 rfl rfl)
theorem dX3_ready_58 : decode cX3_ready 58 = .ok (.iconst 1, 1) := dk_4 (dk_at dksX3_ready_2 12 rfl rfl)
theorem dX3_ready_59 : decode cX3_ready 59 = .ok (.isub, 1) := dk_100 (dk_at dksX3_ready_2 13 rfl rfl)
theorem dX3_ready_60 : decode cX3_ready 60 = .ok (.iaload, 1) := dk_46 (dk_at dksX3_ready_2 14 rfl rfl)
theorem dX3_ready_61 : decode cX3_ready 61 = .ok (.aaload, 1) := dk_50 (dk_at dksX3_ready_2 15 rfl rfl)
theorem dX3_ready_62 : decode cX3_ready 62 = .ok (.getfield 84, 3) := dk_180 0 84 (dk_at dksX3_ready_2 16 rfl rfl)
theorem dX3_ready_65 : decode cX3_ready 65 = .ok (.iload_n 2, 1) := dk_28 (dk_at dksX3_ready_2 19 rfl rfl)
theorem dX3_ready_66 : decode cX3_ready 66 = .ok (.iaload, 1) := dk_46 (dk_at dksX3_ready_2 20 rfl rfl)
theorem dX3_ready_67 : decode cX3_ready 67 = .ok (.ireturn, 1) := dk_172 (dk_at dksX3_ready_2 21 rfl rfl)
abbrev cX3_isPaused : ByteArray := prog_15_method_4_code
def yX3_isPaused : MethodName := ⟨RX3, "isPaused", "(I)Z"⟩
def dkwX3_isPaused_1 : List UInt8 := [4, 160, 0, 7, 4, 167, 0, 4, 3, 172]
abbrev dktX3_isPaused_1 : List UInt8 := dkwX3_isPaused_1 ++ []
def dkwX3_isPaused_0 : List UInt8 := [42, 180, 0, 11, 27, 50, 180, 0, 63, 42, 180, 0, 25, 180, 0, 38, 27, 50, 180, 0, 66, 122, 4, 126]
abbrev dktX3_isPaused_0 : List UInt8 := dkwX3_isPaused_0 ++ dktX3_isPaused_1
theorem dksX3_isPaused_0 : cX3_isPaused.data.toList.drop 0 = dktX3_isPaused_0 := by decide +kernel
theorem dksX3_isPaused_1 : cX3_isPaused.data.toList.drop 24 = dktX3_isPaused_1 := dk_seg dksX3_isPaused_0 24 rfl rfl
theorem dX3_isPaused_0 : decode cX3_isPaused 0 = .ok (.aload_n 0, 1) := dk_42 (dk_at dksX3_isPaused_0 0 rfl rfl)
theorem dX3_isPaused_1 : decode cX3_isPaused 1 = .ok (.getfield 11, 3) := dk_180 0 11 (dk_at dksX3_isPaused_0 1 rfl rfl)
theorem dX3_isPaused_4 : decode cX3_isPaused 4 = .ok (.iload_n 1, 1) := dk_27 (dk_at dksX3_isPaused_0 4 rfl rfl)
theorem dX3_isPaused_5 : decode cX3_isPaused 5 = .ok (.aaload, 1) := dk_50 (dk_at dksX3_isPaused_0 5 rfl rfl)
theorem dX3_isPaused_6 : decode cX3_isPaused 6 = .ok (.getfield 63, 3) := dk_180 0 63 (dk_at dksX3_isPaused_0 6 rfl rfl)
theorem dX3_isPaused_9 : decode cX3_isPaused 9 = .ok (.aload_n 0, 1) := dk_42 (dk_at dksX3_isPaused_0 9 rfl rfl)
theorem dX3_isPaused_10 : decode cX3_isPaused 10 = .ok (.getfield 25, 3) := dk_180 0 25 (dk_at dksX3_isPaused_0 10 rfl rfl)
theorem dX3_isPaused_13 : decode cX3_isPaused 13 = .ok (.getfield 38, 3) := dk_180 0 38 (dk_at dksX3_isPaused_0 13 rfl rfl)
theorem dX3_isPaused_16 : decode cX3_isPaused 16 = .ok (.iload_n 1, 1) := dk_27 (dk_at dksX3_isPaused_0 16 rfl rfl)
theorem dX3_isPaused_17 : decode cX3_isPaused 17 = .ok (.aaload, 1) := dk_50 (dk_at dksX3_isPaused_0 17 rfl rfl)
theorem dX3_isPaused_18 : decode cX3_isPaused 18 = .ok (.getfield 66, 3) := dk_180 0 66 (dk_at dksX3_isPaused_0 18 rfl rfl)
theorem dX3_isPaused_21 : decode cX3_isPaused 21 = .ok (.ishr, 1) := dk_122 (dk_at dksX3_isPaused_0 21 rfl rfl)
theorem dX3_isPaused_22 : decode cX3_isPaused 22 = .ok (.iconst 1, 1) := dk_4 (dk_at dksX3_isPaused_0 22 rfl rfl)
theorem dX3_isPaused_23 : decode cX3_isPaused 23 = .ok (.iand, 1) := dk_126 (dk_at dksX3_isPaused_0 23 rfl rfl)
theorem dX3_isPaused_24 : decode cX3_isPaused 24 = .ok (.iconst 1, 1) := dk_4 (dk_at dksX3_isPaused_1 0 rfl rfl)
theorem dX3_isPaused_25 : decode cX3_isPaused 25 = .ok (.if_icmp .ne 7, 3) := dk_160 0 7 (dk_at dksX3_isPaused_1 1 rfl rfl)
theorem dX3_isPaused_28 : decode cX3_isPaused 28 = .ok (.iconst 1, 1) := dk_4 (dk_at dksX3_isPaused_1 4 rfl rfl)
theorem dX3_isPaused_29 : decode cX3_isPaused 29 = .ok (.goto 4, 3) := dk_167 0 4 (dk_at dksX3_isPaused_1 5 rfl rfl)
theorem dX3_isPaused_32 : decode cX3_isPaused 32 = .ok (.iconst 0, 1) := dk_3 (dk_at dksX3_isPaused_1 8 rfl rfl)
theorem dX3_isPaused_33 : decode cX3_isPaused 33 = .ok (.ireturn, 1) := dk_172 (dk_at dksX3_isPaused_1 9 rfl rfl)
abbrev cX3_feedback : ByteArray := prog_15_method_6_code
def yX3_feedback : MethodName := ⟨RX3, "feedback", "(I)I"⟩
def dkwX3_feedback_1 : List UInt8 := [180, 0, 94, 28, 42, 180, 0, 11, 27, 50, 180, 0, 97, 100, 104, 96, 172]
abbrev dktX3_feedback_1 : List UInt8 := dkwX3_feedback_1 ++ []
def dkwX3_feedback_0 : List UInt8 := [42, 180, 0, 11, 27, 50, 182, 0, 87, 61, 28, 42, 180, 0, 25, 180, 0, 91, 100, 42, 180, 0, 25]
abbrev dktX3_feedback_0 : List UInt8 := dkwX3_feedback_0 ++ dktX3_feedback_1
theorem dksX3_feedback_0 : cX3_feedback.data.toList.drop 0 = dktX3_feedback_0 := by decide +kernel
theorem dksX3_feedback_1 : cX3_feedback.data.toList.drop 23 = dktX3_feedback_1 := dk_seg dksX3_feedback_0 23 rfl rfl
theorem dX3_feedback_0 : decode cX3_feedback 0 = .ok (.aload_n 0, 1) := dk_42 (dk_at dksX3_feedback_0 0 rfl rfl)
theorem dX3_feedback_1 : decode cX3_feedback 1 = .ok (.getfield 11, 3) := dk_180 0 11 (dk_at dksX3_feedback_0 1 rfl rfl)
theorem dX3_feedback_4 : decode cX3_feedback 4 = .ok (.iload_n 1, 1) := dk_27 (dk_at dksX3_feedback_0 4 rfl rfl)
theorem dX3_feedback_5 : decode cX3_feedback 5 = .ok (.aaload, 1) := dk_50 (dk_at dksX3_feedback_0 5 rfl rfl)
theorem dX3_feedback_6 : decode cX3_feedback 6 = .ok (.invokevirtual 87, 3) := dk_182 0 87 (dk_at dksX3_feedback_0 6 rfl rfl)
theorem dX3_feedback_9 : decode cX3_feedback 9 = .ok (.istore_n 2, 1) := dk_61 (dk_at dksX3_feedback_0 9 rfl rfl)
theorem dX3_feedback_10 : decode cX3_feedback 10 = .ok (.iload_n 2, 1) := dk_28 (dk_at dksX3_feedback_0 10 rfl rfl)
theorem dX3_feedback_11 : decode cX3_feedback 11 = .ok (.aload_n 0, 1) := dk_42 (dk_at dksX3_feedback_0 11 rfl rfl)
theorem dX3_feedback_12 : decode cX3_feedback 12 = .ok (.getfield 25, 3) := dk_180 0 25 (dk_at dksX3_feedback_0 12 rfl rfl)
theorem dX3_feedback_15 : decode cX3_feedback 15 = .ok (.getfield 91, 3) := dk_180 0 91 (dk_at dksX3_feedback_0 15 rfl rfl)
theorem dX3_feedback_18 : decode cX3_feedback 18 = .ok (.isub, 1) := dk_100 (dk_at dksX3_feedback_0 18 rfl rfl)
theorem dX3_feedback_19 : decode cX3_feedback 19 = .ok (.aload_n 0, 1) := dk_42 (dk_at dksX3_feedback_0 19 rfl rfl)
theorem dX3_feedback_20 : decode cX3_feedback 20 = .ok (.getfield 25, 3) := dk_180 0 25 (dk_at dksX3_feedback_0 20 rfl rfl)
theorem dX3_feedback_23 : decode cX3_feedback 23 = .ok (.getfield 94, 3) := dk_180 0 94 (dk_at dksX3_feedback_1 0 rfl rfl)
theorem dX3_feedback_26 : decode cX3_feedback 26 = .ok (.iload_n 2, 1) := dk_28 (dk_at dksX3_feedback_1 3 rfl rfl)
theorem dX3_feedback_27 : decode cX3_feedback 27 = .ok (.aload_n 0, 1) := dk_42 (dk_at dksX3_feedback_1 4 rfl rfl)
theorem dX3_feedback_28 : decode cX3_feedback 28 = .ok (.getfield 11, 3) := dk_180 0 11 (dk_at dksX3_feedback_1 5 rfl rfl)
theorem dX3_feedback_31 : decode cX3_feedback 31 = .ok (.iload_n 1, 1) := dk_27 (dk_at dksX3_feedback_1 8 rfl rfl)
theorem dX3_feedback_32 : decode cX3_feedback 32 = .ok (.aaload, 1) := dk_50 (dk_at dksX3_feedback_1 9 rfl rfl)
theorem dX3_feedback_33 : decode cX3_feedback 33 = .ok (.getfield 97, 3) := dk_180 0 97 (dk_at dksX3_feedback_1 10 rfl rfl)
theorem dX3_feedback_36 : decode cX3_feedback 36 = .ok (.isub, 1) := dk_100 (dk_at dksX3_feedback_1 13 rfl rfl)
theorem dX3_feedback_37 : decode cX3_feedback 37 = .ok (.imul, 1) := dk_104 (dk_at dksX3_feedback_1 14 rfl rfl)
theorem dX3_feedback_38 : decode cX3_feedback 38 = .ok (.iadd, 1) := dk_96 (dk_at dksX3_feedback_1 15 rfl rfl)
theorem dX3_feedback_39 : decode cX3_feedback 39 = .ok (.ireturn, 1) := dk_172 (dk_at dksX3_feedback_1 16 rfl rfl)
abbrev cX3_noticeOf : ByteArray := prog_15_method_7_code
def yX3_noticeOf : MethodName := ⟨RX3, "noticeOf", "(I)I"⟩
def dkwX3_noticeOf_2 : List UInt8 := [172]
abbrev dktX3_noticeOf_2 : List UInt8 := dkwX3_noticeOf_2 ++ []
def dkwX3_noticeOf_1 : List UInt8 := [180, 0, 91, 4, 5, 42, 180, 0, 25, 180, 0, 94, 104, 96, 104, 133, 109, 184, 0, 104, 184, 0, 110, 136]
abbrev dktX3_noticeOf_1 : List UInt8 := dkwX3_noticeOf_1 ++ dktX3_noticeOf_2
def dkwX3_noticeOf_0 : List UInt8 := [27, 157, 0, 7, 3, 167, 0, 41, 10, 20, 0, 100, 20, 0, 102, 27, 133, 105, 42, 180, 0, 25]
abbrev dktX3_noticeOf_0 : List UInt8 := dkwX3_noticeOf_0 ++ dktX3_noticeOf_1
theorem dksX3_noticeOf_0 : cX3_noticeOf.data.toList.drop 0 = dktX3_noticeOf_0 := by decide +kernel
theorem dksX3_noticeOf_1 : cX3_noticeOf.data.toList.drop 22 = dktX3_noticeOf_1 := dk_seg dksX3_noticeOf_0 22 rfl rfl
theorem dksX3_noticeOf_2 : cX3_noticeOf.data.toList.drop 46 = dktX3_noticeOf_2 := dk_seg dksX3_noticeOf_1 24 rfl rfl
theorem dX3_noticeOf_0 : decode cX3_noticeOf 0 = .ok (.iload_n 1, 1) := dk_27 (dk_at dksX3_noticeOf_0 0 rfl rfl)
theorem dX3_noticeOf_1 : decode cX3_noticeOf 1 = .ok (.ifCond .gt 7, 3) := dk_157 0 7 (dk_at dksX3_noticeOf_0 1 rfl rfl)
theorem dX3_noticeOf_4 : decode cX3_noticeOf 4 = .ok (.iconst 0, 1) := dk_3 (dk_at dksX3_noticeOf_0 4 rfl rfl)
theorem dX3_noticeOf_5 : decode cX3_noticeOf 5 = .ok (.goto 41, 3) := dk_167 0 41 (dk_at dksX3_noticeOf_0 5 rfl rfl)
theorem dX3_noticeOf_8 : decode cX3_noticeOf 8 = .ok (.lconst 1, 1) := dk_10 (dk_at dksX3_noticeOf_0 8 rfl rfl)
theorem dX3_noticeOf_9 : decode cX3_noticeOf 9 = .ok (.ldc2_w 100, 3) := dk_20 0 100 (dk_at dksX3_noticeOf_0 9 rfl rfl)
theorem dX3_noticeOf_12 : decode cX3_noticeOf 12 = .ok (.ldc2_w 102, 3) := dk_20 0 102 (dk_at dksX3_noticeOf_0 12 rfl rfl)
theorem dX3_noticeOf_15 : decode cX3_noticeOf 15 = .ok (.iload_n 1, 1) := dk_27 (dk_at dksX3_noticeOf_0 15 rfl rfl)
theorem dX3_noticeOf_16 : decode cX3_noticeOf 16 = .ok (.i2l, 1) := dk_133 (dk_at dksX3_noticeOf_0 16 rfl rfl)
theorem dX3_noticeOf_17 : decode cX3_noticeOf 17 = .ok (.lmul, 1) := dk_105 (dk_at dksX3_noticeOf_0 17 rfl rfl)
theorem dX3_noticeOf_18 : decode cX3_noticeOf 18 = .ok (.aload_n 0, 1) := dk_42 (dk_at dksX3_noticeOf_0 18 rfl rfl)
theorem dX3_noticeOf_19 : decode cX3_noticeOf 19 = .ok (.getfield 25, 3) := dk_180 0 25 (dk_at dksX3_noticeOf_0 19 rfl rfl)
theorem dX3_noticeOf_22 : decode cX3_noticeOf 22 = .ok (.getfield 91, 3) := dk_180 0 91 (dk_at dksX3_noticeOf_1 0 rfl rfl)
theorem dX3_noticeOf_25 : decode cX3_noticeOf 25 = .ok (.iconst 1, 1) := dk_4 (dk_at dksX3_noticeOf_1 3 rfl rfl)
theorem dX3_noticeOf_26 : decode cX3_noticeOf 26 = .ok (.iconst 2, 1) := dk_5 (dk_at dksX3_noticeOf_1 4 rfl rfl)
theorem dX3_noticeOf_27 : decode cX3_noticeOf 27 = .ok (.aload_n 0, 1) := dk_42 (dk_at dksX3_noticeOf_1 5 rfl rfl)
theorem dX3_noticeOf_28 : decode cX3_noticeOf 28 = .ok (.getfield 25, 3) := dk_180 0 25 (dk_at dksX3_noticeOf_1 6 rfl rfl)
theorem dX3_noticeOf_31 : decode cX3_noticeOf 31 = .ok (.getfield 94, 3) := dk_180 0 94 (dk_at dksX3_noticeOf_1 9 rfl rfl)
theorem dX3_noticeOf_34 : decode cX3_noticeOf 34 = .ok (.imul, 1) := dk_104 (dk_at dksX3_noticeOf_1 12 rfl rfl)
theorem dX3_noticeOf_35 : decode cX3_noticeOf 35 = .ok (.iadd, 1) := dk_96 (dk_at dksX3_noticeOf_1 13 rfl rfl)
theorem dX3_noticeOf_36 : decode cX3_noticeOf 36 = .ok (.imul, 1) := dk_104 (dk_at dksX3_noticeOf_1 14 rfl rfl)
theorem dX3_noticeOf_37 : decode cX3_noticeOf 37 = .ok (.i2l, 1) := dk_133 (dk_at dksX3_noticeOf_1 15 rfl rfl)
theorem dX3_noticeOf_38 : decode cX3_noticeOf 38 = .ok (.ldiv, 1) := dk_109 (dk_at dksX3_noticeOf_1 16 rfl rfl)
theorem dX3_noticeOf_39 : decode cX3_noticeOf 39 = .ok (.invokestatic 104, 3) := dk_184 0 104 (dk_at dksX3_noticeOf_1 17 rfl rfl)
theorem dX3_noticeOf_42 : decode cX3_noticeOf 42 = .ok (.invokestatic 110, 3) := dk_184 0 110 (dk_at dksX3_noticeOf_1 20 rfl rfl)
theorem dX3_noticeOf_45 : decode cX3_noticeOf 45 = .ok (.l2i, 1) := dk_136 (dk_at dksX3_noticeOf_1 23 rfl rfl)
theorem dX3_noticeOf_46 : decode cX3_noticeOf 46 = .ok (.ireturn, 1) := dk_172 (dk_at dksX3_noticeOf_2 0 rfl rfl)
abbrev cX3_waits : ByteArray := prog_15_method_9_code
def yX3_waits : MethodName := ⟨RX3, "waits", "(II)Z"⟩
def dkwX3_waits_1 : List UInt8 := [3, 172, 42, 27, 28, 182, 0, 117, 155, 0, 7, 4, 167, 0, 4, 3, 172]
abbrev dktX3_waits_1 : List UInt8 := dkwX3_waits_1 ++ []
def dkwX3_waits_0 : List UInt8 := [42, 180, 0, 11, 27, 50, 182, 0, 113, 153, 0, 15, 42, 180, 0, 11, 28, 50, 182, 0, 113, 154, 0, 5]
abbrev dktX3_waits_0 : List UInt8 := dkwX3_waits_0 ++ dktX3_waits_1
theorem dksX3_waits_0 : cX3_waits.data.toList.drop 0 = dktX3_waits_0 := by decide +kernel
theorem dksX3_waits_1 : cX3_waits.data.toList.drop 24 = dktX3_waits_1 := dk_seg dksX3_waits_0 24 rfl rfl
theorem dX3_waits_0 : decode cX3_waits 0 = .ok (.aload_n 0, 1) := dk_42 (dk_at dksX3_waits_0 0 rfl rfl)
theorem dX3_waits_1 : decode cX3_waits 1 = .ok (.getfield 11, 3) := dk_180 0 11 (dk_at dksX3_waits_0 1 rfl rfl)
theorem dX3_waits_4 : decode cX3_waits 4 = .ok (.iload_n 1, 1) := dk_27 (dk_at dksX3_waits_0 4 rfl rfl)
theorem dX3_waits_5 : decode cX3_waits 5 = .ok (.aaload, 1) := dk_50 (dk_at dksX3_waits_0 5 rfl rfl)
theorem dX3_waits_6 : decode cX3_waits 6 = .ok (.invokevirtual 113, 3) := dk_182 0 113 (dk_at dksX3_waits_0 6 rfl rfl)
theorem dX3_waits_9 : decode cX3_waits 9 = .ok (.ifCond .eq 15, 3) := dk_153 0 15 (dk_at dksX3_waits_0 9 rfl rfl)
theorem dX3_waits_12 : decode cX3_waits 12 = .ok (.aload_n 0, 1) := dk_42 (dk_at dksX3_waits_0 12 rfl rfl)
theorem dX3_waits_13 : decode cX3_waits 13 = .ok (.getfield 11, 3) := dk_180 0 11 (dk_at dksX3_waits_0 13 rfl rfl)
theorem dX3_waits_16 : decode cX3_waits 16 = .ok (.iload_n 2, 1) := dk_28 (dk_at dksX3_waits_0 16 rfl rfl)
theorem dX3_waits_17 : decode cX3_waits 17 = .ok (.aaload, 1) := dk_50 (dk_at dksX3_waits_0 17 rfl rfl)
theorem dX3_waits_18 : decode cX3_waits 18 = .ok (.invokevirtual 113, 3) := dk_182 0 113 (dk_at dksX3_waits_0 18 rfl rfl)
theorem dX3_waits_21 : decode cX3_waits 21 = .ok (.ifCond .ne 5, 3) := dk_154 0 5 (dk_at dksX3_waits_0 21 rfl rfl)
theorem dX3_waits_24 : decode cX3_waits 24 = .ok (.iconst 0, 1) := dk_3 (dk_at dksX3_waits_1 0 rfl rfl)
theorem dX3_waits_25 : decode cX3_waits 25 = .ok (.ireturn, 1) := dk_172 (dk_at dksX3_waits_1 1 rfl rfl)
theorem dX3_waits_26 : decode cX3_waits 26 = .ok (.aload_n 0, 1) := dk_42 (dk_at dksX3_waits_1 2 rfl rfl)
theorem dX3_waits_27 : decode cX3_waits 27 = .ok (.iload_n 1, 1) := dk_27 (dk_at dksX3_waits_1 3 rfl rfl)
theorem dX3_waits_28 : decode cX3_waits 28 = .ok (.iload_n 2, 1) := dk_28 (dk_at dksX3_waits_1 4 rfl rfl)
theorem dX3_waits_29 : decode cX3_waits 29 = .ok (.invokevirtual 117, 3) := dk_182 0 117 (dk_at dksX3_waits_1 5 rfl rfl)
theorem dX3_waits_32 : decode cX3_waits 32 = .ok (.ifCond .lt 7, 3) := dk_155 0 7 (dk_at dksX3_waits_1 8 rfl rfl)
theorem dX3_waits_35 : decode cX3_waits 35 = .ok (.iconst 1, 1) := dk_4 (dk_at dksX3_waits_1 11 rfl rfl)
theorem dX3_waits_36 : decode cX3_waits 36 = .ok (.goto 4, 3) := dk_167 0 4 (dk_at dksX3_waits_1 12 rfl rfl)
theorem dX3_waits_39 : decode cX3_waits 39 = .ok (.iconst 0, 1) := dk_3 (dk_at dksX3_waits_1 15 rfl rfl)
theorem dX3_waits_40 : decode cX3_waits 40 = .ok (.ireturn, 1) := dk_172 (dk_at dksX3_waits_1 16 rfl rfl)
abbrev cX3_waitsBy : ByteArray := prog_15_method_10_code
def yX3_waitsBy : MethodName := ⟨RX3, "waitsBy", "(II)I"⟩
def dkwX3_waitsBy_2 : List UInt8 := [132, 3, 1, 167, 255, 209, 2, 172]
abbrev dktX3_waitsBy_2 : List UInt8 := dkwX3_waitsBy_2 ++ []
def dkwX3_waitsBy_1 : List UInt8 := [158, 0, 22, 42, 180, 0, 25, 180, 0, 49, 29, 50, 27, 182, 0, 121, 28, 160, 0, 5, 29, 172]
abbrev dktX3_waitsBy_1 : List UInt8 := dkwX3_waitsBy_1 ++ dktX3_waitsBy_2
def dkwX3_waitsBy_0 : List UInt8 := [3, 62, 29, 42, 180, 0, 25, 180, 0, 46, 162, 0, 42, 42, 180, 0, 11, 27, 50, 180, 0, 84, 29, 46]
abbrev dktX3_waitsBy_0 : List UInt8 := dkwX3_waitsBy_0 ++ dktX3_waitsBy_1
theorem dksX3_waitsBy_0 : cX3_waitsBy.data.toList.drop 0 = dktX3_waitsBy_0 := by decide +kernel
theorem dksX3_waitsBy_1 : cX3_waitsBy.data.toList.drop 24 = dktX3_waitsBy_1 := dk_seg dksX3_waitsBy_0 24 rfl rfl
theorem dksX3_waitsBy_2 : cX3_waitsBy.data.toList.drop 46 = dktX3_waitsBy_2 := dk_seg dksX3_waitsBy_1 22 rfl rfl
theorem dX3_waitsBy_0 : decode cX3_waitsBy 0 = .ok (.iconst 0, 1) := dk_3 (dk_at dksX3_waitsBy_0 0 rfl rfl)
theorem dX3_waitsBy_1 : decode cX3_waitsBy 1 = .ok (.istore_n 3, 1) := dk_62 (dk_at dksX3_waitsBy_0 1 rfl rfl)
theorem dX3_waitsBy_2 : decode cX3_waitsBy 2 = .ok (.iload_n 3, 1) := dk_29 (dk_at dksX3_waitsBy_0 2 rfl rfl)
theorem dX3_waitsBy_3 : decode cX3_waitsBy 3 = .ok (.aload_n 0, 1) := dk_42 (dk_at dksX3_waitsBy_0 3 rfl rfl)
theorem dX3_waitsBy_4 : decode cX3_waitsBy 4 = .ok (.getfield 25, 3) := dk_180 0 25 (dk_at dksX3_waitsBy_0 4 rfl rfl)
theorem dX3_waitsBy_7 : decode cX3_waitsBy 7 = .ok (.getfield 46, 3) := dk_180 0 46 (dk_at dksX3_waitsBy_0 7 rfl rfl)
theorem dX3_waitsBy_10 : decode cX3_waitsBy 10 = .ok (.if_icmp .ge 42, 3) := dk_162 0 42 (dk_at dksX3_waitsBy_0 10 rfl rfl)
theorem dX3_waitsBy_13 : decode cX3_waitsBy 13 = .ok (.aload_n 0, 1) := dk_42 (dk_at dksX3_waitsBy_0 13 rfl rfl)
theorem dX3_waitsBy_14 : decode cX3_waitsBy 14 = .ok (.getfield 11, 3) := dk_180 0 11 (dk_at dksX3_waitsBy_0 14 rfl rfl)
theorem dX3_waitsBy_17 : decode cX3_waitsBy 17 = .ok (.iload_n 1, 1) := dk_27 (dk_at dksX3_waitsBy_0 17 rfl rfl)
theorem dX3_waitsBy_18 : decode cX3_waitsBy 18 = .ok (.aaload, 1) := dk_50 (dk_at dksX3_waitsBy_0 18 rfl rfl)
theorem dX3_waitsBy_19 : decode cX3_waitsBy 19 = .ok (.getfield 84, 3) := dk_180 0 84 (dk_at dksX3_waitsBy_0 19 rfl rfl)
theorem dX3_waitsBy_22 : decode cX3_waitsBy 22 = .ok (.iload_n 3, 1) := dk_29 (dk_at dksX3_waitsBy_0 22 rfl rfl)
theorem dX3_waitsBy_23 : decode cX3_waitsBy 23 = .ok (.iaload, 1) := dk_46 (dk_at dksX3_waitsBy_0 23 rfl rfl)
theorem dX3_waitsBy_24 : decode cX3_waitsBy 24 = .ok (.ifCond .le 22, 3) := dk_158 0 22 (dk_at dksX3_waitsBy_1 0 rfl rfl)
theorem dX3_waitsBy_27 : decode cX3_waitsBy 27 = .ok (.aload_n 0, 1) := dk_42 (dk_at dksX3_waitsBy_1 3 rfl rfl)
theorem dX3_waitsBy_28 : decode cX3_waitsBy 28 = .ok (.getfield 25, 3) := dk_180 0 25 (dk_at dksX3_waitsBy_1 4 rfl rfl)
theorem dX3_waitsBy_31 : decode cX3_waitsBy 31 = .ok (.getfield 49, 3) := dk_180 0 49 (dk_at dksX3_waitsBy_1 7 rfl rfl)
theorem dX3_waitsBy_34 : decode cX3_waitsBy 34 = .ok (.iload_n 3, 1) := dk_29 (dk_at dksX3_waitsBy_1 10 rfl rfl)
theorem dX3_waitsBy_35 : decode cX3_waitsBy 35 = .ok (.aaload, 1) := dk_50 (dk_at dksX3_waitsBy_1 11 rfl rfl)
theorem dX3_waitsBy_36 : decode cX3_waitsBy 36 = .ok (.iload_n 1, 1) := dk_27 (dk_at dksX3_waitsBy_1 12 rfl rfl)
theorem dX3_waitsBy_37 : decode cX3_waitsBy 37 = .ok (.invokevirtual 121, 3) := dk_182 0 121 (dk_at dksX3_waitsBy_1 13 rfl rfl)
theorem dX3_waitsBy_40 : decode cX3_waitsBy 40 = .ok (.iload_n 2, 1) := dk_28 (dk_at dksX3_waitsBy_1 16 rfl rfl)
theorem dX3_waitsBy_41 : decode cX3_waitsBy 41 = .ok (.if_icmp .ne 5, 3) := dk_160 0 5 (dk_at dksX3_waitsBy_1 17 rfl rfl)
theorem dX3_waitsBy_44 : decode cX3_waitsBy 44 = .ok (.iload_n 3, 1) := dk_29 (dk_at dksX3_waitsBy_1 20 rfl rfl)
theorem dX3_waitsBy_45 : decode cX3_waitsBy 45 = .ok (.ireturn, 1) := dk_172 (dk_at dksX3_waitsBy_1 21 rfl rfl)
theorem dX3_waitsBy_46 : decode cX3_waitsBy 46 = .ok (.iinc 3 1, 3) := dk_132 3 1 (dk_at dksX3_waitsBy_2 0 rfl rfl)
theorem dX3_waitsBy_49 : decode cX3_waitsBy 49 = .ok (.goto (-47), 3) := dk_167 255 209 (dk_at dksX3_waitsBy_2 3 rfl rfl)
theorem dX3_waitsBy_52 : decode cX3_waitsBy 52 = .ok (.iconst (-1), 1) := dk_2 (dk_at dksX3_waitsBy_2 6 rfl rfl)
theorem dX3_waitsBy_53 : decode cX3_waitsBy 53 = .ok (.ireturn, 1) := dk_172 (dk_at dksX3_waitsBy_2 7 rfl rfl)
abbrev cX3_isEmpty : ByteArray := prog_15_method_8_code
def yX3_isEmpty : MethodName := ⟨RX3, "isEmpty", "()Z"⟩
def dkwX3_isEmpty_1 : List UInt8 := [158, 0, 5, 3, 172, 132, 1, 1, 167, 255, 228, 4, 172]
abbrev dktX3_isEmpty_1 : List UInt8 := dkwX3_isEmpty_1 ++ []
def dkwX3_isEmpty_0 : List UInt8 := [3, 60, 27, 42, 180, 0, 25, 180, 0, 33, 162, 0, 23, 42, 180, 0, 11, 27, 50, 182, 0, 87]
abbrev dktX3_isEmpty_0 : List UInt8 := dkwX3_isEmpty_0 ++ dktX3_isEmpty_1
theorem dksX3_isEmpty_0 : cX3_isEmpty.data.toList.drop 0 = dktX3_isEmpty_0 := by decide +kernel
theorem dksX3_isEmpty_1 : cX3_isEmpty.data.toList.drop 22 = dktX3_isEmpty_1 := dk_seg dksX3_isEmpty_0 22 rfl rfl
theorem dX3_isEmpty_0 : decode cX3_isEmpty 0 = .ok (.iconst 0, 1) := dk_3 (dk_at dksX3_isEmpty_0 0 rfl rfl)
theorem dX3_isEmpty_1 : decode cX3_isEmpty 1 = .ok (.istore_n 1, 1) := dk_60 (dk_at dksX3_isEmpty_0 1 rfl rfl)
theorem dX3_isEmpty_2 : decode cX3_isEmpty 2 = .ok (.iload_n 1, 1) := dk_27 (dk_at dksX3_isEmpty_0 2 rfl rfl)
theorem dX3_isEmpty_3 : decode cX3_isEmpty 3 = .ok (.aload_n 0, 1) := dk_42 (dk_at dksX3_isEmpty_0 3 rfl rfl)
theorem dX3_isEmpty_4 : decode cX3_isEmpty 4 = .ok (.getfield 25, 3) := dk_180 0 25 (dk_at dksX3_isEmpty_0 4 rfl rfl)
theorem dX3_isEmpty_7 : decode cX3_isEmpty 7 = .ok (.getfield 33, 3) := dk_180 0 33 (dk_at dksX3_isEmpty_0 7 rfl rfl)
theorem dX3_isEmpty_10 : decode cX3_isEmpty 10 = .ok (.if_icmp .ge 23, 3) := dk_162 0 23 (dk_at dksX3_isEmpty_0 10 rfl rfl)
theorem dX3_isEmpty_13 : decode cX3_isEmpty 13 = .ok (.aload_n 0, 1) := dk_42 (dk_at dksX3_isEmpty_0 13 rfl rfl)
theorem dX3_isEmpty_14 : decode cX3_isEmpty 14 = .ok (.getfield 11, 3) := dk_180 0 11 (dk_at dksX3_isEmpty_0 14 rfl rfl)
theorem dX3_isEmpty_17 : decode cX3_isEmpty 17 = .ok (.iload_n 1, 1) := dk_27 (dk_at dksX3_isEmpty_0 17 rfl rfl)
theorem dX3_isEmpty_18 : decode cX3_isEmpty 18 = .ok (.aaload, 1) := dk_50 (dk_at dksX3_isEmpty_0 18 rfl rfl)
theorem dX3_isEmpty_19 : decode cX3_isEmpty 19 = .ok (.invokevirtual 87, 3) := dk_182 0 87 (dk_at dksX3_isEmpty_0 19 rfl rfl)
theorem dX3_isEmpty_22 : decode cX3_isEmpty 22 = .ok (.ifCond .le 5, 3) := dk_158 0 5 (dk_at dksX3_isEmpty_1 0 rfl rfl)
theorem dX3_isEmpty_25 : decode cX3_isEmpty 25 = .ok (.iconst 0, 1) := dk_3 (dk_at dksX3_isEmpty_1 3 rfl rfl)
theorem dX3_isEmpty_26 : decode cX3_isEmpty 26 = .ok (.ireturn, 1) := dk_172 (dk_at dksX3_isEmpty_1 4 rfl rfl)
theorem dX3_isEmpty_27 : decode cX3_isEmpty 27 = .ok (.iinc 1 1, 3) := dk_132 1 1 (dk_at dksX3_isEmpty_1 5 rfl rfl)
theorem dX3_isEmpty_30 : decode cX3_isEmpty 30 = .ok (.goto (-28), 3) := dk_167 255 228 (dk_at dksX3_isEmpty_1 8 rfl rfl)
theorem dX3_isEmpty_33 : decode cX3_isEmpty 33 = .ok (.iconst 1, 1) := dk_4 (dk_at dksX3_isEmpty_1 11 rfl rfl)
theorem dX3_isEmpty_34 : decode cX3_isEmpty 34 = .ok (.ireturn, 1) := dk_172 (dk_at dksX3_isEmpty_1 12 rfl rfl)
abbrev cX3_all : ByteArray := prog_15_method_11_code
def yX3_all : MethodName := ⟨RX3, "all", "(I)I"⟩
def dkwX3_all_3 : List UInt8 := [132, 3, 1, 167, 255, 188, 28, 172]
abbrev dktX3_all_3 : List UInt8 := dkwX3_all_3 ++ []
def dkwX3_all_2 : List UInt8 := [167, 0, 21, 27, 5, 160, 0, 11, 25, 4, 180, 0, 130, 167, 0, 8, 25, 4, 180, 0, 133, 96, 61]
abbrev dktX3_all_2 : List UInt8 := dkwX3_all_2 ++ dktX3_all_3
def dkwX3_all_1 : List UInt8 := [27, 154, 0, 11, 25, 4, 180, 0, 124, 167, 0, 34, 27, 4, 160, 0, 11, 25, 4, 180, 0, 127]
abbrev dktX3_all_1 : List UInt8 := dkwX3_all_1 ++ dktX3_all_2
def dkwX3_all_0 : List UInt8 := [3, 61, 3, 62, 29, 42, 180, 0, 25, 180, 0, 46, 162, 0, 63, 42, 180, 0, 19, 29, 50, 58, 4, 28]
abbrev dktX3_all_0 : List UInt8 := dkwX3_all_0 ++ dktX3_all_1
theorem dksX3_all_0 : cX3_all.data.toList.drop 0 = dktX3_all_0 := by decide +kernel
theorem dksX3_all_1 : cX3_all.data.toList.drop 24 = dktX3_all_1 := dk_seg dksX3_all_0 24 rfl rfl
theorem dksX3_all_2 : cX3_all.data.toList.drop 46 = dktX3_all_2 := dk_seg dksX3_all_1 22 rfl rfl
theorem dksX3_all_3 : cX3_all.data.toList.drop 69 = dktX3_all_3 := dk_seg dksX3_all_2 23 rfl rfl
theorem dX3_all_0 : decode cX3_all 0 = .ok (.iconst 0, 1) := dk_3 (dk_at dksX3_all_0 0 rfl rfl)
theorem dX3_all_1 : decode cX3_all 1 = .ok (.istore_n 2, 1) := dk_61 (dk_at dksX3_all_0 1 rfl rfl)
theorem dX3_all_2 : decode cX3_all 2 = .ok (.iconst 0, 1) := dk_3 (dk_at dksX3_all_0 2 rfl rfl)
theorem dX3_all_3 : decode cX3_all 3 = .ok (.istore_n 3, 1) := dk_62 (dk_at dksX3_all_0 3 rfl rfl)
theorem dX3_all_4 : decode cX3_all 4 = .ok (.iload_n 3, 1) := dk_29 (dk_at dksX3_all_0 4 rfl rfl)
theorem dX3_all_5 : decode cX3_all 5 = .ok (.aload_n 0, 1) := dk_42 (dk_at dksX3_all_0 5 rfl rfl)
theorem dX3_all_6 : decode cX3_all 6 = .ok (.getfield 25, 3) := dk_180 0 25 (dk_at dksX3_all_0 6 rfl rfl)
theorem dX3_all_9 : decode cX3_all 9 = .ok (.getfield 46, 3) := dk_180 0 46 (dk_at dksX3_all_0 9 rfl rfl)
theorem dX3_all_12 : decode cX3_all 12 = .ok (.if_icmp .ge 63, 3) := dk_162 0 63 (dk_at dksX3_all_0 12 rfl rfl)
theorem dX3_all_15 : decode cX3_all 15 = .ok (.aload_n 0, 1) := dk_42 (dk_at dksX3_all_0 15 rfl rfl)
theorem dX3_all_16 : decode cX3_all 16 = .ok (.getfield 19, 3) := dk_180 0 19 (dk_at dksX3_all_0 16 rfl rfl)
theorem dX3_all_19 : decode cX3_all 19 = .ok (.iload_n 3, 1) := dk_29 (dk_at dksX3_all_0 19 rfl rfl)
theorem dX3_all_20 : decode cX3_all 20 = .ok (.aaload, 1) := dk_50 (dk_at dksX3_all_0 20 rfl rfl)
theorem dX3_all_21 : decode cX3_all 21 = .ok (.astore 4, 2) := dk_58 4 (dk_at dksX3_all_0 21 rfl rfl)
theorem dX3_all_23 : decode cX3_all 23 = .ok (.iload_n 2, 1) := dk_28 (dk_at dksX3_all_0 23 rfl rfl)
theorem dX3_all_24 : decode cX3_all 24 = .ok (.iload_n 1, 1) := dk_27 (dk_at dksX3_all_1 0 rfl rfl)
theorem dX3_all_25 : decode cX3_all 25 = .ok (.ifCond .ne 11, 3) := dk_154 0 11 (dk_at dksX3_all_1 1 rfl rfl)
theorem dX3_all_28 : decode cX3_all 28 = .ok (.aload 4, 2) := dk_25 4 (dk_at dksX3_all_1 4 rfl rfl)
theorem dX3_all_30 : decode cX3_all 30 = .ok (.getfield 124, 3) := dk_180 0 124 (dk_at dksX3_all_1 6 rfl rfl)
theorem dX3_all_33 : decode cX3_all 33 = .ok (.goto 34, 3) := dk_167 0 34 (dk_at dksX3_all_1 9 rfl rfl)
theorem dX3_all_36 : decode cX3_all 36 = .ok (.iload_n 1, 1) := dk_27 (dk_at dksX3_all_1 12 rfl rfl)
theorem dX3_all_37 : decode cX3_all 37 = .ok (.iconst 1, 1) := dk_4 (dk_at dksX3_all_1 13 rfl rfl)
theorem dX3_all_38 : decode cX3_all 38 = .ok (.if_icmp .ne 11, 3) := dk_160 0 11 (dk_at dksX3_all_1 14 rfl rfl)
theorem dX3_all_41 : decode cX3_all 41 = .ok (.aload 4, 2) := dk_25 4 (dk_at dksX3_all_1 17 rfl rfl)
theorem dX3_all_43 : decode cX3_all 43 = .ok (.getfield 127, 3) := dk_180 0 127 (dk_at dksX3_all_1 19 rfl rfl)
theorem dX3_all_46 : decode cX3_all 46 = .ok (.goto 21, 3) := dk_167 0 21 (dk_at dksX3_all_2 0 rfl rfl)
theorem dX3_all_49 : decode cX3_all 49 = .ok (.iload_n 1, 1) := dk_27 (dk_at dksX3_all_2 3 rfl rfl)
theorem dX3_all_50 : decode cX3_all 50 = .ok (.iconst 2, 1) := dk_5 (dk_at dksX3_all_2 4 rfl rfl)
theorem dX3_all_51 : decode cX3_all 51 = .ok (.if_icmp .ne 11, 3) := dk_160 0 11 (dk_at dksX3_all_2 5 rfl rfl)
theorem dX3_all_54 : decode cX3_all 54 = .ok (.aload 4, 2) := dk_25 4 (dk_at dksX3_all_2 8 rfl rfl)
theorem dX3_all_56 : decode cX3_all 56 = .ok (.getfield 130, 3) := dk_180 0 130 (dk_at dksX3_all_2 10 rfl rfl)
theorem dX3_all_59 : decode cX3_all 59 = .ok (.goto 8, 3) := dk_167 0 8 (dk_at dksX3_all_2 13 rfl rfl)
theorem dX3_all_62 : decode cX3_all 62 = .ok (.aload 4, 2) := dk_25 4 (dk_at dksX3_all_2 16 rfl rfl)
theorem dX3_all_64 : decode cX3_all 64 = .ok (.getfield 133, 3) := dk_180 0 133 (dk_at dksX3_all_2 18 rfl rfl)
theorem dX3_all_67 : decode cX3_all 67 = .ok (.iadd, 1) := dk_96 (dk_at dksX3_all_2 21 rfl rfl)
theorem dX3_all_68 : decode cX3_all 68 = .ok (.istore_n 2, 1) := dk_61 (dk_at dksX3_all_2 22 rfl rfl)
theorem dX3_all_69 : decode cX3_all 69 = .ok (.iinc 3 1, 3) := dk_132 3 1 (dk_at dksX3_all_3 0 rfl rfl)
theorem dX3_all_72 : decode cX3_all 72 = .ok (.goto (-68), 3) := dk_167 255 188 (dk_at dksX3_all_3 3 rfl rfl)
theorem dX3_all_75 : decode cX3_all 75 = .ok (.iload_n 2, 1) := dk_28 (dk_at dksX3_all_3 6 rfl rfl)
theorem dX3_all_76 : decode cX3_all 76 = .ok (.ireturn, 1) := dk_172 (dk_at dksX3_all_3 7 rfl rfl)
theorem q103 : (Jvm.Cond.initialized "LosslessFabric$State") ∈ lw_all := lw_g (lw_at lw_m1 3 rfl) rfl
theorem q147 : (Jvm.Cond.fieldLinkNest "LosslessFabric$State" (38 : Nat) "LosslessFabric$Told" "links" "[LLosslessFabric$Link;" "LosslessFabric") ∈ lw_tbl := lw_at lw_m1 47 rfl
theorem q153 : (Jvm.Cond.fieldLinkNest "LosslessFabric$State" (49 : Nat) "LosslessFabric$Told" "flows" "[LLosslessFabric$Flow;" "LosslessFabric") ∈ lw_tbl := lw_at lw_m1 53 rfl
theorem q157 : (Jvm.Cond.fieldLinkNest "LosslessFabric$State" (33 : Nat) "LosslessFabric$Told" "linkMany" "I" "LosslessFabric") ∈ lw_tbl := lw_at lw_m1 57 rfl
theorem q163 : (Jvm.Cond.fieldLinkNest "LosslessFabric$State" (46 : Nat) "LosslessFabric$Told" "flowMany" "I" "LosslessFabric") ∈ lw_tbl := lw_at lw_m1 63 rfl
theorem q171 : (Jvm.Cond.fieldLinkNest "LosslessFabric$State" (91 : Nat) "LosslessFabric$Told" "middle" "I" "LosslessFabric") ∈ lw_tbl := lw_at lw_m1 71 rfl
theorem q174 : (Jvm.Cond.fieldLinkNest "LosslessFabric$State" (94 : Nat) "LosslessFabric$Told" "weight" "I" "LosslessFabric") ∈ lw_tbl := lw_at lw_m1 74 rfl
theorem q224 : (Jvm.Cond.instantiable "LosslessFabric$State" (4 : Nat)) ∈ lw_all := lw_g (lw_at lw_m1 124 rfl) rfl
theorem q226 : (Jvm.Cond.instanceMethod ({ cls := "LosslessFabric$State", name := "<init>", desc := "()V" } : Jvm.MethodName)) ∈ lw_all := lw_g (lw_at lw_m1 126 rfl) rfl
theorem q227 : (Jvm.Cond.code ({ cls := "LosslessFabric$State", name := "<init>", desc := "()V" } : Jvm.MethodName) prog_15_method_1_code (2 : Nat) (Option.none : Option Jvm.ClassFile.FieldType)) ∈ lw_all := lw_g (lw_at lw_m1 127 rfl) rfl
theorem q228 : (Jvm.Cond.methodLink "LosslessFabric$State" (3 : Nat) ({ cls := "java/lang/Object", name := "<init>", desc := "()V" } : Jvm.MethodName)) ∈ lw_all := lw_g (lw_at lw_m1 128 rfl) rfl
theorem q229 : (Jvm.Cond.classLink "LosslessFabric$State" (9 : Nat) "LosslessFabric$End") ∈ lw_all := lw_g (lw_at lw_m1 129 rfl) rfl
theorem q231 : (Jvm.Cond.classLink "LosslessFabric$State" (17 : Nat) "LosslessFabric$Sender") ∈ lw_all := lw_g (lw_at lw_m1 131 rfl) rfl
theorem q234 : (Jvm.Cond.methodLinkNest "LosslessFabric$State" (23 : Nat) ({ cls := "LosslessFabric$End", name := "<init>", desc := "()V" } : Jvm.MethodName) "LosslessFabric") ∈ lw_tbl := lw_at lw_m1 134 rfl
theorem q239 : (Jvm.Cond.fieldLinkNest "LosslessFabric$State" (84 : Nat) "LosslessFabric$End" "cells" "[I" "LosslessFabric") ∈ lw_tbl := lw_at lw_m1 139 rfl
theorem q248 : (Jvm.Cond.fieldLinkNest "LosslessFabric$State" (63 : Nat) "LosslessFabric$End" "asks" "I" "LosslessFabric") ∈ lw_tbl := lw_at lw_m1 148 rfl
theorem q263 : (Jvm.Cond.fieldLinkNest "LosslessFabric$State" (97 : Nat) "LosslessFabric$End" "old" "I" "LosslessFabric") ∈ lw_tbl := lw_at lw_m1 163 rfl
theorem q292 : (Jvm.Cond.methodLinkNest "LosslessFabric$State" (24 : Nat) ({ cls := "LosslessFabric$Sender", name := "<init>", desc := "()V" } : Jvm.MethodName) "LosslessFabric") ∈ lw_tbl := lw_at lw_m1 192 rfl
theorem q301 : (Jvm.Cond.fieldLinkNest "LosslessFabric$State" (124 : Nat) "LosslessFabric$Sender" "sent" "I" "LosslessFabric") ∈ lw_tbl := lw_at lw_m1 201 rfl
theorem q304 : (Jvm.Cond.fieldLinkNest "LosslessFabric$State" (127 : Nat) "LosslessFabric$Sender" "delivered" "I" "LosslessFabric") ∈ lw_tbl := lw_at lw_m1 204 rfl
theorem q307 : (Jvm.Cond.fieldLinkNest "LosslessFabric$State" (133 : Nat) "LosslessFabric$Sender" "notices" "I" "LosslessFabric") ∈ lw_tbl := lw_at lw_m1 207 rfl
theorem q310 : (Jvm.Cond.fieldLinkNest "LosslessFabric$State" (130 : Nat) "LosslessFabric$Sender" "lost" "I" "LosslessFabric") ∈ lw_tbl := lw_at lw_m1 210 rfl
theorem q313 : (Jvm.Cond.fieldLinkNest "LosslessFabric$State" (77 : Nat) "LosslessFabric$Sender" "credit" "I" "LosslessFabric") ∈ lw_tbl := lw_at lw_m1 213 rfl
theorem q351 : (Jvm.Cond.fieldLink "LosslessFabric$State" (25 : Nat) "LosslessFabric$State" "t" "LLosslessFabric$Told;") ∈ lw_all := lw_g (lw_at lw_m2 11 rfl) rfl
theorem q352 : (Jvm.Cond.fieldLink "LosslessFabric$State" (29 : Nat) "LosslessFabric$State" "tick" "I") ∈ lw_all := lw_g (lw_at lw_m2 12 rfl) rfl
theorem q354 : (Jvm.Cond.fieldLink "LosslessFabric$State" (11 : Nat) "LosslessFabric$State" "ends" "[LLosslessFabric$End;") ∈ lw_all := lw_g (lw_at lw_m2 14 rfl) rfl
theorem q356 : (Jvm.Cond.fieldLink "LosslessFabric$State" (19 : Nat) "LosslessFabric$State" "senders" "[LLosslessFabric$Sender;") ∈ lw_all := lw_g (lw_at lw_m2 16 rfl) rfl
theorem q359 : (Jvm.Cond.lays "LosslessFabric$State" "LosslessFabric$State" "t" "LLosslessFabric$Told;") ∈ lw_all := lw_g (lw_at lw_m2 19 rfl) rfl
theorem q360 : (Jvm.Cond.soleField "LosslessFabric$State" "t") ∈ lw_all := lw_g (lw_at lw_m2 20 rfl) rfl
theorem q361 : (Jvm.Cond.lays "LosslessFabric$State" "LosslessFabric$State" "tick" "I") ∈ lw_all := lw_g (lw_at lw_m2 21 rfl) rfl
theorem q362 : (Jvm.Cond.soleField "LosslessFabric$State" "tick") ∈ lw_all := lw_g (lw_at lw_m2 22 rfl) rfl
theorem q363 : (Jvm.Cond.laysFinal "LosslessFabric$State" "LosslessFabric$State" "ends" "[LLosslessFabric$End;") ∈ lw_all := lw_g (lw_at lw_m2 23 rfl) rfl
theorem q364 : (Jvm.Cond.soleField "LosslessFabric$State" "ends") ∈ lw_all := lw_g (lw_at lw_m2 24 rfl) rfl
theorem q365 : (Jvm.Cond.laysFinal "LosslessFabric$State" "LosslessFabric$State" "senders" "[LLosslessFabric$Sender;") ∈ lw_all := lw_g (lw_at lw_m2 25 rfl) rfl
theorem q366 : (Jvm.Cond.soleField "LosslessFabric$State" "senders") ∈ lw_all := lw_g (lw_at lw_m2 26 rfl) rfl
theorem q367 : (Jvm.Cond.superclass "LosslessFabric$State" "java/lang/Object") ∈ lw_all := lw_g (lw_at lw_m2 27 rfl) rfl
theorem q374 : (Jvm.Cond.instanceMethod ({ cls := "LosslessFabric$State", name := "fresh", desc := "(LLosslessFabric$Told;)V" } : Jvm.MethodName)) ∈ lw_all := lw_g (lw_at lw_m2 34 rfl) rfl
theorem q375 : (Jvm.Cond.selects "LosslessFabric$State" ({ cls := "LosslessFabric$State", name := "fresh", desc := "(LLosslessFabric$Told;)V" } : Jvm.MethodName) ({ cls := "LosslessFabric$State", name := "fresh", desc := "(LLosslessFabric$Told;)V" } : Jvm.MethodName)) ∈ lw_all := lw_g (lw_at lw_m2 35 rfl) rfl
theorem q376 : (Jvm.Cond.code ({ cls := "LosslessFabric$State", name := "fresh", desc := "(LLosslessFabric$Told;)V" } : Jvm.MethodName) prog_15_method_2_code (3 : Nat) (Option.none : Option Jvm.ClassFile.FieldType)) ∈ lw_all := lw_g (lw_at lw_m2 36 rfl) rfl
theorem q377 : (Jvm.Cond.methodLink "LosslessFabric$State" (42 : Nat) ({ cls := "LosslessFabric$End", name := "fresh", desc := "(LLosslessFabric$Link;)V" } : Jvm.MethodName)) ∈ lw_all := lw_g (lw_at lw_m2 37 rfl) rfl
theorem q381 : (Jvm.Cond.methodLink "LosslessFabric$State" (53 : Nat) ({ cls := "LosslessFabric$Sender", name := "fresh", desc := "(LLosslessFabric$Flow;)V" } : Jvm.MethodName)) ∈ lw_all := lw_g (lw_at lw_m2 41 rfl) rfl
theorem q734 : (Jvm.Cond.fieldLinkNest "LosslessFabric$State" (66 : Nat) "LosslessFabric$Link" "delay" "I" "LosslessFabric") ∈ lw_tbl := lw_at lw_m3 154 rfl
theorem q777 : (Jvm.Cond.fieldLinkNest "LosslessFabric$State" (80 : Nat) "LosslessFabric$Flow" "path" "[I" "LosslessFabric") ∈ lw_tbl := lw_at lw_m3 197 rfl
theorem q820 : (Jvm.Cond.instanceMethod ({ cls := "LosslessFabric$State", name := "like", desc := "(LLosslessFabric$State;)LLosslessFabric$State;" } : Jvm.MethodName)) ∈ lw_all := lw_g (lw_at lw_m4 0 rfl) rfl
theorem q821 : (Jvm.Cond.selects "LosslessFabric$State" ({ cls := "LosslessFabric$State", name := "like", desc := "(LLosslessFabric$State;)LLosslessFabric$State;" } : Jvm.MethodName) ({ cls := "LosslessFabric$State", name := "like", desc := "(LLosslessFabric$State;)LLosslessFabric$State;" } : Jvm.MethodName)) ∈ lw_all := lw_g (lw_at lw_m4 1 rfl) rfl
theorem q822 : (Jvm.Cond.code ({ cls := "LosslessFabric$State", name := "like", desc := "(LLosslessFabric$State;)LLosslessFabric$State;" } : Jvm.MethodName) prog_15_method_3_code (3 : Nat) (Option.some (Jvm.ClassFile.FieldType.object "LosslessFabric$State"))) ∈ lw_all := lw_g (lw_at lw_m4 2 rfl) rfl
theorem q823 : (Jvm.Cond.methodLink "LosslessFabric$State" (56 : Nat) ({ cls := "LosslessFabric$End", name := "like", desc := "(LLosslessFabric$End;)V" } : Jvm.MethodName)) ∈ lw_all := lw_g (lw_at lw_m4 3 rfl) rfl
theorem q830 : (Jvm.Cond.methodLink "LosslessFabric$State" (60 : Nat) ({ cls := "LosslessFabric$Sender", name := "like", desc := "(LLosslessFabric$Sender;)V" } : Jvm.MethodName)) ∈ lw_all := lw_g (lw_at lw_m4 10 rfl) rfl
theorem q858 : (Jvm.Cond.instanceMethod ({ cls := "LosslessFabric$State", name := "ready", desc := "(II)I" } : Jvm.MethodName)) ∈ lw_all := lw_g (lw_at lw_m4 38 rfl) rfl
theorem q859 : (Jvm.Cond.selects "LosslessFabric$State" ({ cls := "LosslessFabric$State", name := "ready", desc := "(II)I" } : Jvm.MethodName) ({ cls := "LosslessFabric$State", name := "ready", desc := "(II)I" } : Jvm.MethodName)) ∈ lw_all := lw_g (lw_at lw_m4 39 rfl) rfl
theorem q860 : (Jvm.Cond.code ({ cls := "LosslessFabric$State", name := "ready", desc := "(II)I" } : Jvm.MethodName) prog_15_method_5_code (4 : Nat) (Option.some Jvm.ClassFile.FieldType.int)) ∈ lw_all := lw_g (lw_at lw_m4 40 rfl) rfl
theorem q861 : (Jvm.Cond.methodLink "LosslessFabric$State" (71 : Nat) ({ cls := "LosslessFabric$Flow", name := "at", desc := "(I)I" } : Jvm.MethodName)) ∈ lw_all := lw_g (lw_at lw_m4 41 rfl) rfl
theorem q867 : (Jvm.Cond.instanceMethod ({ cls := "LosslessFabric$State", name := "isPaused", desc := "(I)Z" } : Jvm.MethodName)) ∈ lw_all := lw_g (lw_at lw_m4 47 rfl) rfl
theorem q868 : (Jvm.Cond.selects "LosslessFabric$State" ({ cls := "LosslessFabric$State", name := "isPaused", desc := "(I)Z" } : Jvm.MethodName) ({ cls := "LosslessFabric$State", name := "isPaused", desc := "(I)Z" } : Jvm.MethodName)) ∈ lw_all := lw_g (lw_at lw_m4 48 rfl) rfl
theorem q869 : (Jvm.Cond.code ({ cls := "LosslessFabric$State", name := "isPaused", desc := "(I)Z" } : Jvm.MethodName) prog_15_method_4_code (2 : Nat) (Option.some Jvm.ClassFile.FieldType.boolean)) ∈ lw_all := lw_g (lw_at lw_m4 49 rfl) rfl
theorem q898 : (Jvm.Cond.instanceMethod ({ cls := "LosslessFabric$State", name := "feedback", desc := "(I)I" } : Jvm.MethodName)) ∈ lw_all := lw_g (lw_at lw_m4 78 rfl) rfl
theorem q899 : (Jvm.Cond.selects "LosslessFabric$State" ({ cls := "LosslessFabric$State", name := "feedback", desc := "(I)I" } : Jvm.MethodName) ({ cls := "LosslessFabric$State", name := "feedback", desc := "(I)I" } : Jvm.MethodName)) ∈ lw_all := lw_g (lw_at lw_m4 79 rfl) rfl
theorem q900 : (Jvm.Cond.code ({ cls := "LosslessFabric$State", name := "feedback", desc := "(I)I" } : Jvm.MethodName) prog_15_method_6_code (3 : Nat) (Option.some Jvm.ClassFile.FieldType.int)) ∈ lw_all := lw_g (lw_at lw_m4 80 rfl) rfl
theorem q901 : (Jvm.Cond.methodLink "LosslessFabric$State" (87 : Nat) ({ cls := "LosslessFabric$End", name := "queue", desc := "()I" } : Jvm.MethodName)) ∈ lw_all := lw_g (lw_at lw_m4 81 rfl) rfl
theorem q903 : (Jvm.Cond.instanceMethod ({ cls := "LosslessFabric$State", name := "noticeOf", desc := "(I)I" } : Jvm.MethodName)) ∈ lw_all := lw_g (lw_at lw_m4 83 rfl) rfl
theorem q904 : (Jvm.Cond.selects "LosslessFabric$State" ({ cls := "LosslessFabric$State", name := "noticeOf", desc := "(I)I" } : Jvm.MethodName) ({ cls := "LosslessFabric$State", name := "noticeOf", desc := "(I)I" } : Jvm.MethodName)) ∈ lw_all := lw_g (lw_at lw_m4 84 rfl) rfl
theorem q905 : (Jvm.Cond.code ({ cls := "LosslessFabric$State", name := "noticeOf", desc := "(I)I" } : Jvm.MethodName) prog_15_method_7_code (2 : Nat) (Option.some Jvm.ClassFile.FieldType.int)) ∈ lw_all := lw_g (lw_at lw_m4 85 rfl) rfl
theorem q906 : (Jvm.Cond.constantLong "LosslessFabric$State" (100 : Nat) (63 : Int64)) ∈ lw_all := lw_g (lw_at lw_m4 86 rfl) rfl
theorem q907 : (Jvm.Cond.constantLong "LosslessFabric$State" (102 : Nat) (64 : Int64)) ∈ lw_all := lw_g (lw_at lw_m4 87 rfl) rfl
theorem q908 : (Jvm.Cond.methodLink "LosslessFabric$State" (104 : Nat) ({ cls := "java/lang/Math", name := "min", desc := "(JJ)J" } : Jvm.MethodName)) ∈ lw_all := lw_g (lw_at lw_m4 88 rfl) rfl
theorem q911 : (Jvm.Cond.methodLink "LosslessFabric$State" (110 : Nat) ({ cls := "java/lang/Math", name := "max", desc := "(JJ)J" } : Jvm.MethodName)) ∈ lw_all := lw_g (lw_at lw_m4 91 rfl) rfl
theorem q1022 : (Jvm.Cond.instanceMethod ({ cls := "LosslessFabric$State", name := "waits", desc := "(II)Z" } : Jvm.MethodName)) ∈ lw_all := lw_g (lw_at lw_m4 202 rfl) rfl
theorem q1023 : (Jvm.Cond.selects "LosslessFabric$State" ({ cls := "LosslessFabric$State", name := "waits", desc := "(II)Z" } : Jvm.MethodName) ({ cls := "LosslessFabric$State", name := "waits", desc := "(II)Z" } : Jvm.MethodName)) ∈ lw_all := lw_g (lw_at lw_m4 203 rfl) rfl
theorem q1024 : (Jvm.Cond.code ({ cls := "LosslessFabric$State", name := "waits", desc := "(II)Z" } : Jvm.MethodName) prog_15_method_9_code (3 : Nat) (Option.some Jvm.ClassFile.FieldType.boolean)) ∈ lw_all := lw_g (lw_at lw_m4 204 rfl) rfl
theorem q1025 : (Jvm.Cond.methodLink "LosslessFabric$State" (113 : Nat) ({ cls := "LosslessFabric$End", name := "asksPause", desc := "()Z" } : Jvm.MethodName)) ∈ lw_all := lw_g (lw_at lw_m4 205 rfl) rfl
theorem q1029 : (Jvm.Cond.methodLink "LosslessFabric$State" (117 : Nat) ({ cls := "LosslessFabric$State", name := "waitsBy", desc := "(II)I" } : Jvm.MethodName)) ∈ lw_all := lw_g (lw_at lw_m4 209 rfl) rfl
theorem q1030 : (Jvm.Cond.instanceMethod ({ cls := "LosslessFabric$State", name := "waitsBy", desc := "(II)I" } : Jvm.MethodName)) ∈ lw_all := lw_g (lw_at lw_m4 210 rfl) rfl
theorem q1031 : (Jvm.Cond.selects "LosslessFabric$State" ({ cls := "LosslessFabric$State", name := "waitsBy", desc := "(II)I" } : Jvm.MethodName) ({ cls := "LosslessFabric$State", name := "waitsBy", desc := "(II)I" } : Jvm.MethodName)) ∈ lw_all := lw_g (lw_at lw_m4 211 rfl) rfl
theorem q1032 : (Jvm.Cond.code ({ cls := "LosslessFabric$State", name := "waitsBy", desc := "(II)I" } : Jvm.MethodName) prog_15_method_10_code (4 : Nat) (Option.some Jvm.ClassFile.FieldType.int)) ∈ lw_all := lw_g (lw_at lw_m4 212 rfl) rfl
theorem q1033 : (Jvm.Cond.methodLink "LosslessFabric$State" (121 : Nat) ({ cls := "LosslessFabric$Flow", name := "next", desc := "(I)I" } : Jvm.MethodName)) ∈ lw_all := lw_g (lw_at lw_m4 213 rfl) rfl
theorem q1228 : (Jvm.Cond.instanceMethod ({ cls := "LosslessFabric$State", name := "isEmpty", desc := "()Z" } : Jvm.MethodName)) ∈ lw_all := lw_g (lw_at lw_m5 168 rfl) rfl
theorem q1229 : (Jvm.Cond.selects "LosslessFabric$State" ({ cls := "LosslessFabric$State", name := "isEmpty", desc := "()Z" } : Jvm.MethodName) ({ cls := "LosslessFabric$State", name := "isEmpty", desc := "()Z" } : Jvm.MethodName)) ∈ lw_all := lw_g (lw_at lw_m5 169 rfl) rfl
theorem q1230 : (Jvm.Cond.code ({ cls := "LosslessFabric$State", name := "isEmpty", desc := "()Z" } : Jvm.MethodName) prog_15_method_8_code (2 : Nat) (Option.some Jvm.ClassFile.FieldType.boolean)) ∈ lw_all := lw_g (lw_at lw_m5 170 rfl) rfl
theorem q1237 : (Jvm.Cond.instanceMethod ({ cls := "LosslessFabric$State", name := "all", desc := "(I)I" } : Jvm.MethodName)) ∈ lw_all := lw_g (lw_at lw_m5 177 rfl) rfl
theorem q1238 : (Jvm.Cond.selects "LosslessFabric$State" ({ cls := "LosslessFabric$State", name := "all", desc := "(I)I" } : Jvm.MethodName) ({ cls := "LosslessFabric$State", name := "all", desc := "(I)I" } : Jvm.MethodName)) ∈ lw_all := lw_g (lw_at lw_m5 178 rfl) rfl
theorem q1239 : (Jvm.Cond.code ({ cls := "LosslessFabric$State", name := "all", desc := "(I)I" } : Jvm.MethodName) prog_15_method_11_code (5 : Nat) (Option.some Jvm.ClassFile.FieldType.int)) ∈ lw_all := lw_g (lw_at lw_m5 179 rfl) rfl
theorem q1925 : (Jvm.Cond.castable "LosslessFabric$State" "java/lang/Object") ∈ lw_tbl := lw_at lw_m8 145 rfl
theorem in_X3 : ∀ w ∈ wsX30, w ∈ lw_all := lw_in wsX30 [359, 361, 363, 365] (by decide +kernel) (by decide +kernel)

/-! LosslessFabric$End -/
set_option maxRecDepth 100000
def RX4 : String := "LosslessFabric$End"
def TX4 : u_T := fun k => match k with
  | 0 => ("LosslessFabric$End", "cells", "[I", true)
  | 1 => ("LosslessFabric$End", "xoff", "I", false)
  | 2 => ("LosslessFabric$End", "xon", "I", false)
  | 3 => ("LosslessFabric$End", "size", "I", false)
  | 4 => ("LosslessFabric$End", "asks", "I", false)
  | 5 => ("LosslessFabric$End", "lost", "I", false)
  | 6 => ("LosslessFabric$End", "peak", "I", false)
  | 7 => ("LosslessFabric$End", "samples", "I", false)
  | 8 => ("LosslessFabric$End", "notices", "I", false)
  | 9 => ("LosslessFabric$End", "carried", "I", false)
  | 10 => ("LosslessFabric$End", "counted", "I", false)
  | _ => ("LosslessFabric$End", "old", "I", false)
def tyX4 : Nat → FieldType := fun k => match k with
  | 0 => .array .int
  | 1 => .int
  | 2 => .int
  | 3 => .int
  | 4 => .int
  | 5 => .int
  | 6 => .int
  | 7 => .int
  | 8 => .int
  | 9 => .int
  | 10 => .int
  | _ => .int
abbrev wsX40 : List Cond := u_ws RX4 TX4 12
theorem nmX4 : ∀ a, a < 12 → ∀ b, b < 12 → a ≠ b → (TX4 a).2.1 ≠ (TX4 b).2.1 := by decide +kernel
theorem tyX4_ok : ∀ k, k < 12 → parseFieldDescriptor (TX4 k).2.2.1 = some (tyX4 k) := by decide +kernel
abbrev cX4_init : ByteArray := prog_6_method_1_code
def yX4_init : MethodName := ⟨RX4, "<init>", "()V"⟩
def dkwX4_init_0 : List UInt8 := [42, 183, 0, 3, 42, 16, 8, 188, 10, 181, 0, 9, 177]
abbrev dktX4_init_0 : List UInt8 := dkwX4_init_0 ++ []
theorem dksX4_init_0 : cX4_init.data.toList.drop 0 = dktX4_init_0 := by decide +kernel
theorem dX4_init_0 : decode cX4_init 0 = .ok (.aload_n 0, 1) := dk_42 (dk_at dksX4_init_0 0 rfl rfl)
theorem dX4_init_1 : decode cX4_init 1 = .ok (.invokespecial 3, 3) := dk_183 0 3 (dk_at dksX4_init_0 1 rfl rfl)
theorem dX4_init_4 : decode cX4_init 4 = .ok (.aload_n 0, 1) := dk_42 (dk_at dksX4_init_0 4 rfl rfl)
theorem dX4_init_5 : decode cX4_init 5 = .ok (.bipush 8, 2) := dk_16 8 (dk_at dksX4_init_0 5 rfl rfl)
theorem dX4_init_7 : decode cX4_init 7 = .ok (.newarray .int, 2) := dk_188_10 (dk_at dksX4_init_0 7 rfl rfl)
theorem dX4_init_9 : decode cX4_init 9 = .ok (.putfield 9, 3) := dk_181 0 9 (dk_at dksX4_init_0 9 rfl rfl)
theorem dX4_init_12 : decode cX4_init 12 = .ok (.return_, 1) := dk_177 (dk_at dksX4_init_0 12 rfl rfl)
abbrev cX4_fresh : ByteArray := prog_6_method_2_code
def yX4_fresh : MethodName := ⟨RX4, "fresh", "(LLosslessFabric$Link;)V"⟩
def dkwX4_fresh_3 : List UInt8 := [3, 181, 0, 45, 42, 3, 181, 0, 48, 42, 3, 181, 0, 51, 177]
abbrev dktX4_fresh_3 : List UInt8 := dkwX4_fresh_3 ++ []
def dkwX4_fresh_2 : List UInt8 := [181, 0, 30, 42, 3, 181, 0, 33, 42, 3, 181, 0, 36, 42, 3, 181, 0, 39, 42, 3, 181, 0, 42, 42]
abbrev dktX4_fresh_2 : List UInt8 := dkwX4_fresh_2 ++ dktX4_fresh_3
def dkwX4_fresh_1 : List UInt8 := [180, 0, 15, 181, 0, 21, 42, 43, 180, 0, 22, 181, 0, 25, 42, 43, 180, 0, 26, 181, 0, 29, 42, 3]
abbrev dktX4_fresh_1 : List UInt8 := dkwX4_fresh_1 ++ dktX4_fresh_2
def dkwX4_fresh_0 : List UInt8 := [3, 61, 28, 16, 8, 162, 0, 16, 42, 180, 0, 9, 28, 3, 79, 132, 2, 1, 167, 255, 240, 42, 43]
abbrev dktX4_fresh_0 : List UInt8 := dkwX4_fresh_0 ++ dktX4_fresh_1
theorem dksX4_fresh_0 : cX4_fresh.data.toList.drop 0 = dktX4_fresh_0 := by decide +kernel
theorem dksX4_fresh_1 : cX4_fresh.data.toList.drop 23 = dktX4_fresh_1 := dk_seg dksX4_fresh_0 23 rfl rfl
theorem dksX4_fresh_2 : cX4_fresh.data.toList.drop 47 = dktX4_fresh_2 := dk_seg dksX4_fresh_1 24 rfl rfl
theorem dksX4_fresh_3 : cX4_fresh.data.toList.drop 71 = dktX4_fresh_3 := dk_seg dksX4_fresh_2 24 rfl rfl
theorem dX4_fresh_0 : decode cX4_fresh 0 = .ok (.iconst 0, 1) := dk_3 (dk_at dksX4_fresh_0 0 rfl rfl)
theorem dX4_fresh_1 : decode cX4_fresh 1 = .ok (.istore_n 2, 1) := dk_61 (dk_at dksX4_fresh_0 1 rfl rfl)
theorem dX4_fresh_2 : decode cX4_fresh 2 = .ok (.iload_n 2, 1) := dk_28 (dk_at dksX4_fresh_0 2 rfl rfl)
theorem dX4_fresh_3 : decode cX4_fresh 3 = .ok (.bipush 8, 2) := dk_16 8 (dk_at dksX4_fresh_0 3 rfl rfl)
theorem dX4_fresh_5 : decode cX4_fresh 5 = .ok (.if_icmp .ge 16, 3) := dk_162 0 16 (dk_at dksX4_fresh_0 5 rfl rfl)
theorem dX4_fresh_8 : decode cX4_fresh 8 = .ok (.aload_n 0, 1) := dk_42 (dk_at dksX4_fresh_0 8 rfl rfl)
theorem dX4_fresh_9 : decode cX4_fresh 9 = .ok (.getfield 9, 3) := dk_180 0 9 (dk_at dksX4_fresh_0 9 rfl rfl)
theorem dX4_fresh_12 : decode cX4_fresh 12 = .ok (.iload_n 2, 1) := dk_28 (dk_at dksX4_fresh_0 12 rfl rfl)
theorem dX4_fresh_13 : decode cX4_fresh 13 = .ok (.iconst 0, 1) := dk_3 (dk_at dksX4_fresh_0 13 rfl rfl)
theorem dX4_fresh_14 : decode cX4_fresh 14 = .ok (.iastore, 1) := dk_79 (dk_at dksX4_fresh_0 14 rfl rfl)
theorem dX4_fresh_15 : decode cX4_fresh 15 = .ok (.iinc 2 1, 3) := dk_132 2 1 (dk_at dksX4_fresh_0 15 rfl rfl)
theorem dX4_fresh_18 : decode cX4_fresh 18 = .ok (.goto (-16), 3) := dk_167 255 240 (dk_at dksX4_fresh_0 18 rfl rfl)
theorem dX4_fresh_21 : decode cX4_fresh 21 = .ok (.aload_n 0, 1) := dk_42 (dk_at dksX4_fresh_0 21 rfl rfl)
theorem dX4_fresh_22 : decode cX4_fresh 22 = .ok (.aload_n 1, 1) := dk_43 (dk_at dksX4_fresh_0 22 rfl rfl)
theorem dX4_fresh_23 : decode cX4_fresh 23 = .ok (.getfield 15, 3) := dk_180 0 15 (dk_at dksX4_fresh_1 0 rfl rfl)
theorem dX4_fresh_26 : decode cX4_fresh 26 = .ok (.putfield 21, 3) := dk_181 0 21 (dk_at dksX4_fresh_1 3 rfl rfl)
theorem dX4_fresh_29 : decode cX4_fresh 29 = .ok (.aload_n 0, 1) := dk_42 (dk_at dksX4_fresh_1 6 rfl rfl)
theorem dX4_fresh_30 : decode cX4_fresh 30 = .ok (.aload_n 1, 1) := dk_43 (dk_at dksX4_fresh_1 7 rfl rfl)
theorem dX4_fresh_31 : decode cX4_fresh 31 = .ok (.getfield 22, 3) := dk_180 0 22 (dk_at dksX4_fresh_1 8 rfl rfl)
theorem dX4_fresh_34 : decode cX4_fresh 34 = .ok (.putfield 25, 3) := dk_181 0 25 (dk_at dksX4_fresh_1 11 rfl rfl)
theorem dX4_fresh_37 : decode cX4_fresh 37 = .ok (.aload_n 0, 1) := dk_42 (dk_at dksX4_fresh_1 14 rfl rfl)
theorem dX4_fresh_38 : decode cX4_fresh 38 = .ok (.aload_n 1, 1) := dk_43 (dk_at dksX4_fresh_1 15 rfl rfl)
theorem dX4_fresh_39 : decode cX4_fresh 39 = .ok (.getfield 26, 3) := dk_180 0 26 (dk_at dksX4_fresh_1 16 rfl rfl)
theorem dX4_fresh_42 : decode cX4_fresh 42 = .ok (.putfield 29, 3) := dk_181 0 29 (dk_at dksX4_fresh_1 19 rfl rfl)
theorem dX4_fresh_45 : decode cX4_fresh 45 = .ok (.aload_n 0, 1) := dk_42 (dk_at dksX4_fresh_1 22 rfl rfl)
theorem dX4_fresh_46 : decode cX4_fresh 46 = .ok (.iconst 0, 1) := dk_3 (dk_at dksX4_fresh_1 23 rfl rfl)
theorem dX4_fresh_47 : decode cX4_fresh 47 = .ok (.putfield 30, 3) := dk_181 0 30 (dk_at dksX4_fresh_2 0 rfl rfl)
theorem dX4_fresh_50 : decode cX4_fresh 50 = .ok (.aload_n 0, 1) := dk_42 (dk_at dksX4_fresh_2 3 rfl rfl)
theorem dX4_fresh_51 : decode cX4_fresh 51 = .ok (.iconst 0, 1) := dk_3 (dk_at dksX4_fresh_2 4 rfl rfl)
theorem dX4_fresh_52 : decode cX4_fresh 52 = .ok (.putfield 33, 3) := dk_181 0 33 (dk_at dksX4_fresh_2 5 rfl rfl)
theorem dX4_fresh_55 : decode cX4_fresh 55 = .ok (.aload_n 0, 1) := dk_42 (dk_at dksX4_fresh_2 8 rfl rfl)
theorem dX4_fresh_56 : decode cX4_fresh 56 = .ok (.iconst 0, 1) := dk_3 (dk_at dksX4_fresh_2 9 rfl rfl)
theorem dX4_fresh_57 : decode cX4_fresh 57 = .ok (.putfield 36, 3) := dk_181 0 36 (dk_at dksX4_fresh_2 10 rfl rfl)
theorem dX4_fresh_60 : decode cX4_fresh 60 = .ok (.aload_n 0, 1) := dk_42 (dk_at dksX4_fresh_2 13 rfl rfl)
theorem dX4_fresh_61 : decode cX4_fresh 61 = .ok (.iconst 0, 1) := dk_3 (dk_at dksX4_fresh_2 14 rfl rfl)
theorem dX4_fresh_62 : decode cX4_fresh 62 = .ok (.putfield 39, 3) := dk_181 0 39 (dk_at dksX4_fresh_2 15 rfl rfl)
theorem dX4_fresh_65 : decode cX4_fresh 65 = .ok (.aload_n 0, 1) := dk_42 (dk_at dksX4_fresh_2 18 rfl rfl)
theorem dX4_fresh_66 : decode cX4_fresh 66 = .ok (.iconst 0, 1) := dk_3 (dk_at dksX4_fresh_2 19 rfl rfl)
theorem dX4_fresh_67 : decode cX4_fresh 67 = .ok (.putfield 42, 3) := dk_181 0 42 (dk_at dksX4_fresh_2 20 rfl rfl)
theorem dX4_fresh_70 : decode cX4_fresh 70 = .ok (.aload_n 0, 1) := dk_42 (dk_at dksX4_fresh_2 23 rfl rfl)
theorem dX4_fresh_71 : decode cX4_fresh 71 = .ok (.iconst 0, 1) := dk_3 (dk_at dksX4_fresh_3 0 rfl rfl)
theorem dX4_fresh_72 : decode cX4_fresh 72 = .ok (.putfield 45, 3) := dk_181 0 45 (dk_at dksX4_fresh_3 1 rfl rfl)
theorem dX4_fresh_75 : decode cX4_fresh 75 = .ok (.aload_n 0, 1) := dk_42 (dk_at dksX4_fresh_3 4 rfl rfl)
theorem dX4_fresh_76 : decode cX4_fresh 76 = .ok (.iconst 0, 1) := dk_3 (dk_at dksX4_fresh_3 5 rfl rfl)
theorem dX4_fresh_77 : decode cX4_fresh 77 = .ok (.putfield 48, 3) := dk_181 0 48 (dk_at dksX4_fresh_3 6 rfl rfl)
theorem dX4_fresh_80 : decode cX4_fresh 80 = .ok (.aload_n 0, 1) := dk_42 (dk_at dksX4_fresh_3 9 rfl rfl)
theorem dX4_fresh_81 : decode cX4_fresh 81 = .ok (.iconst 0, 1) := dk_3 (dk_at dksX4_fresh_3 10 rfl rfl)
theorem dX4_fresh_82 : decode cX4_fresh 82 = .ok (.putfield 51, 3) := dk_181 0 51 (dk_at dksX4_fresh_3 11 rfl rfl)
theorem dX4_fresh_85 : decode cX4_fresh 85 = .ok (.return_, 1) := dk_177 (dk_at dksX4_fresh_3 14 rfl rfl)
abbrev cX4_like : ByteArray := prog_6_method_3_code
def yX4_like : MethodName := ⟨RX4, "like", "(LLosslessFabric$End;)V"⟩
def dkwX4_like_4 : List UInt8 := [43, 180, 0, 51, 181, 0, 51, 177]
abbrev dktX4_like_4 : List UInt8 := dkwX4_like_4 ++ []
def dkwX4_like_3 : List UInt8 := [43, 180, 0, 42, 181, 0, 42, 42, 43, 180, 0, 45, 181, 0, 45, 42, 43, 180, 0, 48, 181, 0, 48, 42]
abbrev dktX4_like_3 : List UInt8 := dkwX4_like_3 ++ dktX4_like_4
def dkwX4_like_2 : List UInt8 := [43, 180, 0, 33, 181, 0, 33, 42, 43, 180, 0, 36, 181, 0, 36, 42, 43, 180, 0, 39, 181, 0, 39, 42]
abbrev dktX4_like_2 : List UInt8 := dkwX4_like_2 ++ dktX4_like_3
def dkwX4_like_1 : List UInt8 := [43, 180, 0, 25, 181, 0, 25, 42, 43, 180, 0, 29, 181, 0, 29, 42, 43, 180, 0, 30, 181, 0, 30, 42]
abbrev dktX4_like_1 : List UInt8 := dkwX4_like_1 ++ dktX4_like_2
def dkwX4_like_0 : List UInt8 := [43, 180, 0, 9, 3, 42, 180, 0, 9, 3, 16, 8, 184, 0, 54, 42, 43, 180, 0, 21, 181, 0, 21, 42]
abbrev dktX4_like_0 : List UInt8 := dkwX4_like_0 ++ dktX4_like_1
theorem dksX4_like_0 : cX4_like.data.toList.drop 0 = dktX4_like_0 := by decide +kernel
theorem dksX4_like_1 : cX4_like.data.toList.drop 24 = dktX4_like_1 := dk_seg dksX4_like_0 24 rfl rfl
theorem dksX4_like_2 : cX4_like.data.toList.drop 48 = dktX4_like_2 := dk_seg dksX4_like_1 24 rfl rfl
theorem dksX4_like_3 : cX4_like.data.toList.drop 72 = dktX4_like_3 := dk_seg dksX4_like_2 24 rfl rfl
theorem dksX4_like_4 : cX4_like.data.toList.drop 96 = dktX4_like_4 := dk_seg dksX4_like_3 24 rfl rfl
theorem dX4_like_0 : decode cX4_like 0 = .ok (.aload_n 1, 1) := dk_43 (dk_at dksX4_like_0 0 rfl rfl)
theorem dX4_like_1 : decode cX4_like 1 = .ok (.getfield 9, 3) := dk_180 0 9 (dk_at dksX4_like_0 1 rfl rfl)
theorem dX4_like_4 : decode cX4_like 4 = .ok (.iconst 0, 1) := dk_3 (dk_at dksX4_like_0 4 rfl rfl)
theorem dX4_like_5 : decode cX4_like 5 = .ok (.aload_n 0, 1) := dk_42 (dk_at dksX4_like_0 5 rfl rfl)
theorem dX4_like_6 : decode cX4_like 6 = .ok (.getfield 9, 3) := dk_180 0 9 (dk_at dksX4_like_0 6 rfl rfl)
theorem dX4_like_9 : decode cX4_like 9 = .ok (.iconst 0, 1) := dk_3 (dk_at dksX4_like_0 9 rfl rfl)
theorem dX4_like_10 : decode cX4_like 10 = .ok (.bipush 8, 2) := dk_16 8 (dk_at dksX4_like_0 10 rfl rfl)
theorem dX4_like_12 : decode cX4_like 12 = .ok (.invokestatic 54, 3) := dk_184 0 54 (dk_at dksX4_like_0 12 rfl rfl)
theorem dX4_like_15 : decode cX4_like 15 = .ok (.aload_n 0, 1) := dk_42 (dk_at dksX4_like_0 15 rfl rfl)
theorem dX4_like_16 : decode cX4_like 16 = .ok (.aload_n 1, 1) := dk_43 (dk_at dksX4_like_0 16 rfl rfl)
theorem dX4_like_17 : decode cX4_like 17 = .ok (.getfield 21, 3) := dk_180 0 21 (dk_at dksX4_like_0 17 rfl rfl)
theorem dX4_like_20 : decode cX4_like 20 = .ok (.putfield 21, 3) := dk_181 0 21 (dk_at dksX4_like_0 20 rfl rfl)
theorem dX4_like_23 : decode cX4_like 23 = .ok (.aload_n 0, 1) := dk_42 (dk_at dksX4_like_0 23 rfl rfl)
theorem dX4_like_24 : decode cX4_like 24 = .ok (.aload_n 1, 1) := dk_43 (dk_at dksX4_like_1 0 rfl rfl)
theorem dX4_like_25 : decode cX4_like 25 = .ok (.getfield 25, 3) := dk_180 0 25 (dk_at dksX4_like_1 1 rfl rfl)
theorem dX4_like_28 : decode cX4_like 28 = .ok (.putfield 25, 3) := dk_181 0 25 (dk_at dksX4_like_1 4 rfl rfl)
theorem dX4_like_31 : decode cX4_like 31 = .ok (.aload_n 0, 1) := dk_42 (dk_at dksX4_like_1 7 rfl rfl)
theorem dX4_like_32 : decode cX4_like 32 = .ok (.aload_n 1, 1) := dk_43 (dk_at dksX4_like_1 8 rfl rfl)
theorem dX4_like_33 : decode cX4_like 33 = .ok (.getfield 29, 3) := dk_180 0 29 (dk_at dksX4_like_1 9 rfl rfl)
theorem dX4_like_36 : decode cX4_like 36 = .ok (.putfield 29, 3) := dk_181 0 29 (dk_at dksX4_like_1 12 rfl rfl)
theorem dX4_like_39 : decode cX4_like 39 = .ok (.aload_n 0, 1) := dk_42 (dk_at dksX4_like_1 15 rfl rfl)
theorem dX4_like_40 : decode cX4_like 40 = .ok (.aload_n 1, 1) := dk_43 (dk_at dksX4_like_1 16 rfl rfl)
theorem dX4_like_41 : decode cX4_like 41 = .ok (.getfield 30, 3) := dk_180 0 30 (dk_at dksX4_like_1 17 rfl rfl)
theorem dX4_like_44 : decode cX4_like 44 = .ok (.putfield 30, 3) := dk_181 0 30 (dk_at dksX4_like_1 20 rfl rfl)
theorem dX4_like_47 : decode cX4_like 47 = .ok (.aload_n 0, 1) := dk_42 (dk_at dksX4_like_1 23 rfl rfl)
theorem dX4_like_48 : decode cX4_like 48 = .ok (.aload_n 1, 1) := dk_43 (dk_at dksX4_like_2 0 rfl rfl)
theorem dX4_like_49 : decode cX4_like 49 = .ok (.getfield 33, 3) := dk_180 0 33 (dk_at dksX4_like_2 1 rfl rfl)
theorem dX4_like_52 : decode cX4_like 52 = .ok (.putfield 33, 3) := dk_181 0 33 (dk_at dksX4_like_2 4 rfl rfl)
theorem dX4_like_55 : decode cX4_like 55 = .ok (.aload_n 0, 1) := dk_42 (dk_at dksX4_like_2 7 rfl rfl)
theorem dX4_like_56 : decode cX4_like 56 = .ok (.aload_n 1, 1) := dk_43 (dk_at dksX4_like_2 8 rfl rfl)
theorem dX4_like_57 : decode cX4_like 57 = .ok (.getfield 36, 3) := dk_180 0 36 (dk_at dksX4_like_2 9 rfl rfl)
theorem dX4_like_60 : decode cX4_like 60 = .ok (.putfield 36, 3) := dk_181 0 36 (dk_at dksX4_like_2 12 rfl rfl)
theorem dX4_like_63 : decode cX4_like 63 = .ok (.aload_n 0, 1) := dk_42 (dk_at dksX4_like_2 15 rfl rfl)
theorem dX4_like_64 : decode cX4_like 64 = .ok (.aload_n 1, 1) := dk_43 (dk_at dksX4_like_2 16 rfl rfl)
theorem dX4_like_65 : decode cX4_like 65 = .ok (.getfield 39, 3) := dk_180 0 39 (dk_at dksX4_like_2 17 rfl rfl)
theorem dX4_like_68 : decode cX4_like 68 = .ok (.putfield 39, 3) := dk_181 0 39 (dk_at dksX4_like_2 20 rfl rfl)
theorem dX4_like_71 : decode cX4_like 71 = .ok (.aload_n 0, 1) := dk_42 (dk_at dksX4_like_2 23 rfl rfl)
theorem dX4_like_72 : decode cX4_like 72 = .ok (.aload_n 1, 1) := dk_43 (dk_at dksX4_like_3 0 rfl rfl)
theorem dX4_like_73 : decode cX4_like 73 = .ok (.getfield 42, 3) := dk_180 0 42 (dk_at dksX4_like_3 1 rfl rfl)
theorem dX4_like_76 : decode cX4_like 76 = .ok (.putfield 42, 3) := dk_181 0 42 (dk_at dksX4_like_3 4 rfl rfl)
theorem dX4_like_79 : decode cX4_like 79 = .ok (.aload_n 0, 1) := dk_42 (dk_at dksX4_like_3 7 rfl rfl)
theorem dX4_like_80 : decode cX4_like 80 = .ok (.aload_n 1, 1) := dk_43 (dk_at dksX4_like_3 8 rfl rfl)
theorem dX4_like_81 : decode cX4_like 81 = .ok (.getfield 45, 3) := dk_180 0 45 (dk_at dksX4_like_3 9 rfl rfl)
theorem dX4_like_84 : decode cX4_like 84 = .ok (.putfield 45, 3) := dk_181 0 45 (dk_at dksX4_like_3 12 rfl rfl)
theorem dX4_like_87 : decode cX4_like 87 = .ok (.aload_n 0, 1) := dk_42 (dk_at dksX4_like_3 15 rfl rfl)
theorem dX4_like_88 : decode cX4_like 88 = .ok (.aload_n 1, 1) := dk_43 (dk_at dksX4_like_3 16 rfl rfl)
theorem dX4_like_89 : decode cX4_like 89 = .ok (.getfield 48, 3) := dk_180 0 48 (dk_at dksX4_like_3 17 rfl rfl)
theorem dX4_like_92 : decode cX4_like 92 = .ok (.putfield 48, 3) := dk_181 0 48 (dk_at dksX4_like_3 20 rfl rfl)
theorem dX4_like_95 : decode cX4_like 95 = .ok (.aload_n 0, 1) := dk_42 (dk_at dksX4_like_3 23 rfl rfl)
theorem dX4_like_96 : decode cX4_like 96 = .ok (.aload_n 1, 1) := dk_43 (dk_at dksX4_like_4 0 rfl rfl)
theorem dX4_like_97 : decode cX4_like 97 = .ok (.getfield 51, 3) := dk_180 0 51 (dk_at dksX4_like_4 1 rfl rfl)
theorem dX4_like_100 : decode cX4_like 100 = .ok (.putfield 51, 3) := dk_181 0 51 (dk_at dksX4_like_4 4 rfl rfl)
theorem dX4_like_103 : decode cX4_like 103 = .ok (.return_, 1) := dk_177 (dk_at dksX4_like_4 7 rfl rfl)
abbrev cX4_queue : ByteArray := prog_6_method_4_code
def yX4_queue : MethodName := ⟨RX4, "queue", "()I"⟩
def dkwX4_queue_1 : List UInt8 := [54, 5, 27, 21, 5, 96, 60, 132, 4, 1, 167, 255, 236, 27, 172]
abbrev dktX4_queue_1 : List UInt8 := dkwX4_queue_1 ++ []
def dkwX4_queue_0 : List UInt8 := [3, 60, 42, 180, 0, 9, 77, 44, 190, 62, 3, 54, 4, 21, 4, 29, 162, 0, 20, 44, 21, 4, 46]
abbrev dktX4_queue_0 : List UInt8 := dkwX4_queue_0 ++ dktX4_queue_1
theorem dksX4_queue_0 : cX4_queue.data.toList.drop 0 = dktX4_queue_0 := by decide +kernel
theorem dksX4_queue_1 : cX4_queue.data.toList.drop 23 = dktX4_queue_1 := dk_seg dksX4_queue_0 23 rfl rfl
theorem dX4_queue_0 : decode cX4_queue 0 = .ok (.iconst 0, 1) := dk_3 (dk_at dksX4_queue_0 0 rfl rfl)
theorem dX4_queue_1 : decode cX4_queue 1 = .ok (.istore_n 1, 1) := dk_60 (dk_at dksX4_queue_0 1 rfl rfl)
theorem dX4_queue_2 : decode cX4_queue 2 = .ok (.aload_n 0, 1) := dk_42 (dk_at dksX4_queue_0 2 rfl rfl)
theorem dX4_queue_3 : decode cX4_queue 3 = .ok (.getfield 9, 3) := dk_180 0 9 (dk_at dksX4_queue_0 3 rfl rfl)
theorem dX4_queue_6 : decode cX4_queue 6 = .ok (.astore_n 2, 1) := dk_77 (dk_at dksX4_queue_0 6 rfl rfl)
theorem dX4_queue_7 : decode cX4_queue 7 = .ok (.aload_n 2, 1) := dk_44 (dk_at dksX4_queue_0 7 rfl rfl)
theorem dX4_queue_8 : decode cX4_queue 8 = .ok (.arraylength, 1) := dk_190 (dk_at dksX4_queue_0 8 rfl rfl)
theorem dX4_queue_9 : decode cX4_queue 9 = .ok (.istore_n 3, 1) := dk_62 (dk_at dksX4_queue_0 9 rfl rfl)
theorem dX4_queue_10 : decode cX4_queue 10 = .ok (.iconst 0, 1) := dk_3 (dk_at dksX4_queue_0 10 rfl rfl)
theorem dX4_queue_11 : decode cX4_queue 11 = .ok (.istore 4, 2) := dk_54 4 (dk_at dksX4_queue_0 11 rfl rfl)
theorem dX4_queue_13 : decode cX4_queue 13 = .ok (.iload 4, 2) := dk_21 4 (dk_at dksX4_queue_0 13 rfl rfl)
theorem dX4_queue_15 : decode cX4_queue 15 = .ok (.iload_n 3, 1) := dk_29 (dk_at dksX4_queue_0 15 rfl rfl)
theorem dX4_queue_16 : decode cX4_queue 16 = .ok (.if_icmp .ge 20, 3) := dk_162 0 20 (dk_at dksX4_queue_0 16 rfl rfl)
theorem dX4_queue_19 : decode cX4_queue 19 = .ok (.aload_n 2, 1) := dk_44 (dk_at dksX4_queue_0 19 rfl rfl)
theorem dX4_queue_20 : decode cX4_queue 20 = .ok (.iload 4, 2) := dk_21 4 (dk_at dksX4_queue_0 20 rfl rfl)
theorem dX4_queue_22 : decode cX4_queue 22 = .ok (.iaload, 1) := dk_46 (dk_at dksX4_queue_0 22 rfl rfl)
theorem dX4_queue_23 : decode cX4_queue 23 = .ok (.istore 5, 2) := dk_54 5 (dk_at dksX4_queue_1 0 rfl rfl)
theorem dX4_queue_25 : decode cX4_queue 25 = .ok (.iload_n 1, 1) := dk_27 (dk_at dksX4_queue_1 2 rfl rfl)
theorem dX4_queue_26 : decode cX4_queue 26 = .ok (.iload 5, 2) := dk_21 5 (dk_at dksX4_queue_1 3 rfl rfl)
theorem dX4_queue_28 : decode cX4_queue 28 = .ok (.iadd, 1) := dk_96 (dk_at dksX4_queue_1 5 rfl rfl)
theorem dX4_queue_29 : decode cX4_queue 29 = .ok (.istore_n 1, 1) := dk_60 (dk_at dksX4_queue_1 6 rfl rfl)
theorem dX4_queue_30 : decode cX4_queue 30 = .ok (.iinc 4 1, 3) := dk_132 4 1 (dk_at dksX4_queue_1 7 rfl rfl)
theorem dX4_queue_33 : decode cX4_queue 33 = .ok (.goto (-20), 3) := dk_167 255 236 (dk_at dksX4_queue_1 10 rfl rfl)
theorem dX4_queue_36 : decode cX4_queue 36 = .ok (.iload_n 1, 1) := dk_27 (dk_at dksX4_queue_1 13 rfl rfl)
theorem dX4_queue_37 : decode cX4_queue 37 = .ok (.ireturn, 1) := dk_172 (dk_at dksX4_queue_1 14 rfl rfl)
abbrev cX4_asks : ByteArray := prog_6_method_6_code
def yX4_asks : MethodName := ⟨RX4, "asks", "()V"⟩
def dkwX4_asks_2 : List UInt8 := [16, 31, 126, 181, 0, 30, 177]
abbrev dktX4_asks_2 : List UInt8 := dkwX4_asks_2 ++ []
def dkwX4_asks_1 : List UInt8 := [163, 0, 7, 3, 167, 0, 9, 42, 180, 0, 30, 4, 126, 61, 42, 42, 180, 0, 30, 4, 120, 28, 128]
abbrev dktX4_asks_1 : List UInt8 := dkwX4_asks_1 ++ dktX4_asks_2
def dkwX4_asks_0 : List UInt8 := [42, 182, 0, 60, 60, 27, 42, 180, 0, 21, 161, 0, 7, 4, 167, 0, 21, 27, 42, 180, 0, 25]
abbrev dktX4_asks_0 : List UInt8 := dkwX4_asks_0 ++ dktX4_asks_1
theorem dksX4_asks_0 : cX4_asks.data.toList.drop 0 = dktX4_asks_0 := by decide +kernel
theorem dksX4_asks_1 : cX4_asks.data.toList.drop 22 = dktX4_asks_1 := dk_seg dksX4_asks_0 22 rfl rfl
theorem dksX4_asks_2 : cX4_asks.data.toList.drop 45 = dktX4_asks_2 := dk_seg dksX4_asks_1 23 rfl rfl
theorem dX4_asks_0 : decode cX4_asks 0 = .ok (.aload_n 0, 1) := dk_42 (dk_at dksX4_asks_0 0 rfl rfl)
theorem dX4_asks_1 : decode cX4_asks 1 = .ok (.invokevirtual 60, 3) := dk_182 0 60 (dk_at dksX4_asks_0 1 rfl rfl)
theorem dX4_asks_4 : decode cX4_asks 4 = .ok (.istore_n 1, 1) := dk_60 (dk_at dksX4_asks_0 4 rfl rfl)
theorem dX4_asks_5 : decode cX4_asks 5 = .ok (.iload_n 1, 1) := dk_27 (dk_at dksX4_asks_0 5 rfl rfl)
theorem dX4_asks_6 : decode cX4_asks 6 = .ok (.aload_n 0, 1) := dk_42 (dk_at dksX4_asks_0 6 rfl rfl)
theorem dX4_asks_7 : decode cX4_asks 7 = .ok (.getfield 21, 3) := dk_180 0 21 (dk_at dksX4_asks_0 7 rfl rfl)
theorem dX4_asks_10 : decode cX4_asks 10 = .ok (.if_icmp .lt 7, 3) := dk_161 0 7 (dk_at dksX4_asks_0 10 rfl rfl)
theorem dX4_asks_13 : decode cX4_asks 13 = .ok (.iconst 1, 1) := dk_4 (dk_at dksX4_asks_0 13 rfl rfl)
theorem dX4_asks_14 : decode cX4_asks 14 = .ok (.goto 21, 3) := dk_167 0 21 (dk_at dksX4_asks_0 14 rfl rfl)
theorem dX4_asks_17 : decode cX4_asks 17 = .ok (.iload_n 1, 1) := dk_27 (dk_at dksX4_asks_0 17 rfl rfl)
theorem dX4_asks_18 : decode cX4_asks 18 = .ok (.aload_n 0, 1) := dk_42 (dk_at dksX4_asks_0 18 rfl rfl)
theorem dX4_asks_19 : decode cX4_asks 19 = .ok (.getfield 25, 3) := dk_180 0 25 (dk_at dksX4_asks_0 19 rfl rfl)
theorem dX4_asks_22 : decode cX4_asks 22 = .ok (.if_icmp .gt 7, 3) := dk_163 0 7 (dk_at dksX4_asks_1 0 rfl rfl)
theorem dX4_asks_25 : decode cX4_asks 25 = .ok (.iconst 0, 1) := dk_3 (dk_at dksX4_asks_1 3 rfl rfl)
theorem dX4_asks_26 : decode cX4_asks 26 = .ok (.goto 9, 3) := dk_167 0 9 (dk_at dksX4_asks_1 4 rfl rfl)
theorem dX4_asks_29 : decode cX4_asks 29 = .ok (.aload_n 0, 1) := dk_42 (dk_at dksX4_asks_1 7 rfl rfl)
theorem dX4_asks_30 : decode cX4_asks 30 = .ok (.getfield 30, 3) := dk_180 0 30 (dk_at dksX4_asks_1 8 rfl rfl)
theorem dX4_asks_33 : decode cX4_asks 33 = .ok (.iconst 1, 1) := dk_4 (dk_at dksX4_asks_1 11 rfl rfl)
theorem dX4_asks_34 : decode cX4_asks 34 = .ok (.iand, 1) := dk_126 (dk_at dksX4_asks_1 12 rfl rfl)
theorem dX4_asks_35 : decode cX4_asks 35 = .ok (.istore_n 2, 1) := dk_61 (dk_at dksX4_asks_1 13 rfl rfl)
theorem dX4_asks_36 : decode cX4_asks 36 = .ok (.aload_n 0, 1) := dk_42 (dk_at dksX4_asks_1 14 rfl rfl)
theorem dX4_asks_37 : decode cX4_asks 37 = .ok (.aload_n 0, 1) := dk_42 (dk_at dksX4_asks_1 15 rfl rfl)
theorem dX4_asks_38 : decode cX4_asks 38 = .ok (.getfield 30, 3) := dk_180 0 30 (dk_at dksX4_asks_1 16 rfl rfl)
theorem dX4_asks_41 : decode cX4_asks 41 = .ok (.iconst 1, 1) := dk_4 (dk_at dksX4_asks_1 19 rfl rfl)
theorem dX4_asks_42 : decode cX4_asks 42 = .ok (.ishl, 1) := dk_120 (dk_at dksX4_asks_1 20 rfl rfl)
theorem dX4_asks_43 : decode cX4_asks 43 = .ok (.iload_n 2, 1) := dk_28 (dk_at dksX4_asks_1 21 rfl rfl)
theorem dX4_asks_44 : decode cX4_asks 44 = .ok (.ior, 1) := dk_128 (dk_at dksX4_asks_1 22 rfl rfl)
theorem dX4_asks_45 : decode cX4_asks 45 = .ok (.bipush 31, 2) := dk_16 31 (dk_at dksX4_asks_2 0 rfl rfl)
theorem dX4_asks_47 : decode cX4_asks 47 = .ok (.iand, 1) := dk_126 (dk_at dksX4_asks_2 2 rfl rfl)
theorem dX4_asks_48 : decode cX4_asks 48 = .ok (.putfield 30, 3) := dk_181 0 30 (dk_at dksX4_asks_2 3 rfl rfl)
theorem dX4_asks_51 : decode cX4_asks 51 = .ok (.return_, 1) := dk_177 (dk_at dksX4_asks_2 6 rfl rfl)
abbrev cX4_asksPause : ByteArray := prog_6_method_5_code
def yX4_asksPause : MethodName := ⟨RX4, "asksPause", "()Z"⟩
def dkwX4_asksPause_0 : List UInt8 := [42, 180, 0, 30, 4, 126, 4, 160, 0, 7, 4, 167, 0, 4, 3, 172]
abbrev dktX4_asksPause_0 : List UInt8 := dkwX4_asksPause_0 ++ []
theorem dksX4_asksPause_0 : cX4_asksPause.data.toList.drop 0 = dktX4_asksPause_0 := by decide +kernel
theorem dX4_asksPause_0 : decode cX4_asksPause 0 = .ok (.aload_n 0, 1) := dk_42 (dk_at dksX4_asksPause_0 0 rfl rfl)
theorem dX4_asksPause_1 : decode cX4_asksPause 1 = .ok (.getfield 30, 3) := dk_180 0 30 (dk_at dksX4_asksPause_0 1 rfl rfl)
theorem dX4_asksPause_4 : decode cX4_asksPause 4 = .ok (.iconst 1, 1) := dk_4 (dk_at dksX4_asksPause_0 4 rfl rfl)
theorem dX4_asksPause_5 : decode cX4_asksPause 5 = .ok (.iand, 1) := dk_126 (dk_at dksX4_asksPause_0 5 rfl rfl)
theorem dX4_asksPause_6 : decode cX4_asksPause 6 = .ok (.iconst 1, 1) := dk_4 (dk_at dksX4_asksPause_0 6 rfl rfl)
theorem dX4_asksPause_7 : decode cX4_asksPause 7 = .ok (.if_icmp .ne 7, 3) := dk_160 0 7 (dk_at dksX4_asksPause_0 7 rfl rfl)
theorem dX4_asksPause_10 : decode cX4_asksPause 10 = .ok (.iconst 1, 1) := dk_4 (dk_at dksX4_asksPause_0 10 rfl rfl)
theorem dX4_asksPause_11 : decode cX4_asksPause 11 = .ok (.goto 4, 3) := dk_167 0 4 (dk_at dksX4_asksPause_0 11 rfl rfl)
theorem dX4_asksPause_14 : decode cX4_asksPause 14 = .ok (.iconst 0, 1) := dk_3 (dk_at dksX4_asksPause_0 14 rfl rfl)
theorem dX4_asksPause_15 : decode cX4_asksPause 15 = .ok (.ireturn, 1) := dk_172 (dk_at dksX4_asksPause_0 15 rfl rfl)
theorem q104 : (Jvm.Cond.initialized "LosslessFabric$End") ∈ lw_all := lw_g (lw_at lw_m1 4 rfl) rfl
theorem q233 : (Jvm.Cond.instantiable "LosslessFabric$End" (12 : Nat)) ∈ lw_all := lw_g (lw_at lw_m1 133 rfl) rfl
theorem q235 : (Jvm.Cond.instanceMethod ({ cls := "LosslessFabric$End", name := "<init>", desc := "()V" } : Jvm.MethodName)) ∈ lw_all := lw_g (lw_at lw_m1 135 rfl) rfl
theorem q236 : (Jvm.Cond.code ({ cls := "LosslessFabric$End", name := "<init>", desc := "()V" } : Jvm.MethodName) prog_6_method_1_code (1 : Nat) (Option.none : Option Jvm.ClassFile.FieldType)) ∈ lw_all := lw_g (lw_at lw_m1 136 rfl) rfl
theorem q237 : (Jvm.Cond.methodLink "LosslessFabric$End" (3 : Nat) ({ cls := "java/lang/Object", name := "<init>", desc := "()V" } : Jvm.MethodName)) ∈ lw_all := lw_g (lw_at lw_m1 137 rfl) rfl
theorem q238 : (Jvm.Cond.fieldLink "LosslessFabric$End" (9 : Nat) "LosslessFabric$End" "cells" "[I") ∈ lw_all := lw_g (lw_at lw_m1 138 rfl) rfl
theorem q241 : (Jvm.Cond.fieldLink "LosslessFabric$End" (21 : Nat) "LosslessFabric$End" "xoff" "I") ∈ lw_all := lw_g (lw_at lw_m1 141 rfl) rfl
theorem q243 : (Jvm.Cond.fieldLink "LosslessFabric$End" (25 : Nat) "LosslessFabric$End" "xon" "I") ∈ lw_all := lw_g (lw_at lw_m1 143 rfl) rfl
theorem q245 : (Jvm.Cond.fieldLink "LosslessFabric$End" (29 : Nat) "LosslessFabric$End" "size" "I") ∈ lw_all := lw_g (lw_at lw_m1 145 rfl) rfl
theorem q247 : (Jvm.Cond.fieldLink "LosslessFabric$End" (30 : Nat) "LosslessFabric$End" "asks" "I") ∈ lw_all := lw_g (lw_at lw_m1 147 rfl) rfl
theorem q250 : (Jvm.Cond.fieldLink "LosslessFabric$End" (33 : Nat) "LosslessFabric$End" "lost" "I") ∈ lw_all := lw_g (lw_at lw_m1 150 rfl) rfl
theorem q252 : (Jvm.Cond.fieldLink "LosslessFabric$End" (36 : Nat) "LosslessFabric$End" "peak" "I") ∈ lw_all := lw_g (lw_at lw_m1 152 rfl) rfl
theorem q254 : (Jvm.Cond.fieldLink "LosslessFabric$End" (39 : Nat) "LosslessFabric$End" "samples" "I") ∈ lw_all := lw_g (lw_at lw_m1 154 rfl) rfl
theorem q256 : (Jvm.Cond.fieldLink "LosslessFabric$End" (42 : Nat) "LosslessFabric$End" "notices" "I") ∈ lw_all := lw_g (lw_at lw_m1 156 rfl) rfl
theorem q258 : (Jvm.Cond.fieldLink "LosslessFabric$End" (45 : Nat) "LosslessFabric$End" "carried" "I") ∈ lw_all := lw_g (lw_at lw_m1 158 rfl) rfl
theorem q260 : (Jvm.Cond.fieldLink "LosslessFabric$End" (48 : Nat) "LosslessFabric$End" "counted" "I") ∈ lw_all := lw_g (lw_at lw_m1 160 rfl) rfl
theorem q262 : (Jvm.Cond.fieldLink "LosslessFabric$End" (51 : Nat) "LosslessFabric$End" "old" "I") ∈ lw_all := lw_g (lw_at lw_m1 162 rfl) rfl
theorem q265 : (Jvm.Cond.laysFinal "LosslessFabric$End" "LosslessFabric$End" "cells" "[I") ∈ lw_all := lw_g (lw_at lw_m1 165 rfl) rfl
theorem q266 : (Jvm.Cond.soleField "LosslessFabric$End" "cells") ∈ lw_all := lw_g (lw_at lw_m1 166 rfl) rfl
theorem q267 : (Jvm.Cond.lays "LosslessFabric$End" "LosslessFabric$End" "xoff" "I") ∈ lw_all := lw_g (lw_at lw_m1 167 rfl) rfl
theorem q268 : (Jvm.Cond.soleField "LosslessFabric$End" "xoff") ∈ lw_all := lw_g (lw_at lw_m1 168 rfl) rfl
theorem q269 : (Jvm.Cond.lays "LosslessFabric$End" "LosslessFabric$End" "xon" "I") ∈ lw_all := lw_g (lw_at lw_m1 169 rfl) rfl
theorem q270 : (Jvm.Cond.soleField "LosslessFabric$End" "xon") ∈ lw_all := lw_g (lw_at lw_m1 170 rfl) rfl
theorem q271 : (Jvm.Cond.lays "LosslessFabric$End" "LosslessFabric$End" "size" "I") ∈ lw_all := lw_g (lw_at lw_m1 171 rfl) rfl
theorem q272 : (Jvm.Cond.soleField "LosslessFabric$End" "size") ∈ lw_all := lw_g (lw_at lw_m1 172 rfl) rfl
theorem q273 : (Jvm.Cond.lays "LosslessFabric$End" "LosslessFabric$End" "asks" "I") ∈ lw_all := lw_g (lw_at lw_m1 173 rfl) rfl
theorem q274 : (Jvm.Cond.soleField "LosslessFabric$End" "asks") ∈ lw_all := lw_g (lw_at lw_m1 174 rfl) rfl
theorem q275 : (Jvm.Cond.lays "LosslessFabric$End" "LosslessFabric$End" "lost" "I") ∈ lw_all := lw_g (lw_at lw_m1 175 rfl) rfl
theorem q276 : (Jvm.Cond.soleField "LosslessFabric$End" "lost") ∈ lw_all := lw_g (lw_at lw_m1 176 rfl) rfl
theorem q277 : (Jvm.Cond.lays "LosslessFabric$End" "LosslessFabric$End" "peak" "I") ∈ lw_all := lw_g (lw_at lw_m1 177 rfl) rfl
theorem q278 : (Jvm.Cond.soleField "LosslessFabric$End" "peak") ∈ lw_all := lw_g (lw_at lw_m1 178 rfl) rfl
theorem q279 : (Jvm.Cond.lays "LosslessFabric$End" "LosslessFabric$End" "samples" "I") ∈ lw_all := lw_g (lw_at lw_m1 179 rfl) rfl
theorem q280 : (Jvm.Cond.soleField "LosslessFabric$End" "samples") ∈ lw_all := lw_g (lw_at lw_m1 180 rfl) rfl
theorem q281 : (Jvm.Cond.lays "LosslessFabric$End" "LosslessFabric$End" "notices" "I") ∈ lw_all := lw_g (lw_at lw_m1 181 rfl) rfl
theorem q282 : (Jvm.Cond.soleField "LosslessFabric$End" "notices") ∈ lw_all := lw_g (lw_at lw_m1 182 rfl) rfl
theorem q283 : (Jvm.Cond.lays "LosslessFabric$End" "LosslessFabric$End" "carried" "I") ∈ lw_all := lw_g (lw_at lw_m1 183 rfl) rfl
theorem q284 : (Jvm.Cond.soleField "LosslessFabric$End" "carried") ∈ lw_all := lw_g (lw_at lw_m1 184 rfl) rfl
theorem q285 : (Jvm.Cond.lays "LosslessFabric$End" "LosslessFabric$End" "counted" "I") ∈ lw_all := lw_g (lw_at lw_m1 185 rfl) rfl
theorem q286 : (Jvm.Cond.soleField "LosslessFabric$End" "counted") ∈ lw_all := lw_g (lw_at lw_m1 186 rfl) rfl
theorem q287 : (Jvm.Cond.lays "LosslessFabric$End" "LosslessFabric$End" "old" "I") ∈ lw_all := lw_g (lw_at lw_m1 187 rfl) rfl
theorem q288 : (Jvm.Cond.soleField "LosslessFabric$End" "old") ∈ lw_all := lw_g (lw_at lw_m1 188 rfl) rfl
theorem q289 : (Jvm.Cond.superclass "LosslessFabric$End" "java/lang/Object") ∈ lw_all := lw_g (lw_at lw_m1 189 rfl) rfl
theorem q378 : (Jvm.Cond.instanceMethod ({ cls := "LosslessFabric$End", name := "fresh", desc := "(LLosslessFabric$Link;)V" } : Jvm.MethodName)) ∈ lw_all := lw_g (lw_at lw_m2 38 rfl) rfl
theorem q379 : (Jvm.Cond.selects "LosslessFabric$End" ({ cls := "LosslessFabric$End", name := "fresh", desc := "(LLosslessFabric$Link;)V" } : Jvm.MethodName) ({ cls := "LosslessFabric$End", name := "fresh", desc := "(LLosslessFabric$Link;)V" } : Jvm.MethodName)) ∈ lw_all := lw_g (lw_at lw_m2 39 rfl) rfl
theorem q380 : (Jvm.Cond.code ({ cls := "LosslessFabric$End", name := "fresh", desc := "(LLosslessFabric$Link;)V" } : Jvm.MethodName) prog_6_method_2_code (3 : Nat) (Option.none : Option Jvm.ClassFile.FieldType)) ∈ lw_all := lw_g (lw_at lw_m2 40 rfl) rfl
theorem q737 : (Jvm.Cond.fieldLinkNest "LosslessFabric$End" (15 : Nat) "LosslessFabric$Link" "xoff" "I" "LosslessFabric") ∈ lw_tbl := lw_at lw_m3 157 rfl
theorem q739 : (Jvm.Cond.fieldLinkNest "LosslessFabric$End" (22 : Nat) "LosslessFabric$Link" "xon" "I" "LosslessFabric") ∈ lw_tbl := lw_at lw_m3 159 rfl
theorem q741 : (Jvm.Cond.fieldLinkNest "LosslessFabric$End" (26 : Nat) "LosslessFabric$Link" "size" "I" "LosslessFabric") ∈ lw_tbl := lw_at lw_m3 161 rfl
theorem q824 : (Jvm.Cond.instanceMethod ({ cls := "LosslessFabric$End", name := "like", desc := "(LLosslessFabric$End;)V" } : Jvm.MethodName)) ∈ lw_all := lw_g (lw_at lw_m4 4 rfl) rfl
theorem q825 : (Jvm.Cond.selects "LosslessFabric$End" ({ cls := "LosslessFabric$End", name := "like", desc := "(LLosslessFabric$End;)V" } : Jvm.MethodName) ({ cls := "LosslessFabric$End", name := "like", desc := "(LLosslessFabric$End;)V" } : Jvm.MethodName)) ∈ lw_all := lw_g (lw_at lw_m4 5 rfl) rfl
theorem q826 : (Jvm.Cond.code ({ cls := "LosslessFabric$End", name := "like", desc := "(LLosslessFabric$End;)V" } : Jvm.MethodName) prog_6_method_3_code (2 : Nat) (Option.none : Option Jvm.ClassFile.FieldType)) ∈ lw_all := lw_g (lw_at lw_m4 6 rfl) rfl
theorem q827 : (Jvm.Cond.methodLink "LosslessFabric$End" (54 : Nat) ({ cls := "java/lang/System", name := "arraycopy", desc := "(Ljava/lang/Object;ILjava/lang/Object;II)V" } : Jvm.MethodName)) ∈ lw_all := lw_g (lw_at lw_m4 7 rfl) rfl
theorem q884 : (Jvm.Cond.instanceMethod ({ cls := "LosslessFabric$End", name := "queue", desc := "()I" } : Jvm.MethodName)) ∈ lw_all := lw_g (lw_at lw_m4 64 rfl) rfl
theorem q885 : (Jvm.Cond.selects "LosslessFabric$End" ({ cls := "LosslessFabric$End", name := "queue", desc := "()I" } : Jvm.MethodName) ({ cls := "LosslessFabric$End", name := "queue", desc := "()I" } : Jvm.MethodName)) ∈ lw_all := lw_g (lw_at lw_m4 65 rfl) rfl
theorem q886 : (Jvm.Cond.code ({ cls := "LosslessFabric$End", name := "queue", desc := "()I" } : Jvm.MethodName) prog_6_method_4_code (6 : Nat) (Option.some Jvm.ClassFile.FieldType.int)) ∈ lw_all := lw_g (lw_at lw_m4 66 rfl) rfl
theorem q889 : (Jvm.Cond.instanceMethod ({ cls := "LosslessFabric$End", name := "asks", desc := "()V" } : Jvm.MethodName)) ∈ lw_all := lw_g (lw_at lw_m4 69 rfl) rfl
theorem q890 : (Jvm.Cond.selects "LosslessFabric$End" ({ cls := "LosslessFabric$End", name := "asks", desc := "()V" } : Jvm.MethodName) ({ cls := "LosslessFabric$End", name := "asks", desc := "()V" } : Jvm.MethodName)) ∈ lw_all := lw_g (lw_at lw_m4 70 rfl) rfl
theorem q891 : (Jvm.Cond.code ({ cls := "LosslessFabric$End", name := "asks", desc := "()V" } : Jvm.MethodName) prog_6_method_6_code (3 : Nat) (Option.none : Option Jvm.ClassFile.FieldType)) ∈ lw_all := lw_g (lw_at lw_m4 71 rfl) rfl
theorem q892 : (Jvm.Cond.methodLink "LosslessFabric$End" (60 : Nat) ({ cls := "LosslessFabric$End", name := "queue", desc := "()I" } : Jvm.MethodName)) ∈ lw_all := lw_g (lw_at lw_m4 72 rfl) rfl
theorem q1026 : (Jvm.Cond.instanceMethod ({ cls := "LosslessFabric$End", name := "asksPause", desc := "()Z" } : Jvm.MethodName)) ∈ lw_all := lw_g (lw_at lw_m4 206 rfl) rfl
theorem q1027 : (Jvm.Cond.selects "LosslessFabric$End" ({ cls := "LosslessFabric$End", name := "asksPause", desc := "()Z" } : Jvm.MethodName) ({ cls := "LosslessFabric$End", name := "asksPause", desc := "()Z" } : Jvm.MethodName)) ∈ lw_all := lw_g (lw_at lw_m4 207 rfl) rfl
theorem q1028 : (Jvm.Cond.code ({ cls := "LosslessFabric$End", name := "asksPause", desc := "()Z" } : Jvm.MethodName) prog_6_method_5_code (1 : Nat) (Option.some Jvm.ClassFile.FieldType.boolean)) ∈ lw_all := lw_g (lw_at lw_m4 208 rfl) rfl
theorem q1926 : (Jvm.Cond.castable "LosslessFabric$End" "java/lang/Object") ∈ lw_tbl := lw_at lw_m8 146 rfl
theorem in_X4 : ∀ w ∈ wsX40, w ∈ lw_all := lw_in wsX40 [265, 267, 269, 271, 273, 275, 277, 279, 281, 283, 285, 287] (by decide +kernel) (by decide +kernel)

/-! LosslessFabric$Sender -/
set_option maxRecDepth 100000
def RX5 : String := "LosslessFabric$Sender"
def TX5 : u_T := fun k => match k with
  | 0 => ("LosslessFabric$Sender", "rate", "I", false)
  | 1 => ("LosslessFabric$Sender", "target", "I", false)
  | 2 => ("LosslessFabric$Sender", "sent", "I", false)
  | 3 => ("LosslessFabric$Sender", "delivered", "I", false)
  | 4 => ("LosslessFabric$Sender", "notices", "I", false)
  | 5 => ("LosslessFabric$Sender", "lost", "I", false)
  | 6 => ("LosslessFabric$Sender", "credit", "I", false)
  | 7 => ("LosslessFabric$Sender", "cells", "I", false)
  | 8 => ("LosslessFabric$Sender", "ticks", "I", false)
  | 9 => ("LosslessFabric$Sender", "now", "I", false)
  | 10 => ("LosslessFabric$Sender", "stages", "[I", true)
  | _ => ("LosslessFabric$Sender", "isOn", "Z", false)
def tyX5 : Nat → FieldType := fun k => match k with
  | 0 => .int
  | 1 => .int
  | 2 => .int
  | 3 => .int
  | 4 => .int
  | 5 => .int
  | 6 => .int
  | 7 => .int
  | 8 => .int
  | 9 => .int
  | 10 => .array .int
  | _ => .boolean
abbrev wsX50 : List Cond := u_ws RX5 TX5 12
theorem nmX5 : ∀ a, a < 12 → ∀ b, b < 12 → a ≠ b → (TX5 a).2.1 ≠ (TX5 b).2.1 := by decide +kernel
theorem tyX5_ok : ∀ k, k < 12 → parseFieldDescriptor (TX5 k).2.2.1 = some (tyX5 k) := by decide +kernel
abbrev cX5_init : ByteArray := prog_14_method_1_code
def yX5_init : MethodName := ⟨RX5, "<init>", "()V"⟩
def dkwX5_init_0 : List UInt8 := [42, 183, 0, 3, 42, 5, 188, 10, 181, 0, 9, 177]
abbrev dktX5_init_0 : List UInt8 := dkwX5_init_0 ++ []
theorem dksX5_init_0 : cX5_init.data.toList.drop 0 = dktX5_init_0 := by decide +kernel
theorem dX5_init_0 : decode cX5_init 0 = .ok (.aload_n 0, 1) := dk_42 (dk_at dksX5_init_0 0 rfl rfl)
theorem dX5_init_1 : decode cX5_init 1 = .ok (.invokespecial 3, 3) := dk_183 0 3 (dk_at dksX5_init_0 1 rfl rfl)
theorem dX5_init_4 : decode cX5_init 4 = .ok (.aload_n 0, 1) := dk_42 (dk_at dksX5_init_0 4 rfl rfl)
theorem dX5_init_5 : decode cX5_init 5 = .ok (.iconst 2, 1) := dk_5 (dk_at dksX5_init_0 5 rfl rfl)
theorem dX5_init_6 : decode cX5_init 6 = .ok (.newarray .int, 2) := dk_188_10 (dk_at dksX5_init_0 6 rfl rfl)
theorem dX5_init_8 : decode cX5_init 8 = .ok (.putfield 9, 3) := dk_181 0 9 (dk_at dksX5_init_0 8 rfl rfl)
theorem dX5_init_11 : decode cX5_init 11 = .ok (.return_, 1) := dk_177 (dk_at dksX5_init_0 11 rfl rfl)
abbrev cX5_fresh : ByteArray := prog_14_method_2_code
def yX5_fresh : MethodName := ⟨RX5, "fresh", "(LLosslessFabric$Flow;)V"⟩
def dkwX5_fresh_2 : List UInt8 := [154, 0, 7, 4, 167, 0, 4, 3, 181, 0, 44, 42, 182, 0, 47, 177]
abbrev dktX5_fresh_2 : List UInt8 := dkwX5_fresh_2 ++ []
def dkwX5_fresh_1 : List UInt8 := [181, 0, 28, 42, 3, 181, 0, 31, 42, 3, 181, 0, 34, 42, 3, 181, 0, 37, 42, 43, 180, 0, 40]
abbrev dktX5_fresh_1 : List UInt8 := dkwX5_fresh_1 ++ dktX5_fresh_2
def dkwX5_fresh_0 : List UInt8 := [42, 43, 180, 0, 15, 181, 0, 21, 42, 43, 180, 0, 15, 181, 0, 22, 42, 3, 181, 0, 25, 42, 3]
abbrev dktX5_fresh_0 : List UInt8 := dkwX5_fresh_0 ++ dktX5_fresh_1
theorem dksX5_fresh_0 : cX5_fresh.data.toList.drop 0 = dktX5_fresh_0 := by decide +kernel
theorem dksX5_fresh_1 : cX5_fresh.data.toList.drop 23 = dktX5_fresh_1 := dk_seg dksX5_fresh_0 23 rfl rfl
theorem dksX5_fresh_2 : cX5_fresh.data.toList.drop 46 = dktX5_fresh_2 := dk_seg dksX5_fresh_1 23 rfl rfl
theorem dX5_fresh_0 : decode cX5_fresh 0 = .ok (.aload_n 0, 1) := dk_42 (dk_at dksX5_fresh_0 0 rfl rfl)
theorem dX5_fresh_1 : decode cX5_fresh 1 = .ok (.aload_n 1, 1) := dk_43 (dk_at dksX5_fresh_0 1 rfl rfl)
theorem dX5_fresh_2 : decode cX5_fresh 2 = .ok (.getfield 15, 3) := dk_180 0 15 (dk_at dksX5_fresh_0 2 rfl rfl)
theorem dX5_fresh_5 : decode cX5_fresh 5 = .ok (.putfield 21, 3) := dk_181 0 21 (dk_at dksX5_fresh_0 5 rfl rfl)
theorem dX5_fresh_8 : decode cX5_fresh 8 = .ok (.aload_n 0, 1) := dk_42 (dk_at dksX5_fresh_0 8 rfl rfl)
theorem dX5_fresh_9 : decode cX5_fresh 9 = .ok (.aload_n 1, 1) := dk_43 (dk_at dksX5_fresh_0 9 rfl rfl)
theorem dX5_fresh_10 : decode cX5_fresh 10 = .ok (.getfield 15, 3) := dk_180 0 15 (dk_at dksX5_fresh_0 10 rfl rfl)
theorem dX5_fresh_13 : decode cX5_fresh 13 = .ok (.putfield 22, 3) := dk_181 0 22 (dk_at dksX5_fresh_0 13 rfl rfl)
theorem dX5_fresh_16 : decode cX5_fresh 16 = .ok (.aload_n 0, 1) := dk_42 (dk_at dksX5_fresh_0 16 rfl rfl)
theorem dX5_fresh_17 : decode cX5_fresh 17 = .ok (.iconst 0, 1) := dk_3 (dk_at dksX5_fresh_0 17 rfl rfl)
theorem dX5_fresh_18 : decode cX5_fresh 18 = .ok (.putfield 25, 3) := dk_181 0 25 (dk_at dksX5_fresh_0 18 rfl rfl)
theorem dX5_fresh_21 : decode cX5_fresh 21 = .ok (.aload_n 0, 1) := dk_42 (dk_at dksX5_fresh_0 21 rfl rfl)
theorem dX5_fresh_22 : decode cX5_fresh 22 = .ok (.iconst 0, 1) := dk_3 (dk_at dksX5_fresh_0 22 rfl rfl)
theorem dX5_fresh_23 : decode cX5_fresh 23 = .ok (.putfield 28, 3) := dk_181 0 28 (dk_at dksX5_fresh_1 0 rfl rfl)
theorem dX5_fresh_26 : decode cX5_fresh 26 = .ok (.aload_n 0, 1) := dk_42 (dk_at dksX5_fresh_1 3 rfl rfl)
theorem dX5_fresh_27 : decode cX5_fresh 27 = .ok (.iconst 0, 1) := dk_3 (dk_at dksX5_fresh_1 4 rfl rfl)
theorem dX5_fresh_28 : decode cX5_fresh 28 = .ok (.putfield 31, 3) := dk_181 0 31 (dk_at dksX5_fresh_1 5 rfl rfl)
theorem dX5_fresh_31 : decode cX5_fresh 31 = .ok (.aload_n 0, 1) := dk_42 (dk_at dksX5_fresh_1 8 rfl rfl)
theorem dX5_fresh_32 : decode cX5_fresh 32 = .ok (.iconst 0, 1) := dk_3 (dk_at dksX5_fresh_1 9 rfl rfl)
theorem dX5_fresh_33 : decode cX5_fresh 33 = .ok (.putfield 34, 3) := dk_181 0 34 (dk_at dksX5_fresh_1 10 rfl rfl)
theorem dX5_fresh_36 : decode cX5_fresh 36 = .ok (.aload_n 0, 1) := dk_42 (dk_at dksX5_fresh_1 13 rfl rfl)
theorem dX5_fresh_37 : decode cX5_fresh 37 = .ok (.iconst 0, 1) := dk_3 (dk_at dksX5_fresh_1 14 rfl rfl)
theorem dX5_fresh_38 : decode cX5_fresh 38 = .ok (.putfield 37, 3) := dk_181 0 37 (dk_at dksX5_fresh_1 15 rfl rfl)
theorem dX5_fresh_41 : decode cX5_fresh 41 = .ok (.aload_n 0, 1) := dk_42 (dk_at dksX5_fresh_1 18 rfl rfl)
theorem dX5_fresh_42 : decode cX5_fresh 42 = .ok (.aload_n 1, 1) := dk_43 (dk_at dksX5_fresh_1 19 rfl rfl)
theorem dX5_fresh_43 : decode cX5_fresh 43 = .ok (.getfield 40, 3) := dk_180 0 40 (dk_at dksX5_fresh_1 20 rfl rfl)
theorem dX5_fresh_46 : decode cX5_fresh 46 = .ok (.ifCond .ne 7, 3) := dk_154 0 7 (dk_at dksX5_fresh_2 0 rfl rfl)
theorem dX5_fresh_49 : decode cX5_fresh 49 = .ok (.iconst 1, 1) := dk_4 (dk_at dksX5_fresh_2 3 rfl rfl)
theorem dX5_fresh_50 : decode cX5_fresh 50 = .ok (.goto 4, 3) := dk_167 0 4 (dk_at dksX5_fresh_2 4 rfl rfl)
theorem dX5_fresh_53 : decode cX5_fresh 53 = .ok (.iconst 0, 1) := dk_3 (dk_at dksX5_fresh_2 7 rfl rfl)
theorem dX5_fresh_54 : decode cX5_fresh 54 = .ok (.putfield 44, 3) := dk_181 0 44 (dk_at dksX5_fresh_2 8 rfl rfl)
theorem dX5_fresh_57 : decode cX5_fresh 57 = .ok (.aload_n 0, 1) := dk_42 (dk_at dksX5_fresh_2 11 rfl rfl)
theorem dX5_fresh_58 : decode cX5_fresh 58 = .ok (.invokevirtual 47, 3) := dk_182 0 47 (dk_at dksX5_fresh_2 12 rfl rfl)
theorem dX5_fresh_61 : decode cX5_fresh 61 = .ok (.return_, 1) := dk_177 (dk_at dksX5_fresh_2 15 rfl rfl)
abbrev cX5_forgets : ByteArray := prog_14_method_3_code
def yX5_forgets : MethodName := ⟨RX5, "forgets", "()V"⟩
def dkwX5_forgets_1 : List UInt8 := [177]
abbrev dktX5_forgets_1 : List UInt8 := dkwX5_forgets_1 ++ []
def dkwX5_forgets_0 : List UInt8 := [42, 180, 0, 9, 3, 3, 79, 42, 180, 0, 9, 4, 3, 79, 42, 3, 181, 0, 50, 42, 3, 181, 0, 53]
abbrev dktX5_forgets_0 : List UInt8 := dkwX5_forgets_0 ++ dktX5_forgets_1
theorem dksX5_forgets_0 : cX5_forgets.data.toList.drop 0 = dktX5_forgets_0 := by decide +kernel
theorem dksX5_forgets_1 : cX5_forgets.data.toList.drop 24 = dktX5_forgets_1 := dk_seg dksX5_forgets_0 24 rfl rfl
theorem dX5_forgets_0 : decode cX5_forgets 0 = .ok (.aload_n 0, 1) := dk_42 (dk_at dksX5_forgets_0 0 rfl rfl)
theorem dX5_forgets_1 : decode cX5_forgets 1 = .ok (.getfield 9, 3) := dk_180 0 9 (dk_at dksX5_forgets_0 1 rfl rfl)
theorem dX5_forgets_4 : decode cX5_forgets 4 = .ok (.iconst 0, 1) := dk_3 (dk_at dksX5_forgets_0 4 rfl rfl)
theorem dX5_forgets_5 : decode cX5_forgets 5 = .ok (.iconst 0, 1) := dk_3 (dk_at dksX5_forgets_0 5 rfl rfl)
theorem dX5_forgets_6 : decode cX5_forgets 6 = .ok (.iastore, 1) := dk_79 (dk_at dksX5_forgets_0 6 rfl rfl)
theorem dX5_forgets_7 : decode cX5_forgets 7 = .ok (.aload_n 0, 1) := dk_42 (dk_at dksX5_forgets_0 7 rfl rfl)
theorem dX5_forgets_8 : decode cX5_forgets 8 = .ok (.getfield 9, 3) := dk_180 0 9 (dk_at dksX5_forgets_0 8 rfl rfl)
theorem dX5_forgets_11 : decode cX5_forgets 11 = .ok (.iconst 1, 1) := dk_4 (dk_at dksX5_forgets_0 11 rfl rfl)
theorem dX5_forgets_12 : decode cX5_forgets 12 = .ok (.iconst 0, 1) := dk_3 (dk_at dksX5_forgets_0 12 rfl rfl)
theorem dX5_forgets_13 : decode cX5_forgets 13 = .ok (.iastore, 1) := dk_79 (dk_at dksX5_forgets_0 13 rfl rfl)
theorem dX5_forgets_14 : decode cX5_forgets 14 = .ok (.aload_n 0, 1) := dk_42 (dk_at dksX5_forgets_0 14 rfl rfl)
theorem dX5_forgets_15 : decode cX5_forgets 15 = .ok (.iconst 0, 1) := dk_3 (dk_at dksX5_forgets_0 15 rfl rfl)
theorem dX5_forgets_16 : decode cX5_forgets 16 = .ok (.putfield 50, 3) := dk_181 0 50 (dk_at dksX5_forgets_0 16 rfl rfl)
theorem dX5_forgets_19 : decode cX5_forgets 19 = .ok (.aload_n 0, 1) := dk_42 (dk_at dksX5_forgets_0 19 rfl rfl)
theorem dX5_forgets_20 : decode cX5_forgets 20 = .ok (.iconst 0, 1) := dk_3 (dk_at dksX5_forgets_0 20 rfl rfl)
theorem dX5_forgets_21 : decode cX5_forgets 21 = .ok (.putfield 53, 3) := dk_181 0 53 (dk_at dksX5_forgets_0 21 rfl rfl)
theorem dX5_forgets_24 : decode cX5_forgets 24 = .ok (.return_, 1) := dk_177 (dk_at dksX5_forgets_1 0 rfl rfl)
abbrev cX5_like : ByteArray := prog_14_method_4_code
def yX5_like : MethodName := ⟨RX5, "like", "(LLosslessFabric$Sender;)V"⟩
def dkwX5_like_4 : List UInt8 := [42, 43, 180, 0, 44, 181, 0, 44, 177]
abbrev dktX5_like_4 : List UInt8 := dkwX5_like_4 ++ []
def dkwX5_like_3 : List UInt8 := [42, 180, 0, 9, 3, 43, 180, 0, 9, 3, 46, 79, 42, 180, 0, 9, 4, 43, 180, 0, 9, 4, 46, 79]
abbrev dktX5_like_3 : List UInt8 := dkwX5_like_3 ++ dktX5_like_4
def dkwX5_like_2 : List UInt8 := [42, 43, 180, 0, 37, 181, 0, 37, 42, 43, 180, 0, 50, 181, 0, 50, 42, 43, 180, 0, 53, 181, 0, 53]
abbrev dktX5_like_2 : List UInt8 := dkwX5_like_2 ++ dktX5_like_3
def dkwX5_like_1 : List UInt8 := [42, 43, 180, 0, 28, 181, 0, 28, 42, 43, 180, 0, 31, 181, 0, 31, 42, 43, 180, 0, 34, 181, 0, 34]
abbrev dktX5_like_1 : List UInt8 := dkwX5_like_1 ++ dktX5_like_2
def dkwX5_like_0 : List UInt8 := [42, 43, 180, 0, 21, 181, 0, 21, 42, 43, 180, 0, 22, 181, 0, 22, 42, 43, 180, 0, 25, 181, 0, 25]
abbrev dktX5_like_0 : List UInt8 := dkwX5_like_0 ++ dktX5_like_1
theorem dksX5_like_0 : cX5_like.data.toList.drop 0 = dktX5_like_0 := by decide +kernel
theorem dksX5_like_1 : cX5_like.data.toList.drop 24 = dktX5_like_1 := dk_seg dksX5_like_0 24 rfl rfl
theorem dksX5_like_2 : cX5_like.data.toList.drop 48 = dktX5_like_2 := dk_seg dksX5_like_1 24 rfl rfl
theorem dksX5_like_3 : cX5_like.data.toList.drop 72 = dktX5_like_3 := dk_seg dksX5_like_2 24 rfl rfl
theorem dksX5_like_4 : cX5_like.data.toList.drop 96 = dktX5_like_4 := dk_seg dksX5_like_3 24 rfl rfl
theorem dX5_like_0 : decode cX5_like 0 = .ok (.aload_n 0, 1) := dk_42 (dk_at dksX5_like_0 0 rfl rfl)
theorem dX5_like_1 : decode cX5_like 1 = .ok (.aload_n 1, 1) := dk_43 (dk_at dksX5_like_0 1 rfl rfl)
theorem dX5_like_2 : decode cX5_like 2 = .ok (.getfield 21, 3) := dk_180 0 21 (dk_at dksX5_like_0 2 rfl rfl)
theorem dX5_like_5 : decode cX5_like 5 = .ok (.putfield 21, 3) := dk_181 0 21 (dk_at dksX5_like_0 5 rfl rfl)
theorem dX5_like_8 : decode cX5_like 8 = .ok (.aload_n 0, 1) := dk_42 (dk_at dksX5_like_0 8 rfl rfl)
theorem dX5_like_9 : decode cX5_like 9 = .ok (.aload_n 1, 1) := dk_43 (dk_at dksX5_like_0 9 rfl rfl)
theorem dX5_like_10 : decode cX5_like 10 = .ok (.getfield 22, 3) := dk_180 0 22 (dk_at dksX5_like_0 10 rfl rfl)
theorem dX5_like_13 : decode cX5_like 13 = .ok (.putfield 22, 3) := dk_181 0 22 (dk_at dksX5_like_0 13 rfl rfl)
theorem dX5_like_16 : decode cX5_like 16 = .ok (.aload_n 0, 1) := dk_42 (dk_at dksX5_like_0 16 rfl rfl)
theorem dX5_like_17 : decode cX5_like 17 = .ok (.aload_n 1, 1) := dk_43 (dk_at dksX5_like_0 17 rfl rfl)
theorem dX5_like_18 : decode cX5_like 18 = .ok (.getfield 25, 3) := dk_180 0 25 (dk_at dksX5_like_0 18 rfl rfl)
theorem dX5_like_21 : decode cX5_like 21 = .ok (.putfield 25, 3) := dk_181 0 25 (dk_at dksX5_like_0 21 rfl rfl)
theorem dX5_like_24 : decode cX5_like 24 = .ok (.aload_n 0, 1) := dk_42 (dk_at dksX5_like_1 0 rfl rfl)
theorem dX5_like_25 : decode cX5_like 25 = .ok (.aload_n 1, 1) := dk_43 (dk_at dksX5_like_1 1 rfl rfl)
theorem dX5_like_26 : decode cX5_like 26 = .ok (.getfield 28, 3) := dk_180 0 28 (dk_at dksX5_like_1 2 rfl rfl)
theorem dX5_like_29 : decode cX5_like 29 = .ok (.putfield 28, 3) := dk_181 0 28 (dk_at dksX5_like_1 5 rfl rfl)
theorem dX5_like_32 : decode cX5_like 32 = .ok (.aload_n 0, 1) := dk_42 (dk_at dksX5_like_1 8 rfl rfl)
theorem dX5_like_33 : decode cX5_like 33 = .ok (.aload_n 1, 1) := dk_43 (dk_at dksX5_like_1 9 rfl rfl)
theorem dX5_like_34 : decode cX5_like 34 = .ok (.getfield 31, 3) := dk_180 0 31 (dk_at dksX5_like_1 10 rfl rfl)
theorem dX5_like_37 : decode cX5_like 37 = .ok (.putfield 31, 3) := dk_181 0 31 (dk_at dksX5_like_1 13 rfl rfl)
theorem dX5_like_40 : decode cX5_like 40 = .ok (.aload_n 0, 1) := dk_42 (dk_at dksX5_like_1 16 rfl rfl)
theorem dX5_like_41 : decode cX5_like 41 = .ok (.aload_n 1, 1) := dk_43 (dk_at dksX5_like_1 17 rfl rfl)
theorem dX5_like_42 : decode cX5_like 42 = .ok (.getfield 34, 3) := dk_180 0 34 (dk_at dksX5_like_1 18 rfl rfl)
theorem dX5_like_45 : decode cX5_like 45 = .ok (.putfield 34, 3) := dk_181 0 34 (dk_at dksX5_like_1 21 rfl rfl)
theorem dX5_like_48 : decode cX5_like 48 = .ok (.aload_n 0, 1) := dk_42 (dk_at dksX5_like_2 0 rfl rfl)
theorem dX5_like_49 : decode cX5_like 49 = .ok (.aload_n 1, 1) := dk_43 (dk_at dksX5_like_2 1 rfl rfl)
theorem dX5_like_50 : decode cX5_like 50 = .ok (.getfield 37, 3) := dk_180 0 37 (dk_at dksX5_like_2 2 rfl rfl)
theorem dX5_like_53 : decode cX5_like 53 = .ok (.putfield 37, 3) := dk_181 0 37 (dk_at dksX5_like_2 5 rfl rfl)
theorem dX5_like_56 : decode cX5_like 56 = .ok (.aload_n 0, 1) := dk_42 (dk_at dksX5_like_2 8 rfl rfl)
theorem dX5_like_57 : decode cX5_like 57 = .ok (.aload_n 1, 1) := dk_43 (dk_at dksX5_like_2 9 rfl rfl)
theorem dX5_like_58 : decode cX5_like 58 = .ok (.getfield 50, 3) := dk_180 0 50 (dk_at dksX5_like_2 10 rfl rfl)
theorem dX5_like_61 : decode cX5_like 61 = .ok (.putfield 50, 3) := dk_181 0 50 (dk_at dksX5_like_2 13 rfl rfl)
theorem dX5_like_64 : decode cX5_like 64 = .ok (.aload_n 0, 1) := dk_42 (dk_at dksX5_like_2 16 rfl rfl)
theorem dX5_like_65 : decode cX5_like 65 = .ok (.aload_n 1, 1) := dk_43 (dk_at dksX5_like_2 17 rfl rfl)
theorem dX5_like_66 : decode cX5_like 66 = .ok (.getfield 53, 3) := dk_180 0 53 (dk_at dksX5_like_2 18 rfl rfl)
theorem dX5_like_69 : decode cX5_like 69 = .ok (.putfield 53, 3) := dk_181 0 53 (dk_at dksX5_like_2 21 rfl rfl)
theorem dX5_like_72 : decode cX5_like 72 = .ok (.aload_n 0, 1) := dk_42 (dk_at dksX5_like_3 0 rfl rfl)
theorem dX5_like_73 : decode cX5_like 73 = .ok (.getfield 9, 3) := dk_180 0 9 (dk_at dksX5_like_3 1 rfl rfl)
theorem dX5_like_76 : decode cX5_like 76 = .ok (.iconst 0, 1) := dk_3 (dk_at dksX5_like_3 4 rfl rfl)
theorem dX5_like_77 : decode cX5_like 77 = .ok (.aload_n 1, 1) := dk_43 (dk_at dksX5_like_3 5 rfl rfl)
theorem dX5_like_78 : decode cX5_like 78 = .ok (.getfield 9, 3) := dk_180 0 9 (dk_at dksX5_like_3 6 rfl rfl)
theorem dX5_like_81 : decode cX5_like 81 = .ok (.iconst 0, 1) := dk_3 (dk_at dksX5_like_3 9 rfl rfl)
theorem dX5_like_82 : decode cX5_like 82 = .ok (.iaload, 1) := dk_46 (dk_at dksX5_like_3 10 rfl rfl)
theorem dX5_like_83 : decode cX5_like 83 = .ok (.iastore, 1) := dk_79 (dk_at dksX5_like_3 11 rfl rfl)
theorem dX5_like_84 : decode cX5_like 84 = .ok (.aload_n 0, 1) := dk_42 (dk_at dksX5_like_3 12 rfl rfl)
theorem dX5_like_85 : decode cX5_like 85 = .ok (.getfield 9, 3) := dk_180 0 9 (dk_at dksX5_like_3 13 rfl rfl)
theorem dX5_like_88 : decode cX5_like 88 = .ok (.iconst 1, 1) := dk_4 (dk_at dksX5_like_3 16 rfl rfl)
theorem dX5_like_89 : decode cX5_like 89 = .ok (.aload_n 1, 1) := dk_43 (dk_at dksX5_like_3 17 rfl rfl)
theorem dX5_like_90 : decode cX5_like 90 = .ok (.getfield 9, 3) := dk_180 0 9 (dk_at dksX5_like_3 18 rfl rfl)
theorem dX5_like_93 : decode cX5_like 93 = .ok (.iconst 1, 1) := dk_4 (dk_at dksX5_like_3 21 rfl rfl)
theorem dX5_like_94 : decode cX5_like 94 = .ok (.iaload, 1) := dk_46 (dk_at dksX5_like_3 22 rfl rfl)
theorem dX5_like_95 : decode cX5_like 95 = .ok (.iastore, 1) := dk_79 (dk_at dksX5_like_3 23 rfl rfl)
theorem dX5_like_96 : decode cX5_like 96 = .ok (.aload_n 0, 1) := dk_42 (dk_at dksX5_like_4 0 rfl rfl)
theorem dX5_like_97 : decode cX5_like 97 = .ok (.aload_n 1, 1) := dk_43 (dk_at dksX5_like_4 1 rfl rfl)
theorem dX5_like_98 : decode cX5_like 98 = .ok (.getfield 44, 3) := dk_180 0 44 (dk_at dksX5_like_4 2 rfl rfl)
theorem dX5_like_101 : decode cX5_like 101 = .ok (.putfield 44, 3) := dk_181 0 44 (dk_at dksX5_like_4 5 rfl rfl)
theorem dX5_like_104 : decode cX5_like 104 = .ok (.return_, 1) := dk_177 (dk_at dksX5_like_4 8 rfl rfl)
abbrev cX5_cuts : ByteArray := prog_14_method_5_code
def yX5_cuts : MethodName := ⟨RX5, "cuts", "(I)V"⟩
def dkwX5_cuts_1 : List UInt8 := [42, 180, 0, 21, 27, 104, 17, 0, 128, 108, 100, 184, 0, 56, 181, 0, 21, 42, 182, 0, 47, 177]
abbrev dktX5_cuts_1 : List UInt8 := dkwX5_cuts_1 ++ []
def dkwX5_cuts_0 : List UInt8 := [42, 89, 180, 0, 31, 4, 96, 181, 0, 31, 42, 42, 180, 0, 21, 181, 0, 22, 42, 4, 42, 180, 0, 21]
abbrev dktX5_cuts_0 : List UInt8 := dkwX5_cuts_0 ++ dktX5_cuts_1
theorem dksX5_cuts_0 : cX5_cuts.data.toList.drop 0 = dktX5_cuts_0 := by decide +kernel
theorem dksX5_cuts_1 : cX5_cuts.data.toList.drop 24 = dktX5_cuts_1 := dk_seg dksX5_cuts_0 24 rfl rfl
theorem dX5_cuts_0 : decode cX5_cuts 0 = .ok (.aload_n 0, 1) := dk_42 (dk_at dksX5_cuts_0 0 rfl rfl)
theorem dX5_cuts_1 : decode cX5_cuts 1 = .ok (.dup, 1) := dk_89 (dk_at dksX5_cuts_0 1 rfl rfl)
theorem dX5_cuts_2 : decode cX5_cuts 2 = .ok (.getfield 31, 3) := dk_180 0 31 (dk_at dksX5_cuts_0 2 rfl rfl)
theorem dX5_cuts_5 : decode cX5_cuts 5 = .ok (.iconst 1, 1) := dk_4 (dk_at dksX5_cuts_0 5 rfl rfl)
theorem dX5_cuts_6 : decode cX5_cuts 6 = .ok (.iadd, 1) := dk_96 (dk_at dksX5_cuts_0 6 rfl rfl)
theorem dX5_cuts_7 : decode cX5_cuts 7 = .ok (.putfield 31, 3) := dk_181 0 31 (dk_at dksX5_cuts_0 7 rfl rfl)
theorem dX5_cuts_10 : decode cX5_cuts 10 = .ok (.aload_n 0, 1) := dk_42 (dk_at dksX5_cuts_0 10 rfl rfl)
theorem dX5_cuts_11 : decode cX5_cuts 11 = .ok (.aload_n 0, 1) := dk_42 (dk_at dksX5_cuts_0 11 rfl rfl)
theorem dX5_cuts_12 : decode cX5_cuts 12 = .ok (.getfield 21, 3) := dk_180 0 21 (dk_at dksX5_cuts_0 12 rfl rfl)
theorem dX5_cuts_15 : decode cX5_cuts 15 = .ok (.putfield 22, 3) := dk_181 0 22 (dk_at dksX5_cuts_0 15 rfl rfl)
theorem dX5_cuts_18 : decode cX5_cuts 18 = .ok (.aload_n 0, 1) := dk_42 (dk_at dksX5_cuts_0 18 rfl rfl)
theorem dX5_cuts_19 : decode cX5_cuts 19 = .ok (.iconst 1, 1) := dk_4 (dk_at dksX5_cuts_0 19 rfl rfl)
theorem dX5_cuts_20 : decode cX5_cuts 20 = .ok (.aload_n 0, 1) := dk_42 (dk_at dksX5_cuts_0 20 rfl rfl)
theorem dX5_cuts_21 : decode cX5_cuts 21 = .ok (.getfield 21, 3) := dk_180 0 21 (dk_at dksX5_cuts_0 21 rfl rfl)
theorem dX5_cuts_24 : decode cX5_cuts 24 = .ok (.aload_n 0, 1) := dk_42 (dk_at dksX5_cuts_1 0 rfl rfl)
theorem dX5_cuts_25 : decode cX5_cuts 25 = .ok (.getfield 21, 3) := dk_180 0 21 (dk_at dksX5_cuts_1 1 rfl rfl)
theorem dX5_cuts_28 : decode cX5_cuts 28 = .ok (.iload_n 1, 1) := dk_27 (dk_at dksX5_cuts_1 4 rfl rfl)
theorem dX5_cuts_29 : decode cX5_cuts 29 = .ok (.imul, 1) := dk_104 (dk_at dksX5_cuts_1 5 rfl rfl)
theorem dX5_cuts_30 : decode cX5_cuts 30 = .ok (.sipush 128, 3) := dk_17 0 128 (dk_at dksX5_cuts_1 6 rfl rfl)
theorem dX5_cuts_33 : decode cX5_cuts 33 = .ok (.idiv, 1) := dk_108 (dk_at dksX5_cuts_1 9 rfl rfl)
theorem dX5_cuts_34 : decode cX5_cuts 34 = .ok (.isub, 1) := dk_100 (dk_at dksX5_cuts_1 10 rfl rfl)
theorem dX5_cuts_35 : decode cX5_cuts 35 = .ok (.invokestatic 56, 3) := dk_184 0 56 (dk_at dksX5_cuts_1 11 rfl rfl)
theorem dX5_cuts_38 : decode cX5_cuts 38 = .ok (.putfield 21, 3) := dk_181 0 21 (dk_at dksX5_cuts_1 14 rfl rfl)
theorem dX5_cuts_41 : decode cX5_cuts 41 = .ok (.aload_n 0, 1) := dk_42 (dk_at dksX5_cuts_1 17 rfl rfl)
theorem dX5_cuts_42 : decode cX5_cuts 42 = .ok (.invokevirtual 47, 3) := dk_182 0 47 (dk_at dksX5_cuts_1 18 rfl rfl)
theorem dX5_cuts_45 : decode cX5_cuts 45 = .ok (.return_, 1) := dk_177 (dk_at dksX5_cuts_1 21 rfl rfl)
abbrev cX5_recovers : ByteArray := prog_14_method_7_code
def yX5_recovers : MethodName := ⟨RX5, "recovers", "(LLosslessFabric$Told;LLosslessFabric$Climb;)V"⟩
def dkwX5_recovers_3 : List UInt8 := [181, 0, 53, 42, 4, 44, 182, 0, 76, 177]
abbrev dktX5_recovers_3 : List UInt8 := dkwX5_recovers_3 ++ []
def dkwX5_recovers_2 : List UInt8 := [180, 0, 53, 4, 96, 181, 0, 53, 42, 180, 0, 53, 43, 180, 0, 80, 162, 0, 4, 177, 42, 3]
abbrev dktX5_recovers_2 : List UInt8 := dkwX5_recovers_2 ++ dktX5_recovers_3
def dkwX5_recovers_1 : List UInt8 := [42, 89, 180, 0, 50, 43, 180, 0, 73, 100, 181, 0, 50, 42, 3, 44, 182, 0, 76, 167, 255, 226, 42, 89]
abbrev dktX5_recovers_1 : List UInt8 := dkwX5_recovers_1 ++ dktX5_recovers_2
def dkwX5_recovers_0 : List UInt8 := [42, 89, 180, 0, 50, 42, 180, 0, 70, 96, 181, 0, 50, 42, 180, 0, 50, 43, 180, 0, 73, 161, 0, 25]
abbrev dktX5_recovers_0 : List UInt8 := dkwX5_recovers_0 ++ dktX5_recovers_1
theorem dksX5_recovers_0 : cX5_recovers.data.toList.drop 0 = dktX5_recovers_0 := by decide +kernel
theorem dksX5_recovers_1 : cX5_recovers.data.toList.drop 24 = dktX5_recovers_1 := dk_seg dksX5_recovers_0 24 rfl rfl
theorem dksX5_recovers_2 : cX5_recovers.data.toList.drop 48 = dktX5_recovers_2 := dk_seg dksX5_recovers_1 24 rfl rfl
theorem dksX5_recovers_3 : cX5_recovers.data.toList.drop 70 = dktX5_recovers_3 := dk_seg dksX5_recovers_2 22 rfl rfl
theorem dX5_recovers_0 : decode cX5_recovers 0 = .ok (.aload_n 0, 1) := dk_42 (dk_at dksX5_recovers_0 0 rfl rfl)
theorem dX5_recovers_1 : decode cX5_recovers 1 = .ok (.dup, 1) := dk_89 (dk_at dksX5_recovers_0 1 rfl rfl)
theorem dX5_recovers_2 : decode cX5_recovers 2 = .ok (.getfield 50, 3) := dk_180 0 50 (dk_at dksX5_recovers_0 2 rfl rfl)
theorem dX5_recovers_5 : decode cX5_recovers 5 = .ok (.aload_n 0, 1) := dk_42 (dk_at dksX5_recovers_0 5 rfl rfl)
theorem dX5_recovers_6 : decode cX5_recovers 6 = .ok (.getfield 70, 3) := dk_180 0 70 (dk_at dksX5_recovers_0 6 rfl rfl)
theorem dX5_recovers_9 : decode cX5_recovers 9 = .ok (.iadd, 1) := dk_96 (dk_at dksX5_recovers_0 9 rfl rfl)
theorem dX5_recovers_10 : decode cX5_recovers 10 = .ok (.putfield 50, 3) := dk_181 0 50 (dk_at dksX5_recovers_0 10 rfl rfl)
theorem dX5_recovers_13 : decode cX5_recovers 13 = .ok (.aload_n 0, 1) := dk_42 (dk_at dksX5_recovers_0 13 rfl rfl)
theorem dX5_recovers_14 : decode cX5_recovers 14 = .ok (.getfield 50, 3) := dk_180 0 50 (dk_at dksX5_recovers_0 14 rfl rfl)
theorem dX5_recovers_17 : decode cX5_recovers 17 = .ok (.aload_n 1, 1) := dk_43 (dk_at dksX5_recovers_0 17 rfl rfl)
theorem dX5_recovers_18 : decode cX5_recovers 18 = .ok (.getfield 73, 3) := dk_180 0 73 (dk_at dksX5_recovers_0 18 rfl rfl)
theorem dX5_recovers_21 : decode cX5_recovers 21 = .ok (.if_icmp .lt 25, 3) := dk_161 0 25 (dk_at dksX5_recovers_0 21 rfl rfl)
theorem dX5_recovers_24 : decode cX5_recovers 24 = .ok (.aload_n 0, 1) := dk_42 (dk_at dksX5_recovers_1 0 rfl rfl)
theorem dX5_recovers_25 : decode cX5_recovers 25 = .ok (.dup, 1) := dk_89 (dk_at dksX5_recovers_1 1 rfl rfl)
theorem dX5_recovers_26 : decode cX5_recovers 26 = .ok (.getfield 50, 3) := dk_180 0 50 (dk_at dksX5_recovers_1 2 rfl rfl)
theorem dX5_recovers_29 : decode cX5_recovers 29 = .ok (.aload_n 1, 1) := dk_43 (dk_at dksX5_recovers_1 5 rfl rfl)
theorem dX5_recovers_30 : decode cX5_recovers 30 = .ok (.getfield 73, 3) := dk_180 0 73 (dk_at dksX5_recovers_1 6 rfl rfl)
theorem dX5_recovers_33 : decode cX5_recovers 33 = .ok (.isub, 1) := dk_100 (dk_at dksX5_recovers_1 9 rfl rfl)
theorem dX5_recovers_34 : decode cX5_recovers 34 = .ok (.putfield 50, 3) := dk_181 0 50 (dk_at dksX5_recovers_1 10 rfl rfl)
theorem dX5_recovers_37 : decode cX5_recovers 37 = .ok (.aload_n 0, 1) := dk_42 (dk_at dksX5_recovers_1 13 rfl rfl)
theorem dX5_recovers_38 : decode cX5_recovers 38 = .ok (.iconst 0, 1) := dk_3 (dk_at dksX5_recovers_1 14 rfl rfl)
theorem dX5_recovers_39 : decode cX5_recovers 39 = .ok (.aload_n 2, 1) := dk_44 (dk_at dksX5_recovers_1 15 rfl rfl)
theorem dX5_recovers_40 : decode cX5_recovers 40 = .ok (.invokevirtual 76, 3) := dk_182 0 76 (dk_at dksX5_recovers_1 16 rfl rfl)
theorem dX5_recovers_43 : decode cX5_recovers 43 = .ok (.goto (-30), 3) := dk_167 255 226 (dk_at dksX5_recovers_1 19 rfl rfl)
theorem dX5_recovers_46 : decode cX5_recovers 46 = .ok (.aload_n 0, 1) := dk_42 (dk_at dksX5_recovers_1 22 rfl rfl)
theorem dX5_recovers_47 : decode cX5_recovers 47 = .ok (.dup, 1) := dk_89 (dk_at dksX5_recovers_1 23 rfl rfl)
theorem dX5_recovers_48 : decode cX5_recovers 48 = .ok (.getfield 53, 3) := dk_180 0 53 (dk_at dksX5_recovers_2 0 rfl rfl)
theorem dX5_recovers_51 : decode cX5_recovers 51 = .ok (.iconst 1, 1) := dk_4 (dk_at dksX5_recovers_2 3 rfl rfl)
theorem dX5_recovers_52 : decode cX5_recovers 52 = .ok (.iadd, 1) := dk_96 (dk_at dksX5_recovers_2 4 rfl rfl)
theorem dX5_recovers_53 : decode cX5_recovers 53 = .ok (.putfield 53, 3) := dk_181 0 53 (dk_at dksX5_recovers_2 5 rfl rfl)
theorem dX5_recovers_56 : decode cX5_recovers 56 = .ok (.aload_n 0, 1) := dk_42 (dk_at dksX5_recovers_2 8 rfl rfl)
theorem dX5_recovers_57 : decode cX5_recovers 57 = .ok (.getfield 53, 3) := dk_180 0 53 (dk_at dksX5_recovers_2 9 rfl rfl)
theorem dX5_recovers_60 : decode cX5_recovers 60 = .ok (.aload_n 1, 1) := dk_43 (dk_at dksX5_recovers_2 12 rfl rfl)
theorem dX5_recovers_61 : decode cX5_recovers 61 = .ok (.getfield 80, 3) := dk_180 0 80 (dk_at dksX5_recovers_2 13 rfl rfl)
theorem dX5_recovers_64 : decode cX5_recovers 64 = .ok (.if_icmp .ge 4, 3) := dk_162 0 4 (dk_at dksX5_recovers_2 16 rfl rfl)
theorem dX5_recovers_67 : decode cX5_recovers 67 = .ok (.return_, 1) := dk_177 (dk_at dksX5_recovers_2 19 rfl rfl)
theorem dX5_recovers_68 : decode cX5_recovers 68 = .ok (.aload_n 0, 1) := dk_42 (dk_at dksX5_recovers_2 20 rfl rfl)
theorem dX5_recovers_69 : decode cX5_recovers 69 = .ok (.iconst 0, 1) := dk_3 (dk_at dksX5_recovers_2 21 rfl rfl)
theorem dX5_recovers_70 : decode cX5_recovers 70 = .ok (.putfield 53, 3) := dk_181 0 53 (dk_at dksX5_recovers_3 0 rfl rfl)
theorem dX5_recovers_73 : decode cX5_recovers 73 = .ok (.aload_n 0, 1) := dk_42 (dk_at dksX5_recovers_3 3 rfl rfl)
theorem dX5_recovers_74 : decode cX5_recovers 74 = .ok (.iconst 1, 1) := dk_4 (dk_at dksX5_recovers_3 4 rfl rfl)
theorem dX5_recovers_75 : decode cX5_recovers 75 = .ok (.aload_n 2, 1) := dk_44 (dk_at dksX5_recovers_3 5 rfl rfl)
theorem dX5_recovers_76 : decode cX5_recovers 76 = .ok (.invokevirtual 76, 3) := dk_182 0 76 (dk_at dksX5_recovers_3 6 rfl rfl)
theorem dX5_recovers_79 : decode cX5_recovers 79 = .ok (.return_, 1) := dk_177 (dk_at dksX5_recovers_3 9 rfl rfl)
abbrev cX5_climbs : ByteArray := prog_14_method_6_code
def yX5_climbs : MethodName := ⟨RX5, "climbs", "(ILLosslessFabric$Climb;)V"⟩
def dkwX5_climbs_3 : List UInt8 := [96, 5, 108, 181, 0, 21, 177]
abbrev dktX5_climbs_3 : List UInt8 := dkwX5_climbs_3 ++ []
def dkwX5_climbs_2 : List UInt8 := [184, 0, 56, 185, 0, 65, 3, 0, 96, 184, 0, 62, 181, 0, 22, 42, 42, 180, 0, 21, 42, 180, 0, 22]
abbrev dktX5_climbs_2 : List UInt8 := dkwX5_climbs_2 ++ dktX5_climbs_3
def dkwX5_climbs_1 : List UInt8 := [46, 42, 180, 0, 9, 4, 46, 184, 0, 62, 42, 180, 0, 9, 3, 46, 42, 180, 0, 9, 4, 46]
abbrev dktX5_climbs_1 : List UInt8 := dkwX5_climbs_1 ++ dktX5_climbs_2
def dkwX5_climbs_0 : List UInt8 := [42, 180, 0, 9, 27, 92, 46, 4, 96, 79, 42, 17, 4, 0, 42, 180, 0, 22, 44, 42, 180, 0, 9, 3]
abbrev dktX5_climbs_0 : List UInt8 := dkwX5_climbs_0 ++ dktX5_climbs_1
theorem dksX5_climbs_0 : cX5_climbs.data.toList.drop 0 = dktX5_climbs_0 := by decide +kernel
theorem dksX5_climbs_1 : cX5_climbs.data.toList.drop 24 = dktX5_climbs_1 := dk_seg dksX5_climbs_0 24 rfl rfl
theorem dksX5_climbs_2 : cX5_climbs.data.toList.drop 46 = dktX5_climbs_2 := dk_seg dksX5_climbs_1 22 rfl rfl
theorem dksX5_climbs_3 : cX5_climbs.data.toList.drop 70 = dktX5_climbs_3 := dk_seg dksX5_climbs_2 24 rfl rfl
theorem dX5_climbs_0 : decode cX5_climbs 0 = .ok (.aload_n 0, 1) := dk_42 (dk_at dksX5_climbs_0 0 rfl rfl)
theorem dX5_climbs_1 : decode cX5_climbs 1 = .ok (.getfield 9, 3) := dk_180 0 9 (dk_at dksX5_climbs_0 1 rfl rfl)
theorem dX5_climbs_4 : decode cX5_climbs 4 = .ok (.iload_n 1, 1) := dk_27 (dk_at dksX5_climbs_0 4 rfl rfl)
theorem dX5_climbs_5 : decode cX5_climbs 5 = .ok (.dup2, 1) := dk_92 (dk_at dksX5_climbs_0 5 rfl rfl)
theorem dX5_climbs_6 : decode cX5_climbs 6 = .ok (.iaload, 1) := dk_46 (dk_at dksX5_climbs_0 6 rfl rfl)
theorem dX5_climbs_7 : decode cX5_climbs 7 = .ok (.iconst 1, 1) := dk_4 (dk_at dksX5_climbs_0 7 rfl rfl)
theorem dX5_climbs_8 : decode cX5_climbs 8 = .ok (.iadd, 1) := dk_96 (dk_at dksX5_climbs_0 8 rfl rfl)
theorem dX5_climbs_9 : decode cX5_climbs 9 = .ok (.iastore, 1) := dk_79 (dk_at dksX5_climbs_0 9 rfl rfl)
theorem dX5_climbs_10 : decode cX5_climbs 10 = .ok (.aload_n 0, 1) := dk_42 (dk_at dksX5_climbs_0 10 rfl rfl)
theorem dX5_climbs_11 : decode cX5_climbs 11 = .ok (.sipush 1024, 3) := dk_17 4 0 (dk_at dksX5_climbs_0 11 rfl rfl)
theorem dX5_climbs_14 : decode cX5_climbs 14 = .ok (.aload_n 0, 1) := dk_42 (dk_at dksX5_climbs_0 14 rfl rfl)
theorem dX5_climbs_15 : decode cX5_climbs 15 = .ok (.getfield 22, 3) := dk_180 0 22 (dk_at dksX5_climbs_0 15 rfl rfl)
theorem dX5_climbs_18 : decode cX5_climbs 18 = .ok (.aload_n 2, 1) := dk_44 (dk_at dksX5_climbs_0 18 rfl rfl)
theorem dX5_climbs_19 : decode cX5_climbs 19 = .ok (.aload_n 0, 1) := dk_42 (dk_at dksX5_climbs_0 19 rfl rfl)
theorem dX5_climbs_20 : decode cX5_climbs 20 = .ok (.getfield 9, 3) := dk_180 0 9 (dk_at dksX5_climbs_0 20 rfl rfl)
theorem dX5_climbs_23 : decode cX5_climbs 23 = .ok (.iconst 0, 1) := dk_3 (dk_at dksX5_climbs_0 23 rfl rfl)
theorem dX5_climbs_24 : decode cX5_climbs 24 = .ok (.iaload, 1) := dk_46 (dk_at dksX5_climbs_1 0 rfl rfl)
theorem dX5_climbs_25 : decode cX5_climbs 25 = .ok (.aload_n 0, 1) := dk_42 (dk_at dksX5_climbs_1 1 rfl rfl)
theorem dX5_climbs_26 : decode cX5_climbs 26 = .ok (.getfield 9, 3) := dk_180 0 9 (dk_at dksX5_climbs_1 2 rfl rfl)
theorem dX5_climbs_29 : decode cX5_climbs 29 = .ok (.iconst 1, 1) := dk_4 (dk_at dksX5_climbs_1 5 rfl rfl)
theorem dX5_climbs_30 : decode cX5_climbs 30 = .ok (.iaload, 1) := dk_46 (dk_at dksX5_climbs_1 6 rfl rfl)
theorem dX5_climbs_31 : decode cX5_climbs 31 = .ok (.invokestatic 62, 3) := dk_184 0 62 (dk_at dksX5_climbs_1 7 rfl rfl)
theorem dX5_climbs_34 : decode cX5_climbs 34 = .ok (.aload_n 0, 1) := dk_42 (dk_at dksX5_climbs_1 10 rfl rfl)
theorem dX5_climbs_35 : decode cX5_climbs 35 = .ok (.getfield 9, 3) := dk_180 0 9 (dk_at dksX5_climbs_1 11 rfl rfl)
theorem dX5_climbs_38 : decode cX5_climbs 38 = .ok (.iconst 0, 1) := dk_3 (dk_at dksX5_climbs_1 14 rfl rfl)
theorem dX5_climbs_39 : decode cX5_climbs 39 = .ok (.iaload, 1) := dk_46 (dk_at dksX5_climbs_1 15 rfl rfl)
theorem dX5_climbs_40 : decode cX5_climbs 40 = .ok (.aload_n 0, 1) := dk_42 (dk_at dksX5_climbs_1 16 rfl rfl)
theorem dX5_climbs_41 : decode cX5_climbs 41 = .ok (.getfield 9, 3) := dk_180 0 9 (dk_at dksX5_climbs_1 17 rfl rfl)
theorem dX5_climbs_44 : decode cX5_climbs 44 = .ok (.iconst 1, 1) := dk_4 (dk_at dksX5_climbs_1 20 rfl rfl)
theorem dX5_climbs_45 : decode cX5_climbs 45 = .ok (.iaload, 1) := dk_46 (dk_at dksX5_climbs_1 21 rfl rfl)
theorem dX5_climbs_46 : decode cX5_climbs 46 = .ok (.invokestatic 56, 3) := dk_184 0 56 (dk_at dksX5_climbs_2 0 rfl rfl)
theorem dX5_climbs_49 : decode cX5_climbs 49 = .ok (.invokeinterface 65 3, 5) := by decide +kernel
theorem dX5_climbs_54 : decode cX5_climbs 54 = .ok (.iadd, 1) := dk_96 (dk_at dksX5_climbs_2 8 rfl rfl)
theorem dX5_climbs_55 : decode cX5_climbs 55 = .ok (.invokestatic 62, 3) := dk_184 0 62 (dk_at dksX5_climbs_2 9 rfl rfl)
theorem dX5_climbs_58 : decode cX5_climbs 58 = .ok (.putfield 22, 3) := dk_181 0 22 (dk_at dksX5_climbs_2 12 rfl rfl)
theorem dX5_climbs_61 : decode cX5_climbs 61 = .ok (.aload_n 0, 1) := dk_42 (dk_at dksX5_climbs_2 15 rfl rfl)
theorem dX5_climbs_62 : decode cX5_climbs 62 = .ok (.aload_n 0, 1) := dk_42 (dk_at dksX5_climbs_2 16 rfl rfl)
theorem dX5_climbs_63 : decode cX5_climbs 63 = .ok (.getfield 21, 3) := dk_180 0 21 (dk_at dksX5_climbs_2 17 rfl rfl)
theorem dX5_climbs_66 : decode cX5_climbs 66 = .ok (.aload_n 0, 1) := dk_42 (dk_at dksX5_climbs_2 20 rfl rfl)
theorem dX5_climbs_67 : decode cX5_climbs 67 = .ok (.getfield 22, 3) := dk_180 0 22 (dk_at dksX5_climbs_2 21 rfl rfl)
theorem dX5_climbs_70 : decode cX5_climbs 70 = .ok (.iadd, 1) := dk_96 (dk_at dksX5_climbs_3 0 rfl rfl)
theorem dX5_climbs_71 : decode cX5_climbs 71 = .ok (.iconst 2, 1) := dk_5 (dk_at dksX5_climbs_3 1 rfl rfl)
theorem dX5_climbs_72 : decode cX5_climbs 72 = .ok (.idiv, 1) := dk_108 (dk_at dksX5_climbs_3 2 rfl rfl)
theorem dX5_climbs_73 : decode cX5_climbs 73 = .ok (.putfield 21, 3) := dk_181 0 21 (dk_at dksX5_climbs_3 3 rfl rfl)
theorem dX5_climbs_76 : decode cX5_climbs 76 = .ok (.return_, 1) := dk_177 (dk_at dksX5_climbs_3 6 rfl rfl)
theorem q105 : (Jvm.Cond.initialized "LosslessFabric$Sender") ∈ lw_all := lw_g (lw_at lw_m1 5 rfl) rfl
theorem q177 : (Jvm.Cond.fieldLinkNest "LosslessFabric$Sender" (73 : Nat) "LosslessFabric$Told" "cells" "I" "LosslessFabric") ∈ lw_tbl := lw_at lw_m1 77 rfl
theorem q180 : (Jvm.Cond.fieldLinkNest "LosslessFabric$Sender" (80 : Nat) "LosslessFabric$Told" "ticks" "I" "LosslessFabric") ∈ lw_tbl := lw_at lw_m1 80 rfl
theorem q291 : (Jvm.Cond.instantiable "LosslessFabric$Sender" (12 : Nat)) ∈ lw_all := lw_g (lw_at lw_m1 191 rfl) rfl
theorem q293 : (Jvm.Cond.instanceMethod ({ cls := "LosslessFabric$Sender", name := "<init>", desc := "()V" } : Jvm.MethodName)) ∈ lw_all := lw_g (lw_at lw_m1 193 rfl) rfl
theorem q294 : (Jvm.Cond.code ({ cls := "LosslessFabric$Sender", name := "<init>", desc := "()V" } : Jvm.MethodName) prog_14_method_1_code (1 : Nat) (Option.none : Option Jvm.ClassFile.FieldType)) ∈ lw_all := lw_g (lw_at lw_m1 194 rfl) rfl
theorem q295 : (Jvm.Cond.methodLink "LosslessFabric$Sender" (3 : Nat) ({ cls := "java/lang/Object", name := "<init>", desc := "()V" } : Jvm.MethodName)) ∈ lw_all := lw_g (lw_at lw_m1 195 rfl) rfl
theorem q296 : (Jvm.Cond.fieldLink "LosslessFabric$Sender" (21 : Nat) "LosslessFabric$Sender" "rate" "I") ∈ lw_all := lw_g (lw_at lw_m1 196 rfl) rfl
theorem q298 : (Jvm.Cond.fieldLink "LosslessFabric$Sender" (22 : Nat) "LosslessFabric$Sender" "target" "I") ∈ lw_all := lw_g (lw_at lw_m1 198 rfl) rfl
theorem q300 : (Jvm.Cond.fieldLink "LosslessFabric$Sender" (25 : Nat) "LosslessFabric$Sender" "sent" "I") ∈ lw_all := lw_g (lw_at lw_m1 200 rfl) rfl
theorem q303 : (Jvm.Cond.fieldLink "LosslessFabric$Sender" (28 : Nat) "LosslessFabric$Sender" "delivered" "I") ∈ lw_all := lw_g (lw_at lw_m1 203 rfl) rfl
theorem q306 : (Jvm.Cond.fieldLink "LosslessFabric$Sender" (31 : Nat) "LosslessFabric$Sender" "notices" "I") ∈ lw_all := lw_g (lw_at lw_m1 206 rfl) rfl
theorem q309 : (Jvm.Cond.fieldLink "LosslessFabric$Sender" (34 : Nat) "LosslessFabric$Sender" "lost" "I") ∈ lw_all := lw_g (lw_at lw_m1 209 rfl) rfl
theorem q312 : (Jvm.Cond.fieldLink "LosslessFabric$Sender" (37 : Nat) "LosslessFabric$Sender" "credit" "I") ∈ lw_all := lw_g (lw_at lw_m1 212 rfl) rfl
theorem q315 : (Jvm.Cond.fieldLink "LosslessFabric$Sender" (50 : Nat) "LosslessFabric$Sender" "cells" "I") ∈ lw_all := lw_g (lw_at lw_m1 215 rfl) rfl
theorem q317 : (Jvm.Cond.fieldLink "LosslessFabric$Sender" (53 : Nat) "LosslessFabric$Sender" "ticks" "I") ∈ lw_all := lw_g (lw_at lw_m1 217 rfl) rfl
theorem q319 : (Jvm.Cond.fieldLink "LosslessFabric$Sender" (70 : Nat) "LosslessFabric$Sender" "now" "I") ∈ lw_all := lw_g (lw_at lw_m1 219 rfl) rfl
theorem q321 : (Jvm.Cond.fieldLink "LosslessFabric$Sender" (9 : Nat) "LosslessFabric$Sender" "stages" "[I") ∈ lw_all := lw_g (lw_at lw_m1 221 rfl) rfl
theorem q324 : (Jvm.Cond.fieldLink "LosslessFabric$Sender" (44 : Nat) "LosslessFabric$Sender" "isOn" "Z") ∈ lw_all := lw_g (lw_at lw_m1 224 rfl) rfl
theorem q326 : (Jvm.Cond.lays "LosslessFabric$Sender" "LosslessFabric$Sender" "rate" "I") ∈ lw_all := lw_g (lw_at lw_m1 226 rfl) rfl
theorem q327 : (Jvm.Cond.soleField "LosslessFabric$Sender" "rate") ∈ lw_all := lw_g (lw_at lw_m1 227 rfl) rfl
theorem q328 : (Jvm.Cond.lays "LosslessFabric$Sender" "LosslessFabric$Sender" "target" "I") ∈ lw_all := lw_g (lw_at lw_m1 228 rfl) rfl
theorem q329 : (Jvm.Cond.soleField "LosslessFabric$Sender" "target") ∈ lw_all := lw_g (lw_at lw_m1 229 rfl) rfl
theorem q330 : (Jvm.Cond.lays "LosslessFabric$Sender" "LosslessFabric$Sender" "sent" "I") ∈ lw_all := lw_g (lw_at lw_m1 230 rfl) rfl
theorem q331 : (Jvm.Cond.soleField "LosslessFabric$Sender" "sent") ∈ lw_all := lw_g (lw_at lw_m1 231 rfl) rfl
theorem q332 : (Jvm.Cond.lays "LosslessFabric$Sender" "LosslessFabric$Sender" "delivered" "I") ∈ lw_all := lw_g (lw_at lw_m1 232 rfl) rfl
theorem q333 : (Jvm.Cond.soleField "LosslessFabric$Sender" "delivered") ∈ lw_all := lw_g (lw_at lw_m1 233 rfl) rfl
theorem q334 : (Jvm.Cond.lays "LosslessFabric$Sender" "LosslessFabric$Sender" "notices" "I") ∈ lw_all := lw_g (lw_at lw_m1 234 rfl) rfl
theorem q335 : (Jvm.Cond.soleField "LosslessFabric$Sender" "notices") ∈ lw_all := lw_g (lw_at lw_m1 235 rfl) rfl
theorem q336 : (Jvm.Cond.lays "LosslessFabric$Sender" "LosslessFabric$Sender" "lost" "I") ∈ lw_all := lw_g (lw_at lw_m1 236 rfl) rfl
theorem q337 : (Jvm.Cond.soleField "LosslessFabric$Sender" "lost") ∈ lw_all := lw_g (lw_at lw_m1 237 rfl) rfl
theorem q338 : (Jvm.Cond.lays "LosslessFabric$Sender" "LosslessFabric$Sender" "credit" "I") ∈ lw_all := lw_g (lw_at lw_m1 238 rfl) rfl
theorem q339 : (Jvm.Cond.soleField "LosslessFabric$Sender" "credit") ∈ lw_all := lw_g (lw_at lw_m1 239 rfl) rfl
theorem q340 : (Jvm.Cond.lays "LosslessFabric$Sender" "LosslessFabric$Sender" "cells" "I") ∈ lw_all := lw_g (lw_at lw_m2 0 rfl) rfl
theorem q341 : (Jvm.Cond.soleField "LosslessFabric$Sender" "cells") ∈ lw_all := lw_g (lw_at lw_m2 1 rfl) rfl
theorem q342 : (Jvm.Cond.lays "LosslessFabric$Sender" "LosslessFabric$Sender" "ticks" "I") ∈ lw_all := lw_g (lw_at lw_m2 2 rfl) rfl
theorem q343 : (Jvm.Cond.soleField "LosslessFabric$Sender" "ticks") ∈ lw_all := lw_g (lw_at lw_m2 3 rfl) rfl
theorem q344 : (Jvm.Cond.lays "LosslessFabric$Sender" "LosslessFabric$Sender" "now" "I") ∈ lw_all := lw_g (lw_at lw_m2 4 rfl) rfl
theorem q345 : (Jvm.Cond.soleField "LosslessFabric$Sender" "now") ∈ lw_all := lw_g (lw_at lw_m2 5 rfl) rfl
theorem q346 : (Jvm.Cond.laysFinal "LosslessFabric$Sender" "LosslessFabric$Sender" "stages" "[I") ∈ lw_all := lw_g (lw_at lw_m2 6 rfl) rfl
theorem q347 : (Jvm.Cond.soleField "LosslessFabric$Sender" "stages") ∈ lw_all := lw_g (lw_at lw_m2 7 rfl) rfl
theorem q348 : (Jvm.Cond.lays "LosslessFabric$Sender" "LosslessFabric$Sender" "isOn" "Z") ∈ lw_all := lw_g (lw_at lw_m2 8 rfl) rfl
theorem q349 : (Jvm.Cond.soleField "LosslessFabric$Sender" "isOn") ∈ lw_all := lw_g (lw_at lw_m2 9 rfl) rfl
theorem q350 : (Jvm.Cond.superclass "LosslessFabric$Sender" "java/lang/Object") ∈ lw_all := lw_g (lw_at lw_m2 10 rfl) rfl
theorem q382 : (Jvm.Cond.instanceMethod ({ cls := "LosslessFabric$Sender", name := "fresh", desc := "(LLosslessFabric$Flow;)V" } : Jvm.MethodName)) ∈ lw_all := lw_g (lw_at lw_m2 42 rfl) rfl
theorem q383 : (Jvm.Cond.selects "LosslessFabric$Sender" ({ cls := "LosslessFabric$Sender", name := "fresh", desc := "(LLosslessFabric$Flow;)V" } : Jvm.MethodName) ({ cls := "LosslessFabric$Sender", name := "fresh", desc := "(LLosslessFabric$Flow;)V" } : Jvm.MethodName)) ∈ lw_all := lw_g (lw_at lw_m2 43 rfl) rfl
theorem q384 : (Jvm.Cond.code ({ cls := "LosslessFabric$Sender", name := "fresh", desc := "(LLosslessFabric$Flow;)V" } : Jvm.MethodName) prog_14_method_2_code (2 : Nat) (Option.none : Option Jvm.ClassFile.FieldType)) ∈ lw_all := lw_g (lw_at lw_m2 44 rfl) rfl
theorem q385 : (Jvm.Cond.methodLink "LosslessFabric$Sender" (47 : Nat) ({ cls := "LosslessFabric$Sender", name := "forgets", desc := "()V" } : Jvm.MethodName)) ∈ lw_all := lw_g (lw_at lw_m2 45 rfl) rfl
theorem q386 : (Jvm.Cond.instanceMethod ({ cls := "LosslessFabric$Sender", name := "forgets", desc := "()V" } : Jvm.MethodName)) ∈ lw_all := lw_g (lw_at lw_m2 46 rfl) rfl
theorem q387 : (Jvm.Cond.selects "LosslessFabric$Sender" ({ cls := "LosslessFabric$Sender", name := "forgets", desc := "()V" } : Jvm.MethodName) ({ cls := "LosslessFabric$Sender", name := "forgets", desc := "()V" } : Jvm.MethodName)) ∈ lw_all := lw_g (lw_at lw_m2 47 rfl) rfl
theorem q388 : (Jvm.Cond.code ({ cls := "LosslessFabric$Sender", name := "forgets", desc := "()V" } : Jvm.MethodName) prog_14_method_3_code (1 : Nat) (Option.none : Option Jvm.ClassFile.FieldType)) ∈ lw_all := lw_g (lw_at lw_m2 48 rfl) rfl
theorem q775 : (Jvm.Cond.fieldLinkNest "LosslessFabric$Sender" (15 : Nat) "LosslessFabric$Flow" "rate" "I" "LosslessFabric") ∈ lw_tbl := lw_at lw_m3 195 rfl
theorem q783 : (Jvm.Cond.fieldLinkNest "LosslessFabric$Sender" (40 : Nat) "LosslessFabric$Flow" "isOff" "Z" "LosslessFabric") ∈ lw_tbl := lw_at lw_m3 203 rfl
theorem q831 : (Jvm.Cond.instanceMethod ({ cls := "LosslessFabric$Sender", name := "like", desc := "(LLosslessFabric$Sender;)V" } : Jvm.MethodName)) ∈ lw_all := lw_g (lw_at lw_m4 11 rfl) rfl
theorem q832 : (Jvm.Cond.selects "LosslessFabric$Sender" ({ cls := "LosslessFabric$Sender", name := "like", desc := "(LLosslessFabric$Sender;)V" } : Jvm.MethodName) ({ cls := "LosslessFabric$Sender", name := "like", desc := "(LLosslessFabric$Sender;)V" } : Jvm.MethodName)) ∈ lw_all := lw_g (lw_at lw_m4 12 rfl) rfl
theorem q833 : (Jvm.Cond.code ({ cls := "LosslessFabric$Sender", name := "like", desc := "(LLosslessFabric$Sender;)V" } : Jvm.MethodName) prog_14_method_4_code (2 : Nat) (Option.none : Option Jvm.ClassFile.FieldType)) ∈ lw_all := lw_g (lw_at lw_m4 13 rfl) rfl
theorem q918 : (Jvm.Cond.instanceMethod ({ cls := "LosslessFabric$Sender", name := "cuts", desc := "(I)V" } : Jvm.MethodName)) ∈ lw_all := lw_g (lw_at lw_m4 98 rfl) rfl
theorem q919 : (Jvm.Cond.selects "LosslessFabric$Sender" ({ cls := "LosslessFabric$Sender", name := "cuts", desc := "(I)V" } : Jvm.MethodName) ({ cls := "LosslessFabric$Sender", name := "cuts", desc := "(I)V" } : Jvm.MethodName)) ∈ lw_all := lw_g (lw_at lw_m4 99 rfl) rfl
theorem q920 : (Jvm.Cond.code ({ cls := "LosslessFabric$Sender", name := "cuts", desc := "(I)V" } : Jvm.MethodName) prog_14_method_5_code (2 : Nat) (Option.none : Option Jvm.ClassFile.FieldType)) ∈ lw_all := lw_g (lw_at lw_m4 100 rfl) rfl
theorem q921 : (Jvm.Cond.methodLink "LosslessFabric$Sender" (56 : Nat) ({ cls := "java/lang/Math", name := "max", desc := "(II)I" } : Jvm.MethodName)) ∈ lw_all := lw_g (lw_at lw_m4 101 rfl) rfl
theorem q936 : (Jvm.Cond.instanceMethod ({ cls := "LosslessFabric$Sender", name := "recovers", desc := "(LLosslessFabric$Told;LLosslessFabric$Climb;)V" } : Jvm.MethodName)) ∈ lw_all := lw_g (lw_at lw_m4 116 rfl) rfl
theorem q937 : (Jvm.Cond.selects "LosslessFabric$Sender" ({ cls := "LosslessFabric$Sender", name := "recovers", desc := "(LLosslessFabric$Told;LLosslessFabric$Climb;)V" } : Jvm.MethodName) ({ cls := "LosslessFabric$Sender", name := "recovers", desc := "(LLosslessFabric$Told;LLosslessFabric$Climb;)V" } : Jvm.MethodName)) ∈ lw_all := lw_g (lw_at lw_m4 117 rfl) rfl
theorem q938 : (Jvm.Cond.code ({ cls := "LosslessFabric$Sender", name := "recovers", desc := "(LLosslessFabric$Told;LLosslessFabric$Climb;)V" } : Jvm.MethodName) prog_14_method_7_code (3 : Nat) (Option.none : Option Jvm.ClassFile.FieldType)) ∈ lw_all := lw_g (lw_at lw_m4 118 rfl) rfl
theorem q939 : (Jvm.Cond.methodLink "LosslessFabric$Sender" (76 : Nat) ({ cls := "LosslessFabric$Sender", name := "climbs", desc := "(ILLosslessFabric$Climb;)V" } : Jvm.MethodName)) ∈ lw_all := lw_g (lw_at lw_m4 119 rfl) rfl
theorem q940 : (Jvm.Cond.instanceMethod ({ cls := "LosslessFabric$Sender", name := "climbs", desc := "(ILLosslessFabric$Climb;)V" } : Jvm.MethodName)) ∈ lw_all := lw_g (lw_at lw_m4 120 rfl) rfl
theorem q941 : (Jvm.Cond.selects "LosslessFabric$Sender" ({ cls := "LosslessFabric$Sender", name := "climbs", desc := "(ILLosslessFabric$Climb;)V" } : Jvm.MethodName) ({ cls := "LosslessFabric$Sender", name := "climbs", desc := "(ILLosslessFabric$Climb;)V" } : Jvm.MethodName)) ∈ lw_all := lw_g (lw_at lw_m4 121 rfl) rfl
theorem q942 : (Jvm.Cond.code ({ cls := "LosslessFabric$Sender", name := "climbs", desc := "(ILLosslessFabric$Climb;)V" } : Jvm.MethodName) prog_14_method_6_code (3 : Nat) (Option.none : Option Jvm.ClassFile.FieldType)) ∈ lw_all := lw_g (lw_at lw_m4 122 rfl) rfl
theorem q943 : (Jvm.Cond.methodLink "LosslessFabric$Sender" (62 : Nat) ({ cls := "java/lang/Math", name := "min", desc := "(II)I" } : Jvm.MethodName)) ∈ lw_all := lw_g (lw_at lw_m4 123 rfl) rfl
theorem q944 : (Jvm.Cond.interfaceEntry "LosslessFabric$Sender" (65 : Nat)) ∈ lw_tbl := lw_at lw_m4 124 rfl
theorem q945 : (Jvm.Cond.methodLink "LosslessFabric$Sender" (65 : Nat) ({ cls := "LosslessFabric$Climb", name := "more", desc := "(II)I" } : Jvm.MethodName)) ∈ lw_all := lw_g (lw_at lw_m4 125 rfl) rfl
theorem q1927 : (Jvm.Cond.castable "LosslessFabric$Sender" "java/lang/Object") ∈ lw_tbl := lw_at lw_m8 147 rfl
theorem in_X5 : ∀ w ∈ wsX50, w ∈ lw_all := lw_in wsX50 [326, 328, 330, 332, 334, 336, 338, 340, 342, 344, 346, 348] (by decide +kernel) (by decide +kernel)

/-! LosslessFabric$Fault -/
set_option maxRecDepth 100000
def RX8 : String := "LosslessFabric$Fault"
def TX8 : u_T := fun k => match k with
  | 0 => ("java/lang/Throwable", "cause", "Ljava/lang/Throwable;", false)
  | 1 => ("java/lang/Throwable", "stackTrace", "[Ljava/lang/StackTraceElement;", false)
  | 2 => ("java/lang/Throwable", "suppressedExceptions", "Ljava/util/List;", false)
  | 3 => ("java/lang/Throwable", "detailMessage", "Ljava/lang/String;", false)
  | 4 => ("java/lang/Throwable", "backtrace", "Ljava/lang/Object;", false)
  | 5 => ("java/lang/Throwable", "depth", "I", false)
  | 6 => ("LosslessFabric$Fault", "kind", "I", true)
  | _ => ("LosslessFabric$Fault", "place", "I", true)
def tyX8 : Nat → FieldType := fun k => match k with
  | 0 => .object "java/lang/Throwable"
  | 1 => .array (.object "java/lang/StackTraceElement")
  | 2 => .object "java/util/List"
  | 3 => .object "java/lang/String"
  | 4 => .object "java/lang/Object"
  | 5 => .int
  | 6 => .int
  | _ => .int
abbrev wsX80 : List Cond := u_ws RX8 TX8 8
theorem nmX8 : ∀ a, a < 8 → ∀ b, b < 8 → a ≠ b → (TX8 a).2.1 ≠ (TX8 b).2.1 := by decide +kernel
theorem tyX8_ok : ∀ k, k < 8 → parseFieldDescriptor (TX8 k).2.2.1 = some (tyX8 k) := by decide +kernel
abbrev cX8_init : ByteArray := prog_8_method_1_code
def yX8_init : MethodName := ⟨RX8, "<init>", "(II)V"⟩
def dkwX8_init_0 : List UInt8 := [42, 1, 1, 3, 3, 183, 0, 1, 42, 27, 181, 0, 7, 42, 28, 181, 0, 13, 177]
abbrev dktX8_init_0 : List UInt8 := dkwX8_init_0 ++ []
theorem dksX8_init_0 : cX8_init.data.toList.drop 0 = dktX8_init_0 := by decide +kernel
theorem dX8_init_0 : decode cX8_init 0 = .ok (.aload_n 0, 1) := dk_42 (dk_at dksX8_init_0 0 rfl rfl)
theorem dX8_init_1 : decode cX8_init 1 = .ok (.aconst_null, 1) := dk_1 (dk_at dksX8_init_0 1 rfl rfl)
theorem dX8_init_2 : decode cX8_init 2 = .ok (.aconst_null, 1) := dk_1 (dk_at dksX8_init_0 2 rfl rfl)
theorem dX8_init_3 : decode cX8_init 3 = .ok (.iconst 0, 1) := dk_3 (dk_at dksX8_init_0 3 rfl rfl)
theorem dX8_init_4 : decode cX8_init 4 = .ok (.iconst 0, 1) := dk_3 (dk_at dksX8_init_0 4 rfl rfl)
theorem dX8_init_5 : decode cX8_init 5 = .ok (.invokespecial 1, 3) := dk_183 0 1 (dk_at dksX8_init_0 5 rfl rfl)
theorem dX8_init_8 : decode cX8_init 8 = .ok (.aload_n 0, 1) := dk_42 (dk_at dksX8_init_0 8 rfl rfl)
theorem dX8_init_9 : decode cX8_init 9 = .ok (.iload_n 1, 1) := dk_27 (dk_at dksX8_init_0 9 rfl rfl)
theorem dX8_init_10 : decode cX8_init 10 = .ok (.putfield 7, 3) := dk_181 0 7 (dk_at dksX8_init_0 10 rfl rfl)
theorem dX8_init_13 : decode cX8_init 13 = .ok (.aload_n 0, 1) := dk_42 (dk_at dksX8_init_0 13 rfl rfl)
theorem dX8_init_14 : decode cX8_init 14 = .ok (.iload_n 2, 1) := dk_28 (dk_at dksX8_init_0 14 rfl rfl)
theorem dX8_init_15 : decode cX8_init 15 = .ok (.putfield 13, 3) := dk_181 0 13 (dk_at dksX8_init_0 15 rfl rfl)
theorem dX8_init_18 : decode cX8_init 18 = .ok (.return_, 1) := dk_177 (dk_at dksX8_init_0 18 rfl rfl)
theorem q116 : (Jvm.Cond.initialized "LosslessFabric$Fault") ∈ lw_all := lw_g (lw_at lw_m1 16 rfl) rfl
theorem q637 : (Jvm.Cond.instantiable "LosslessFabric$Fault" (8 : Nat)) ∈ lw_all := lw_g (lw_at lw_m3 57 rfl) rfl
theorem q638 : (Jvm.Cond.castable "LosslessFabric$Fault" "LosslessFabric$Fault") ∈ lw_tbl := lw_at lw_m3 58 rfl
theorem q643 : (Jvm.Cond.selects "LosslessFabric$Fault" ({ cls := "java/lang/Throwable", name := "fillInStackTrace", desc := "(I)Ljava/lang/Throwable;" } : Jvm.MethodName) ({ cls := "java/lang/Throwable", name := "fillInStackTrace", desc := "(I)Ljava/lang/Throwable;" } : Jvm.MethodName)) ∈ lw_all := lw_g (lw_at lw_m3 63 rfl) rfl
theorem q644 : (Jvm.Cond.selects "LosslessFabric$Fault" ({ cls := "java/lang/Throwable", name := "fillInStackTrace", desc := "()Ljava/lang/Throwable;" } : Jvm.MethodName) ({ cls := "java/lang/Throwable", name := "fillInStackTrace", desc := "()Ljava/lang/Throwable;" } : Jvm.MethodName)) ∈ lw_all := lw_g (lw_at lw_m3 64 rfl) rfl
theorem q645 : (Jvm.Cond.lays "LosslessFabric$Fault" "java/lang/Throwable" "cause" "Ljava/lang/Throwable;") ∈ lw_all := lw_g (lw_at lw_m3 65 rfl) rfl
theorem q647 : (Jvm.Cond.lays "LosslessFabric$Fault" "java/lang/Throwable" "stackTrace" "[Ljava/lang/StackTraceElement;") ∈ lw_all := lw_g (lw_at lw_m3 67 rfl) rfl
theorem q649 : (Jvm.Cond.lays "LosslessFabric$Fault" "java/lang/Throwable" "suppressedExceptions" "Ljava/util/List;") ∈ lw_all := lw_g (lw_at lw_m3 69 rfl) rfl
theorem q651 : (Jvm.Cond.lays "LosslessFabric$Fault" "java/lang/Throwable" "detailMessage" "Ljava/lang/String;") ∈ lw_all := lw_g (lw_at lw_m3 71 rfl) rfl
theorem q653 : (Jvm.Cond.lays "LosslessFabric$Fault" "java/lang/Throwable" "backtrace" "Ljava/lang/Object;") ∈ lw_all := lw_g (lw_at lw_m3 73 rfl) rfl
theorem q677 : (Jvm.Cond.instanceMethod ({ cls := "LosslessFabric$Fault", name := "<init>", desc := "(II)V" } : Jvm.MethodName)) ∈ lw_all := lw_g (lw_at lw_m3 97 rfl) rfl
theorem q678 : (Jvm.Cond.code ({ cls := "LosslessFabric$Fault", name := "<init>", desc := "(II)V" } : Jvm.MethodName) prog_8_method_1_code (3 : Nat) (Option.none : Option Jvm.ClassFile.FieldType)) ∈ lw_all := lw_g (lw_at lw_m3 98 rfl) rfl
theorem q679 : (Jvm.Cond.methodLink "LosslessFabric$Fault" (1 : Nat) ({ cls := "java/lang/Exception", name := "<init>", desc := "(Ljava/lang/String;Ljava/lang/Throwable;ZZ)V" } : Jvm.MethodName)) ∈ lw_all := lw_g (lw_at lw_m3 99 rfl) rfl
theorem q685 : (Jvm.Cond.fieldLink "LosslessFabric$Fault" (7 : Nat) "LosslessFabric$Fault" "kind" "I") ∈ lw_all := lw_g (lw_at lw_m3 105 rfl) rfl
theorem q687 : (Jvm.Cond.fieldLink "LosslessFabric$Fault" (13 : Nat) "LosslessFabric$Fault" "place" "I") ∈ lw_all := lw_g (lw_at lw_m3 107 rfl) rfl
theorem q694 : (Jvm.Cond.laysFinal "LosslessFabric$Fault" "LosslessFabric$Fault" "kind" "I") ∈ lw_all := lw_g (lw_at lw_m3 114 rfl) rfl
theorem q695 : (Jvm.Cond.soleField "LosslessFabric$Fault" "kind") ∈ lw_all := lw_g (lw_at lw_m3 115 rfl) rfl
theorem q696 : (Jvm.Cond.laysFinal "LosslessFabric$Fault" "LosslessFabric$Fault" "place" "I") ∈ lw_all := lw_g (lw_at lw_m3 116 rfl) rfl
theorem q697 : (Jvm.Cond.soleField "LosslessFabric$Fault" "place") ∈ lw_all := lw_g (lw_at lw_m3 117 rfl) rfl
theorem q702 : (Jvm.Cond.lays "LosslessFabric$Fault" "java/lang/Throwable" "depth" "I") ∈ lw_all := lw_g (lw_at lw_m3 122 rfl) rfl
theorem q705 : (Jvm.Cond.superclass "LosslessFabric$Fault" "java/lang/Exception") ∈ lw_all := lw_g (lw_at lw_m3 125 rfl) rfl
theorem q1930 : (Jvm.Cond.castable "LosslessFabric$Fault" "java/lang/Object") ∈ lw_tbl := lw_at lw_m8 150 rfl
theorem in_X8 : ∀ w ∈ wsX80, w ∈ lw_all := lw_in wsX80 [645, 647, 649, 651, 653, 702, 694, 696] (by decide +kernel) (by decide +kernel)

/-! LosslessFabric$Link -/
set_option maxRecDepth 100000
def RX9 : String := "LosslessFabric$Link"
def TX9 : u_T := fun k => match k with
  | 0 => ("LosslessFabric$Link", "name", "I", true)
  | 1 => ("LosslessFabric$Link", "cap", "I", true)
  | 2 => ("LosslessFabric$Link", "delay", "I", true)
  | 3 => ("LosslessFabric$Link", "xoff", "I", true)
  | 4 => ("LosslessFabric$Link", "xon", "I", true)
  | _ => ("LosslessFabric$Link", "size", "I", true)
def tyX9 : Nat → FieldType := fun k => match k with
  | 0 => .int
  | 1 => .int
  | 2 => .int
  | 3 => .int
  | 4 => .int
  | _ => .int
abbrev wsX90 : List Cond := u_ws RX9 TX9 6
theorem nmX9 : ∀ a, a < 6 → ∀ b, b < 6 → a ≠ b → (TX9 a).2.1 ≠ (TX9 b).2.1 := by decide +kernel
theorem tyX9_ok : ∀ k, k < 6 → parseFieldDescriptor (TX9 k).2.2.1 = some (tyX9 k) := by decide +kernel
abbrev cX9_init : ByteArray := prog_11_method_1_code
def yX9_init : MethodName := ⟨RX9, "<init>", "(I[I)V"⟩
def dkwX9_init_1 : List UInt8 := [44, 5, 46, 181, 0, 19, 42, 44, 6, 46, 181, 0, 22, 42, 44, 7, 46, 181, 0, 25, 177]
abbrev dktX9_init_1 : List UInt8 := dkwX9_init_1 ++ []
def dkwX9_init_0 : List UInt8 := [42, 183, 0, 1, 42, 27, 181, 0, 7, 42, 44, 3, 46, 181, 0, 13, 42, 44, 4, 46, 181, 0, 16, 42]
abbrev dktX9_init_0 : List UInt8 := dkwX9_init_0 ++ dktX9_init_1
theorem dksX9_init_0 : cX9_init.data.toList.drop 0 = dktX9_init_0 := by decide +kernel
theorem dksX9_init_1 : cX9_init.data.toList.drop 24 = dktX9_init_1 := dk_seg dksX9_init_0 24 rfl rfl
theorem dX9_init_0 : decode cX9_init 0 = .ok (.aload_n 0, 1) := dk_42 (dk_at dksX9_init_0 0 rfl rfl)
theorem dX9_init_1 : decode cX9_init 1 = .ok (.invokespecial 1, 3) := dk_183 0 1 (dk_at dksX9_init_0 1 rfl rfl)
theorem dX9_init_4 : decode cX9_init 4 = .ok (.aload_n 0, 1) := dk_42 (dk_at dksX9_init_0 4 rfl rfl)
theorem dX9_init_5 : decode cX9_init 5 = .ok (.iload_n 1, 1) := dk_27 (dk_at dksX9_init_0 5 rfl rfl)
theorem dX9_init_6 : decode cX9_init 6 = .ok (.putfield 7, 3) := dk_181 0 7 (dk_at dksX9_init_0 6 rfl rfl)
theorem dX9_init_9 : decode cX9_init 9 = .ok (.aload_n 0, 1) := dk_42 (dk_at dksX9_init_0 9 rfl rfl)
theorem dX9_init_10 : decode cX9_init 10 = .ok (.aload_n 2, 1) := dk_44 (dk_at dksX9_init_0 10 rfl rfl)
theorem dX9_init_11 : decode cX9_init 11 = .ok (.iconst 0, 1) := dk_3 (dk_at dksX9_init_0 11 rfl rfl)
theorem dX9_init_12 : decode cX9_init 12 = .ok (.iaload, 1) := dk_46 (dk_at dksX9_init_0 12 rfl rfl)
theorem dX9_init_13 : decode cX9_init 13 = .ok (.putfield 13, 3) := dk_181 0 13 (dk_at dksX9_init_0 13 rfl rfl)
theorem dX9_init_16 : decode cX9_init 16 = .ok (.aload_n 0, 1) := dk_42 (dk_at dksX9_init_0 16 rfl rfl)
theorem dX9_init_17 : decode cX9_init 17 = .ok (.aload_n 2, 1) := dk_44 (dk_at dksX9_init_0 17 rfl rfl)
theorem dX9_init_18 : decode cX9_init 18 = .ok (.iconst 1, 1) := dk_4 (dk_at dksX9_init_0 18 rfl rfl)
theorem dX9_init_19 : decode cX9_init 19 = .ok (.iaload, 1) := dk_46 (dk_at dksX9_init_0 19 rfl rfl)
theorem dX9_init_20 : decode cX9_init 20 = .ok (.putfield 16, 3) := dk_181 0 16 (dk_at dksX9_init_0 20 rfl rfl)
theorem dX9_init_23 : decode cX9_init 23 = .ok (.aload_n 0, 1) := dk_42 (dk_at dksX9_init_0 23 rfl rfl)
theorem dX9_init_24 : decode cX9_init 24 = .ok (.aload_n 2, 1) := dk_44 (dk_at dksX9_init_1 0 rfl rfl)
theorem dX9_init_25 : decode cX9_init 25 = .ok (.iconst 2, 1) := dk_5 (dk_at dksX9_init_1 1 rfl rfl)
theorem dX9_init_26 : decode cX9_init 26 = .ok (.iaload, 1) := dk_46 (dk_at dksX9_init_1 2 rfl rfl)
theorem dX9_init_27 : decode cX9_init 27 = .ok (.putfield 19, 3) := dk_181 0 19 (dk_at dksX9_init_1 3 rfl rfl)
theorem dX9_init_30 : decode cX9_init 30 = .ok (.aload_n 0, 1) := dk_42 (dk_at dksX9_init_1 6 rfl rfl)
theorem dX9_init_31 : decode cX9_init 31 = .ok (.aload_n 2, 1) := dk_44 (dk_at dksX9_init_1 7 rfl rfl)
theorem dX9_init_32 : decode cX9_init 32 = .ok (.iconst 3, 1) := dk_6 (dk_at dksX9_init_1 8 rfl rfl)
theorem dX9_init_33 : decode cX9_init 33 = .ok (.iaload, 1) := dk_46 (dk_at dksX9_init_1 9 rfl rfl)
theorem dX9_init_34 : decode cX9_init 34 = .ok (.putfield 22, 3) := dk_181 0 22 (dk_at dksX9_init_1 10 rfl rfl)
theorem dX9_init_37 : decode cX9_init 37 = .ok (.aload_n 0, 1) := dk_42 (dk_at dksX9_init_1 13 rfl rfl)
theorem dX9_init_38 : decode cX9_init 38 = .ok (.aload_n 2, 1) := dk_44 (dk_at dksX9_init_1 14 rfl rfl)
theorem dX9_init_39 : decode cX9_init 39 = .ok (.iconst 4, 1) := dk_7 (dk_at dksX9_init_1 15 rfl rfl)
theorem dX9_init_40 : decode cX9_init 40 = .ok (.iaload, 1) := dk_46 (dk_at dksX9_init_1 16 rfl rfl)
theorem dX9_init_41 : decode cX9_init 41 = .ok (.putfield 25, 3) := dk_181 0 25 (dk_at dksX9_init_1 17 rfl rfl)
theorem dX9_init_44 : decode cX9_init 44 = .ok (.return_, 1) := dk_177 (dk_at dksX9_init_1 20 rfl rfl)
theorem q117 : (Jvm.Cond.initialized "LosslessFabric$Link") ∈ lw_all := lw_g (lw_at lw_m1 17 rfl) rfl
theorem q723 : (Jvm.Cond.instantiable "LosslessFabric$Link" (6 : Nat)) ∈ lw_all := lw_g (lw_at lw_m3 143 rfl) rfl
theorem q725 : (Jvm.Cond.instanceMethod ({ cls := "LosslessFabric$Link", name := "<init>", desc := "(I[I)V" } : Jvm.MethodName)) ∈ lw_all := lw_g (lw_at lw_m3 145 rfl) rfl
theorem q726 : (Jvm.Cond.code ({ cls := "LosslessFabric$Link", name := "<init>", desc := "(I[I)V" } : Jvm.MethodName) prog_11_method_1_code (3 : Nat) (Option.none : Option Jvm.ClassFile.FieldType)) ∈ lw_all := lw_g (lw_at lw_m3 146 rfl) rfl
theorem q727 : (Jvm.Cond.methodLink "LosslessFabric$Link" (1 : Nat) ({ cls := "java/lang/Object", name := "<init>", desc := "()V" } : Jvm.MethodName)) ∈ lw_all := lw_g (lw_at lw_m3 147 rfl) rfl
theorem q728 : (Jvm.Cond.fieldLink "LosslessFabric$Link" (7 : Nat) "LosslessFabric$Link" "name" "I") ∈ lw_all := lw_g (lw_at lw_m3 148 rfl) rfl
theorem q730 : (Jvm.Cond.fieldLink "LosslessFabric$Link" (13 : Nat) "LosslessFabric$Link" "cap" "I") ∈ lw_all := lw_g (lw_at lw_m3 150 rfl) rfl
theorem q733 : (Jvm.Cond.fieldLink "LosslessFabric$Link" (16 : Nat) "LosslessFabric$Link" "delay" "I") ∈ lw_all := lw_g (lw_at lw_m3 153 rfl) rfl
theorem q736 : (Jvm.Cond.fieldLink "LosslessFabric$Link" (19 : Nat) "LosslessFabric$Link" "xoff" "I") ∈ lw_all := lw_g (lw_at lw_m3 156 rfl) rfl
theorem q738 : (Jvm.Cond.fieldLink "LosslessFabric$Link" (22 : Nat) "LosslessFabric$Link" "xon" "I") ∈ lw_all := lw_g (lw_at lw_m3 158 rfl) rfl
theorem q740 : (Jvm.Cond.fieldLink "LosslessFabric$Link" (25 : Nat) "LosslessFabric$Link" "size" "I") ∈ lw_all := lw_g (lw_at lw_m3 160 rfl) rfl
theorem q742 : (Jvm.Cond.laysFinal "LosslessFabric$Link" "LosslessFabric$Link" "name" "I") ∈ lw_all := lw_g (lw_at lw_m3 162 rfl) rfl
theorem q743 : (Jvm.Cond.soleField "LosslessFabric$Link" "name") ∈ lw_all := lw_g (lw_at lw_m3 163 rfl) rfl
theorem q744 : (Jvm.Cond.laysFinal "LosslessFabric$Link" "LosslessFabric$Link" "cap" "I") ∈ lw_all := lw_g (lw_at lw_m3 164 rfl) rfl
theorem q745 : (Jvm.Cond.soleField "LosslessFabric$Link" "cap") ∈ lw_all := lw_g (lw_at lw_m3 165 rfl) rfl
theorem q746 : (Jvm.Cond.laysFinal "LosslessFabric$Link" "LosslessFabric$Link" "delay" "I") ∈ lw_all := lw_g (lw_at lw_m3 166 rfl) rfl
theorem q747 : (Jvm.Cond.soleField "LosslessFabric$Link" "delay") ∈ lw_all := lw_g (lw_at lw_m3 167 rfl) rfl
theorem q748 : (Jvm.Cond.laysFinal "LosslessFabric$Link" "LosslessFabric$Link" "xoff" "I") ∈ lw_all := lw_g (lw_at lw_m3 168 rfl) rfl
theorem q749 : (Jvm.Cond.soleField "LosslessFabric$Link" "xoff") ∈ lw_all := lw_g (lw_at lw_m3 169 rfl) rfl
theorem q750 : (Jvm.Cond.laysFinal "LosslessFabric$Link" "LosslessFabric$Link" "xon" "I") ∈ lw_all := lw_g (lw_at lw_m3 170 rfl) rfl
theorem q751 : (Jvm.Cond.soleField "LosslessFabric$Link" "xon") ∈ lw_all := lw_g (lw_at lw_m3 171 rfl) rfl
theorem q752 : (Jvm.Cond.laysFinal "LosslessFabric$Link" "LosslessFabric$Link" "size" "I") ∈ lw_all := lw_g (lw_at lw_m3 172 rfl) rfl
theorem q753 : (Jvm.Cond.soleField "LosslessFabric$Link" "size") ∈ lw_all := lw_g (lw_at lw_m3 173 rfl) rfl
theorem q754 : (Jvm.Cond.superclass "LosslessFabric$Link" "java/lang/Object") ∈ lw_all := lw_g (lw_at lw_m3 174 rfl) rfl
theorem q1931 : (Jvm.Cond.castable "LosslessFabric$Link" "java/lang/Object") ∈ lw_tbl := lw_at lw_m8 151 rfl
theorem in_X9 : ∀ w ∈ wsX90, w ∈ lw_all := lw_in wsX90 [742, 744, 746, 748, 750, 752] (by decide +kernel) (by decide +kernel)

/-! LosslessFabric$Flow -/
set_option maxRecDepth 100000
def RX10 : String := "LosslessFabric$Flow"
def TX10 : u_T := fun k => match k with
  | 0 => ("LosslessFabric$Flow", "name", "I", true)
  | 1 => ("LosslessFabric$Flow", "rate", "I", true)
  | 2 => ("LosslessFabric$Flow", "path", "[I", true)
  | 3 => ("LosslessFabric$Flow", "many", "I", false)
  | _ => ("LosslessFabric$Flow", "isOff", "Z", false)
def tyX10 : Nat → FieldType := fun k => match k with
  | 0 => .int
  | 1 => .int
  | 2 => .array .int
  | 3 => .int
  | _ => .boolean
abbrev wsX100 : List Cond := u_ws RX10 TX10 5
theorem nmX10 : ∀ a, a < 5 → ∀ b, b < 5 → a ≠ b → (TX10 a).2.1 ≠ (TX10 b).2.1 := by decide +kernel
theorem tyX10_ok : ∀ k, k < 5 → parseFieldDescriptor (TX10 k).2.2.1 = some (tyX10 k) := by decide +kernel
abbrev cX10_init : ByteArray := prog_9_method_2_code
def yX10_init : MethodName := ⟨RX10, "<init>", "(II)V"⟩
def dkwX10_init_0 : List UInt8 := [42, 27, 28, 8, 188, 10, 183, 0, 22, 177]
abbrev dktX10_init_0 : List UInt8 := dkwX10_init_0 ++ []
theorem dksX10_init_0 : cX10_init.data.toList.drop 0 = dktX10_init_0 := by decide +kernel
theorem dX10_init_0 : decode cX10_init 0 = .ok (.aload_n 0, 1) := dk_42 (dk_at dksX10_init_0 0 rfl rfl)
theorem dX10_init_1 : decode cX10_init 1 = .ok (.iload_n 1, 1) := dk_27 (dk_at dksX10_init_0 1 rfl rfl)
theorem dX10_init_2 : decode cX10_init 2 = .ok (.iload_n 2, 1) := dk_28 (dk_at dksX10_init_0 2 rfl rfl)
theorem dX10_init_3 : decode cX10_init 3 = .ok (.iconst 5, 1) := dk_8 (dk_at dksX10_init_0 3 rfl rfl)
theorem dX10_init_4 : decode cX10_init 4 = .ok (.newarray .int, 2) := dk_188_10 (dk_at dksX10_init_0 4 rfl rfl)
theorem dX10_init_6 : decode cX10_init 6 = .ok (.invokespecial 22, 3) := dk_183 0 22 (dk_at dksX10_init_0 6 rfl rfl)
theorem dX10_init_9 : decode cX10_init 9 = .ok (.return_, 1) := dk_177 (dk_at dksX10_init_0 9 rfl rfl)
abbrev cX10_init_2 : ByteArray := prog_9_method_1_code
def yX10_init_2 : MethodName := ⟨RX10, "<init>", "(II[I)V"⟩
def dkwX10_init_2_0 : List UInt8 := [42, 183, 0, 3, 42, 27, 181, 0, 9, 42, 28, 181, 0, 15, 42, 45, 181, 0, 18, 177]
abbrev dktX10_init_2_0 : List UInt8 := dkwX10_init_2_0 ++ []
theorem dksX10_init_2_0 : cX10_init_2.data.toList.drop 0 = dktX10_init_2_0 := by decide +kernel
theorem dX10_init_2_0 : decode cX10_init_2 0 = .ok (.aload_n 0, 1) := dk_42 (dk_at dksX10_init_2_0 0 rfl rfl)
theorem dX10_init_2_1 : decode cX10_init_2 1 = .ok (.invokespecial 3, 3) := dk_183 0 3 (dk_at dksX10_init_2_0 1 rfl rfl)
theorem dX10_init_2_4 : decode cX10_init_2 4 = .ok (.aload_n 0, 1) := dk_42 (dk_at dksX10_init_2_0 4 rfl rfl)
theorem dX10_init_2_5 : decode cX10_init_2 5 = .ok (.iload_n 1, 1) := dk_27 (dk_at dksX10_init_2_0 5 rfl rfl)
theorem dX10_init_2_6 : decode cX10_init_2 6 = .ok (.putfield 9, 3) := dk_181 0 9 (dk_at dksX10_init_2_0 6 rfl rfl)
theorem dX10_init_2_9 : decode cX10_init_2 9 = .ok (.aload_n 0, 1) := dk_42 (dk_at dksX10_init_2_0 9 rfl rfl)
theorem dX10_init_2_10 : decode cX10_init_2 10 = .ok (.iload_n 2, 1) := dk_28 (dk_at dksX10_init_2_0 10 rfl rfl)
theorem dX10_init_2_11 : decode cX10_init_2 11 = .ok (.putfield 15, 3) := dk_181 0 15 (dk_at dksX10_init_2_0 11 rfl rfl)
theorem dX10_init_2_14 : decode cX10_init_2 14 = .ok (.aload_n 0, 1) := dk_42 (dk_at dksX10_init_2_0 14 rfl rfl)
theorem dX10_init_2_15 : decode cX10_init_2 15 = .ok (.aload_n 3, 1) := dk_45 (dk_at dksX10_init_2_0 15 rfl rfl)
theorem dX10_init_2_16 : decode cX10_init_2 16 = .ok (.putfield 18, 3) := dk_181 0 18 (dk_at dksX10_init_2_0 16 rfl rfl)
theorem dX10_init_2_19 : decode cX10_init_2 19 = .ok (.return_, 1) := dk_177 (dk_at dksX10_init_2_0 19 rfl rfl)
abbrev cX10_at : ByteArray := prog_9_method_3_code
def yX10_at : MethodName := ⟨RX10, "at", "(I)I"⟩
def dkwX10_at_1 : List UInt8 := [132, 2, 1, 167, 255, 233, 2, 172]
abbrev dktX10_at_1 : List UInt8 := dkwX10_at_1 ++ []
def dkwX10_at_0 : List UInt8 := [3, 61, 28, 42, 180, 0, 25, 162, 0, 21, 42, 180, 0, 18, 28, 46, 27, 160, 0, 5, 28, 172]
abbrev dktX10_at_0 : List UInt8 := dkwX10_at_0 ++ dktX10_at_1
theorem dksX10_at_0 : cX10_at.data.toList.drop 0 = dktX10_at_0 := by decide +kernel
theorem dksX10_at_1 : cX10_at.data.toList.drop 22 = dktX10_at_1 := dk_seg dksX10_at_0 22 rfl rfl
theorem dX10_at_0 : decode cX10_at 0 = .ok (.iconst 0, 1) := dk_3 (dk_at dksX10_at_0 0 rfl rfl)
theorem dX10_at_1 : decode cX10_at 1 = .ok (.istore_n 2, 1) := dk_61 (dk_at dksX10_at_0 1 rfl rfl)
theorem dX10_at_2 : decode cX10_at 2 = .ok (.iload_n 2, 1) := dk_28 (dk_at dksX10_at_0 2 rfl rfl)
theorem dX10_at_3 : decode cX10_at 3 = .ok (.aload_n 0, 1) := dk_42 (dk_at dksX10_at_0 3 rfl rfl)
theorem dX10_at_4 : decode cX10_at 4 = .ok (.getfield 25, 3) := dk_180 0 25 (dk_at dksX10_at_0 4 rfl rfl)
theorem dX10_at_7 : decode cX10_at 7 = .ok (.if_icmp .ge 21, 3) := dk_162 0 21 (dk_at dksX10_at_0 7 rfl rfl)
theorem dX10_at_10 : decode cX10_at 10 = .ok (.aload_n 0, 1) := dk_42 (dk_at dksX10_at_0 10 rfl rfl)
theorem dX10_at_11 : decode cX10_at 11 = .ok (.getfield 18, 3) := dk_180 0 18 (dk_at dksX10_at_0 11 rfl rfl)
theorem dX10_at_14 : decode cX10_at 14 = .ok (.iload_n 2, 1) := dk_28 (dk_at dksX10_at_0 14 rfl rfl)
theorem dX10_at_15 : decode cX10_at 15 = .ok (.iaload, 1) := dk_46 (dk_at dksX10_at_0 15 rfl rfl)
theorem dX10_at_16 : decode cX10_at 16 = .ok (.iload_n 1, 1) := dk_27 (dk_at dksX10_at_0 16 rfl rfl)
theorem dX10_at_17 : decode cX10_at 17 = .ok (.if_icmp .ne 5, 3) := dk_160 0 5 (dk_at dksX10_at_0 17 rfl rfl)
theorem dX10_at_20 : decode cX10_at 20 = .ok (.iload_n 2, 1) := dk_28 (dk_at dksX10_at_0 20 rfl rfl)
theorem dX10_at_21 : decode cX10_at 21 = .ok (.ireturn, 1) := dk_172 (dk_at dksX10_at_0 21 rfl rfl)
theorem dX10_at_22 : decode cX10_at 22 = .ok (.iinc 2 1, 3) := dk_132 2 1 (dk_at dksX10_at_1 0 rfl rfl)
theorem dX10_at_25 : decode cX10_at 25 = .ok (.goto (-23), 3) := dk_167 255 233 (dk_at dksX10_at_1 3 rfl rfl)
theorem dX10_at_28 : decode cX10_at 28 = .ok (.iconst (-1), 1) := dk_2 (dk_at dksX10_at_1 6 rfl rfl)
theorem dX10_at_29 : decode cX10_at 29 = .ok (.ireturn, 1) := dk_172 (dk_at dksX10_at_1 7 rfl rfl)
abbrev cX10_isLast : ByteArray := prog_9_method_4_code
def yX10_isLast : MethodName := ⟨RX10, "isLast", "(I)Z"⟩
def dkwX10_isLast_0 : List UInt8 := [42, 180, 0, 18, 42, 180, 0, 25, 4, 100, 46, 27, 160, 0, 7, 4, 167, 0, 4, 3, 172]
abbrev dktX10_isLast_0 : List UInt8 := dkwX10_isLast_0 ++ []
theorem dksX10_isLast_0 : cX10_isLast.data.toList.drop 0 = dktX10_isLast_0 := by decide +kernel
theorem dX10_isLast_0 : decode cX10_isLast 0 = .ok (.aload_n 0, 1) := dk_42 (dk_at dksX10_isLast_0 0 rfl rfl)
theorem dX10_isLast_1 : decode cX10_isLast 1 = .ok (.getfield 18, 3) := dk_180 0 18 (dk_at dksX10_isLast_0 1 rfl rfl)
theorem dX10_isLast_4 : decode cX10_isLast 4 = .ok (.aload_n 0, 1) := dk_42 (dk_at dksX10_isLast_0 4 rfl rfl)
theorem dX10_isLast_5 : decode cX10_isLast 5 = .ok (.getfield 25, 3) := dk_180 0 25 (dk_at dksX10_isLast_0 5 rfl rfl)
theorem dX10_isLast_8 : decode cX10_isLast 8 = .ok (.iconst 1, 1) := dk_4 (dk_at dksX10_isLast_0 8 rfl rfl)
theorem dX10_isLast_9 : decode cX10_isLast 9 = .ok (.isub, 1) := dk_100 (dk_at dksX10_isLast_0 9 rfl rfl)
theorem dX10_isLast_10 : decode cX10_isLast 10 = .ok (.iaload, 1) := dk_46 (dk_at dksX10_isLast_0 10 rfl rfl)
theorem dX10_isLast_11 : decode cX10_isLast 11 = .ok (.iload_n 1, 1) := dk_27 (dk_at dksX10_isLast_0 11 rfl rfl)
theorem dX10_isLast_12 : decode cX10_isLast 12 = .ok (.if_icmp .ne 7, 3) := dk_160 0 7 (dk_at dksX10_isLast_0 12 rfl rfl)
theorem dX10_isLast_15 : decode cX10_isLast 15 = .ok (.iconst 1, 1) := dk_4 (dk_at dksX10_isLast_0 15 rfl rfl)
theorem dX10_isLast_16 : decode cX10_isLast 16 = .ok (.goto 4, 3) := dk_167 0 4 (dk_at dksX10_isLast_0 16 rfl rfl)
theorem dX10_isLast_19 : decode cX10_isLast 19 = .ok (.iconst 0, 1) := dk_3 (dk_at dksX10_isLast_0 19 rfl rfl)
theorem dX10_isLast_20 : decode cX10_isLast 20 = .ok (.ireturn, 1) := dk_172 (dk_at dksX10_isLast_0 20 rfl rfl)
abbrev cX10_next : ByteArray := prog_9_method_5_code
def yX10_next : MethodName := ⟨RX10, "next", "(I)I"⟩
def dkwX10_next_1 : List UInt8 := [42, 180, 0, 18, 28, 4, 96, 46, 172]
abbrev dktX10_next_1 : List UInt8 := dkwX10_next_1 ++ []
def dkwX10_next_0 : List UInt8 := [42, 27, 182, 0, 28, 61, 28, 155, 0, 13, 28, 4, 96, 42, 180, 0, 25, 160, 0, 7, 2, 167, 0, 11]
abbrev dktX10_next_0 : List UInt8 := dkwX10_next_0 ++ dktX10_next_1
theorem dksX10_next_0 : cX10_next.data.toList.drop 0 = dktX10_next_0 := by decide +kernel
theorem dksX10_next_1 : cX10_next.data.toList.drop 24 = dktX10_next_1 := dk_seg dksX10_next_0 24 rfl rfl
theorem dX10_next_0 : decode cX10_next 0 = .ok (.aload_n 0, 1) := dk_42 (dk_at dksX10_next_0 0 rfl rfl)
theorem dX10_next_1 : decode cX10_next 1 = .ok (.iload_n 1, 1) := dk_27 (dk_at dksX10_next_0 1 rfl rfl)
theorem dX10_next_2 : decode cX10_next 2 = .ok (.invokevirtual 28, 3) := dk_182 0 28 (dk_at dksX10_next_0 2 rfl rfl)
theorem dX10_next_5 : decode cX10_next 5 = .ok (.istore_n 2, 1) := dk_61 (dk_at dksX10_next_0 5 rfl rfl)
theorem dX10_next_6 : decode cX10_next 6 = .ok (.iload_n 2, 1) := dk_28 (dk_at dksX10_next_0 6 rfl rfl)
theorem dX10_next_7 : decode cX10_next 7 = .ok (.ifCond .lt 13, 3) := dk_155 0 13 (dk_at dksX10_next_0 7 rfl rfl)
theorem dX10_next_10 : decode cX10_next 10 = .ok (.iload_n 2, 1) := dk_28 (dk_at dksX10_next_0 10 rfl rfl)
theorem dX10_next_11 : decode cX10_next 11 = .ok (.iconst 1, 1) := dk_4 (dk_at dksX10_next_0 11 rfl rfl)
theorem dX10_next_12 : decode cX10_next 12 = .ok (.iadd, 1) := dk_96 (dk_at dksX10_next_0 12 rfl rfl)
theorem dX10_next_13 : decode cX10_next 13 = .ok (.aload_n 0, 1) := dk_42 (dk_at dksX10_next_0 13 rfl rfl)
theorem dX10_next_14 : decode cX10_next 14 = .ok (.getfield 25, 3) := dk_180 0 25 (dk_at dksX10_next_0 14 rfl rfl)
theorem dX10_next_17 : decode cX10_next 17 = .ok (.if_icmp .ne 7, 3) := dk_160 0 7 (dk_at dksX10_next_0 17 rfl rfl)
theorem dX10_next_20 : decode cX10_next 20 = .ok (.iconst (-1), 1) := dk_2 (dk_at dksX10_next_0 20 rfl rfl)
theorem dX10_next_21 : decode cX10_next 21 = .ok (.goto 11, 3) := dk_167 0 11 (dk_at dksX10_next_0 21 rfl rfl)
theorem dX10_next_24 : decode cX10_next 24 = .ok (.aload_n 0, 1) := dk_42 (dk_at dksX10_next_1 0 rfl rfl)
theorem dX10_next_25 : decode cX10_next 25 = .ok (.getfield 18, 3) := dk_180 0 18 (dk_at dksX10_next_1 1 rfl rfl)
theorem dX10_next_28 : decode cX10_next 28 = .ok (.iload_n 2, 1) := dk_28 (dk_at dksX10_next_1 4 rfl rfl)
theorem dX10_next_29 : decode cX10_next 29 = .ok (.iconst 1, 1) := dk_4 (dk_at dksX10_next_1 5 rfl rfl)
theorem dX10_next_30 : decode cX10_next 30 = .ok (.iadd, 1) := dk_96 (dk_at dksX10_next_1 6 rfl rfl)
theorem dX10_next_31 : decode cX10_next 31 = .ok (.iaload, 1) := dk_46 (dk_at dksX10_next_1 7 rfl rfl)
theorem dX10_next_32 : decode cX10_next 32 = .ok (.ireturn, 1) := dk_172 (dk_at dksX10_next_1 8 rfl rfl)
theorem q118 : (Jvm.Cond.initialized "LosslessFabric$Flow") ∈ lw_all := lw_g (lw_at lw_m1 18 rfl) rfl
theorem q764 : (Jvm.Cond.instantiable "LosslessFabric$Flow" (5 : Nat)) ∈ lw_all := lw_g (lw_at lw_m3 184 rfl) rfl
theorem q766 : (Jvm.Cond.instanceMethod ({ cls := "LosslessFabric$Flow", name := "<init>", desc := "(II)V" } : Jvm.MethodName)) ∈ lw_all := lw_g (lw_at lw_m3 186 rfl) rfl
theorem q767 : (Jvm.Cond.code ({ cls := "LosslessFabric$Flow", name := "<init>", desc := "(II)V" } : Jvm.MethodName) prog_9_method_2_code (3 : Nat) (Option.none : Option Jvm.ClassFile.FieldType)) ∈ lw_all := lw_g (lw_at lw_m3 187 rfl) rfl
theorem q768 : (Jvm.Cond.methodLink "LosslessFabric$Flow" (22 : Nat) ({ cls := "LosslessFabric$Flow", name := "<init>", desc := "(II[I)V" } : Jvm.MethodName)) ∈ lw_all := lw_g (lw_at lw_m3 188 rfl) rfl
theorem q769 : (Jvm.Cond.instanceMethod ({ cls := "LosslessFabric$Flow", name := "<init>", desc := "(II[I)V" } : Jvm.MethodName)) ∈ lw_all := lw_g (lw_at lw_m3 189 rfl) rfl
theorem q770 : (Jvm.Cond.code ({ cls := "LosslessFabric$Flow", name := "<init>", desc := "(II[I)V" } : Jvm.MethodName) prog_9_method_1_code (4 : Nat) (Option.none : Option Jvm.ClassFile.FieldType)) ∈ lw_all := lw_g (lw_at lw_m3 190 rfl) rfl
theorem q771 : (Jvm.Cond.methodLink "LosslessFabric$Flow" (3 : Nat) ({ cls := "java/lang/Object", name := "<init>", desc := "()V" } : Jvm.MethodName)) ∈ lw_all := lw_g (lw_at lw_m3 191 rfl) rfl
theorem q772 : (Jvm.Cond.fieldLink "LosslessFabric$Flow" (9 : Nat) "LosslessFabric$Flow" "name" "I") ∈ lw_all := lw_g (lw_at lw_m3 192 rfl) rfl
theorem q774 : (Jvm.Cond.fieldLink "LosslessFabric$Flow" (15 : Nat) "LosslessFabric$Flow" "rate" "I") ∈ lw_all := lw_g (lw_at lw_m3 194 rfl) rfl
theorem q776 : (Jvm.Cond.fieldLink "LosslessFabric$Flow" (18 : Nat) "LosslessFabric$Flow" "path" "[I") ∈ lw_all := lw_g (lw_at lw_m3 196 rfl) rfl
theorem q780 : (Jvm.Cond.fieldLink "LosslessFabric$Flow" (25 : Nat) "LosslessFabric$Flow" "many" "I") ∈ lw_all := lw_g (lw_at lw_m3 200 rfl) rfl
theorem q785 : (Jvm.Cond.laysFinal "LosslessFabric$Flow" "LosslessFabric$Flow" "name" "I") ∈ lw_all := lw_g (lw_at lw_m3 205 rfl) rfl
theorem q786 : (Jvm.Cond.soleField "LosslessFabric$Flow" "name") ∈ lw_all := lw_g (lw_at lw_m3 206 rfl) rfl
theorem q787 : (Jvm.Cond.laysFinal "LosslessFabric$Flow" "LosslessFabric$Flow" "rate" "I") ∈ lw_all := lw_g (lw_at lw_m3 207 rfl) rfl
theorem q788 : (Jvm.Cond.soleField "LosslessFabric$Flow" "rate") ∈ lw_all := lw_g (lw_at lw_m3 208 rfl) rfl
theorem q789 : (Jvm.Cond.laysFinal "LosslessFabric$Flow" "LosslessFabric$Flow" "path" "[I") ∈ lw_all := lw_g (lw_at lw_m3 209 rfl) rfl
theorem q790 : (Jvm.Cond.soleField "LosslessFabric$Flow" "path") ∈ lw_all := lw_g (lw_at lw_m3 210 rfl) rfl
theorem q791 : (Jvm.Cond.lays "LosslessFabric$Flow" "LosslessFabric$Flow" "many" "I") ∈ lw_all := lw_g (lw_at lw_m3 211 rfl) rfl
theorem q792 : (Jvm.Cond.soleField "LosslessFabric$Flow" "many") ∈ lw_all := lw_g (lw_at lw_m3 212 rfl) rfl
theorem q793 : (Jvm.Cond.lays "LosslessFabric$Flow" "LosslessFabric$Flow" "isOff" "Z") ∈ lw_all := lw_g (lw_at lw_m3 213 rfl) rfl
theorem q794 : (Jvm.Cond.soleField "LosslessFabric$Flow" "isOff") ∈ lw_all := lw_g (lw_at lw_m3 214 rfl) rfl
theorem q795 : (Jvm.Cond.superclass "LosslessFabric$Flow" "java/lang/Object") ∈ lw_all := lw_g (lw_at lw_m3 215 rfl) rfl
theorem q797 : (Jvm.Cond.instanceMethod ({ cls := "LosslessFabric$Flow", name := "at", desc := "(I)I" } : Jvm.MethodName)) ∈ lw_all := lw_g (lw_at lw_m3 217 rfl) rfl
theorem q798 : (Jvm.Cond.selects "LosslessFabric$Flow" ({ cls := "LosslessFabric$Flow", name := "at", desc := "(I)I" } : Jvm.MethodName) ({ cls := "LosslessFabric$Flow", name := "at", desc := "(I)I" } : Jvm.MethodName)) ∈ lw_all := lw_g (lw_at lw_m3 218 rfl) rfl
theorem q799 : (Jvm.Cond.code ({ cls := "LosslessFabric$Flow", name := "at", desc := "(I)I" } : Jvm.MethodName) prog_9_method_3_code (3 : Nat) (Option.some Jvm.ClassFile.FieldType.int)) ∈ lw_all := lw_g (lw_at lw_m3 219 rfl) rfl
theorem q880 : (Jvm.Cond.instanceMethod ({ cls := "LosslessFabric$Flow", name := "isLast", desc := "(I)Z" } : Jvm.MethodName)) ∈ lw_all := lw_g (lw_at lw_m4 60 rfl) rfl
theorem q881 : (Jvm.Cond.selects "LosslessFabric$Flow" ({ cls := "LosslessFabric$Flow", name := "isLast", desc := "(I)Z" } : Jvm.MethodName) ({ cls := "LosslessFabric$Flow", name := "isLast", desc := "(I)Z" } : Jvm.MethodName)) ∈ lw_all := lw_g (lw_at lw_m4 61 rfl) rfl
theorem q882 : (Jvm.Cond.code ({ cls := "LosslessFabric$Flow", name := "isLast", desc := "(I)Z" } : Jvm.MethodName) prog_9_method_4_code (2 : Nat) (Option.some Jvm.ClassFile.FieldType.boolean)) ∈ lw_all := lw_g (lw_at lw_m4 62 rfl) rfl
theorem q1034 : (Jvm.Cond.instanceMethod ({ cls := "LosslessFabric$Flow", name := "next", desc := "(I)I" } : Jvm.MethodName)) ∈ lw_all := lw_g (lw_at lw_m4 214 rfl) rfl
theorem q1035 : (Jvm.Cond.selects "LosslessFabric$Flow" ({ cls := "LosslessFabric$Flow", name := "next", desc := "(I)I" } : Jvm.MethodName) ({ cls := "LosslessFabric$Flow", name := "next", desc := "(I)I" } : Jvm.MethodName)) ∈ lw_all := lw_g (lw_at lw_m4 215 rfl) rfl
theorem q1036 : (Jvm.Cond.code ({ cls := "LosslessFabric$Flow", name := "next", desc := "(I)I" } : Jvm.MethodName) prog_9_method_5_code (3 : Nat) (Option.some Jvm.ClassFile.FieldType.int)) ∈ lw_all := lw_g (lw_at lw_m4 216 rfl) rfl
theorem q1037 : (Jvm.Cond.methodLink "LosslessFabric$Flow" (28 : Nat) ({ cls := "LosslessFabric$Flow", name := "at", desc := "(I)I" } : Jvm.MethodName)) ∈ lw_all := lw_g (lw_at lw_m4 217 rfl) rfl
theorem q1932 : (Jvm.Cond.castable "LosslessFabric$Flow" "java/lang/Object") ∈ lw_tbl := lw_at lw_m8 152 rfl
theorem in_X10 : ∀ w ∈ wsX100, w ∈ lw_all := lw_in wsX100 [785, 787, 789, 791, 793] (by decide +kernel) (by decide +kernel)

/-! LosslessFabric$Notice -/
set_option maxRecDepth 100000
def RX11 : String := "LosslessFabric$Notice"
def TX11 : u_T := fun k => match k with
  | _ => ("LosslessFabric$Notice", "deed", "LLosslessFabric$Deed;", true)
def tyX11 : Nat → FieldType := fun k => match k with
  | _ => .object "LosslessFabric$Deed"
abbrev wsX110 : List Cond := u_ws RX11 TX11 1
theorem nmX11 : ∀ a, a < 1 → ∀ b, b < 1 → a ≠ b → (TX11 a).2.1 ≠ (TX11 b).2.1 := by decide +kernel
theorem tyX11_ok : ∀ k, k < 1 → parseFieldDescriptor (TX11 k).2.2.1 = some (tyX11 k) := by decide +kernel
abbrev cX11_init : ByteArray := prog_12_method_1_code
def yX11_init : MethodName := ⟨RX11, "<init>", "(LLosslessFabric$Deed;)V"⟩
def dkwX11_init_0 : List UInt8 := [42, 183, 0, 1, 42, 43, 181, 0, 7, 177]
abbrev dktX11_init_0 : List UInt8 := dkwX11_init_0 ++ []
theorem dksX11_init_0 : cX11_init.data.toList.drop 0 = dktX11_init_0 := by decide +kernel
theorem dX11_init_0 : decode cX11_init 0 = .ok (.aload_n 0, 1) := dk_42 (dk_at dksX11_init_0 0 rfl rfl)
theorem dX11_init_1 : decode cX11_init 1 = .ok (.invokespecial 1, 3) := dk_183 0 1 (dk_at dksX11_init_0 1 rfl rfl)
theorem dX11_init_4 : decode cX11_init 4 = .ok (.aload_n 0, 1) := dk_42 (dk_at dksX11_init_0 4 rfl rfl)
theorem dX11_init_5 : decode cX11_init 5 = .ok (.aload_n 1, 1) := dk_43 (dk_at dksX11_init_0 5 rfl rfl)
theorem dX11_init_6 : decode cX11_init 6 = .ok (.putfield 7, 3) := dk_181 0 7 (dk_at dksX11_init_0 6 rfl rfl)
theorem dX11_init_9 : decode cX11_init 9 = .ok (.return_, 1) := dk_177 (dk_at dksX11_init_0 9 rfl rfl)
theorem q120 : (Jvm.Cond.initialized "LosslessFabric$Notice") ∈ lw_all := lw_g (lw_at lw_m1 20 rfl) rfl
theorem q914 : (Jvm.Cond.instantiable "LosslessFabric$Notice" (1 : Nat)) ∈ lw_all := lw_g (lw_at lw_m4 94 rfl) rfl
theorem q923 : (Jvm.Cond.instanceMethod ({ cls := "LosslessFabric$Notice", name := "<init>", desc := "(LLosslessFabric$Deed;)V" } : Jvm.MethodName)) ∈ lw_all := lw_g (lw_at lw_m4 103 rfl) rfl
theorem q924 : (Jvm.Cond.code ({ cls := "LosslessFabric$Notice", name := "<init>", desc := "(LLosslessFabric$Deed;)V" } : Jvm.MethodName) prog_12_method_1_code (2 : Nat) (Option.none : Option Jvm.ClassFile.FieldType)) ∈ lw_all := lw_g (lw_at lw_m4 104 rfl) rfl
theorem q925 : (Jvm.Cond.methodLink "LosslessFabric$Notice" (1 : Nat) ({ cls := "java/lang/Object", name := "<init>", desc := "()V" } : Jvm.MethodName)) ∈ lw_all := lw_g (lw_at lw_m4 105 rfl) rfl
theorem q926 : (Jvm.Cond.fieldLink "LosslessFabric$Notice" (7 : Nat) "LosslessFabric$Notice" "deed" "LLosslessFabric$Deed;") ∈ lw_all := lw_g (lw_at lw_m4 106 rfl) rfl
theorem q928 : (Jvm.Cond.laysFinal "LosslessFabric$Notice" "LosslessFabric$Notice" "deed" "LLosslessFabric$Deed;") ∈ lw_all := lw_g (lw_at lw_m4 108 rfl) rfl
theorem q929 : (Jvm.Cond.soleField "LosslessFabric$Notice" "deed") ∈ lw_all := lw_g (lw_at lw_m4 109 rfl) rfl
theorem q930 : (Jvm.Cond.superclass "LosslessFabric$Notice" "java/lang/Object") ∈ lw_all := lw_g (lw_at lw_m4 110 rfl) rfl
theorem q1933 : (Jvm.Cond.castable "LosslessFabric$Notice" "java/lang/Object") ∈ lw_tbl := lw_at lw_m8 153 rfl
theorem in_X11 : ∀ w ∈ wsX110, w ∈ lw_all := lw_in wsX110 [928] (by decide +kernel) (by decide +kernel)

/-! LosslessFabric$Cycle -/
set_option maxRecDepth 100000
def RX12 : String := "LosslessFabric$Cycle"
def TX12 : u_T := fun k => match k with
  | 0 => ("LosslessFabric$Cycle", "edge", "LLosslessFabric$Edge;", true)
  | 1 => ("LosslessFabric$Cycle", "far", "[I", true)
  | 2 => ("LosslessFabric$Cycle", "row", "[I", true)
  | 3 => ("LosslessFabric$Cycle", "many", "I", false)
  | _ => ("LosslessFabric$Cycle", "this$0", "LLosslessFabric;", true)
def tyX12 : Nat → FieldType := fun k => match k with
  | 0 => .object "LosslessFabric$Edge"
  | 1 => .array .int
  | 2 => .array .int
  | 3 => .int
  | _ => .object "LosslessFabric"
abbrev wsX120 : List Cond := u_ws RX12 TX12 5
theorem nmX12 : ∀ a, a < 5 → ∀ b, b < 5 → a ≠ b → (TX12 a).2.1 ≠ (TX12 b).2.1 := by decide +kernel
theorem tyX12_ok : ∀ k, k < 5 → parseFieldDescriptor (TX12 k).2.2.1 = some (tyX12 k) := by decide +kernel
abbrev cX12_init : ByteArray := prog_3_method_1_code
def yX12_init : MethodName := ⟨RX12, "<init>", "(LLosslessFabric;LLosslessFabric$Edge;)V"⟩
def dkwX12_init_1 : List UInt8 := [181, 0, 19, 42, 44, 181, 0, 22, 177]
abbrev dktX12_init_1 : List UInt8 := dkwX12_init_1 ++ []
def dkwX12_init_0 : List UInt8 := [42, 43, 181, 0, 3, 42, 183, 0, 9, 42, 16, 10, 188, 10, 181, 0, 15, 42, 16, 10, 188, 10]
abbrev dktX12_init_0 : List UInt8 := dkwX12_init_0 ++ dktX12_init_1
theorem dksX12_init_0 : cX12_init.data.toList.drop 0 = dktX12_init_0 := by decide +kernel
theorem dksX12_init_1 : cX12_init.data.toList.drop 22 = dktX12_init_1 := dk_seg dksX12_init_0 22 rfl rfl
theorem dX12_init_0 : decode cX12_init 0 = .ok (.aload_n 0, 1) := dk_42 (dk_at dksX12_init_0 0 rfl rfl)
theorem dX12_init_1 : decode cX12_init 1 = .ok (.aload_n 1, 1) := dk_43 (dk_at dksX12_init_0 1 rfl rfl)
theorem dX12_init_2 : decode cX12_init 2 = .ok (.putfield 3, 3) := dk_181 0 3 (dk_at dksX12_init_0 2 rfl rfl)
theorem dX12_init_5 : decode cX12_init 5 = .ok (.aload_n 0, 1) := dk_42 (dk_at dksX12_init_0 5 rfl rfl)
theorem dX12_init_6 : decode cX12_init 6 = .ok (.invokespecial 9, 3) := dk_183 0 9 (dk_at dksX12_init_0 6 rfl rfl)
theorem dX12_init_9 : decode cX12_init 9 = .ok (.aload_n 0, 1) := dk_42 (dk_at dksX12_init_0 9 rfl rfl)
theorem dX12_init_10 : decode cX12_init 10 = .ok (.bipush 10, 2) := dk_16 10 (dk_at dksX12_init_0 10 rfl rfl)
theorem dX12_init_12 : decode cX12_init 12 = .ok (.newarray .int, 2) := dk_188_10 (dk_at dksX12_init_0 12 rfl rfl)
theorem dX12_init_14 : decode cX12_init 14 = .ok (.putfield 15, 3) := dk_181 0 15 (dk_at dksX12_init_0 14 rfl rfl)
theorem dX12_init_17 : decode cX12_init 17 = .ok (.aload_n 0, 1) := dk_42 (dk_at dksX12_init_0 17 rfl rfl)
theorem dX12_init_18 : decode cX12_init 18 = .ok (.bipush 10, 2) := dk_16 10 (dk_at dksX12_init_0 18 rfl rfl)
theorem dX12_init_20 : decode cX12_init 20 = .ok (.newarray .int, 2) := dk_188_10 (dk_at dksX12_init_0 20 rfl rfl)
theorem dX12_init_22 : decode cX12_init 22 = .ok (.putfield 19, 3) := dk_181 0 19 (dk_at dksX12_init_1 0 rfl rfl)
theorem dX12_init_25 : decode cX12_init 25 = .ok (.aload_n 0, 1) := dk_42 (dk_at dksX12_init_1 3 rfl rfl)
theorem dX12_init_26 : decode cX12_init 26 = .ok (.aload_n 2, 1) := dk_44 (dk_at dksX12_init_1 4 rfl rfl)
theorem dX12_init_27 : decode cX12_init 27 = .ok (.putfield 22, 3) := dk_181 0 22 (dk_at dksX12_init_1 5 rfl rfl)
theorem dX12_init_30 : decode cX12_init 30 = .ok (.return_, 1) := dk_177 (dk_at dksX12_init_1 8 rfl rfl)
abbrev cX12_first : ByteArray := prog_3_method_5_code
def yX12_first : MethodName := ⟨RX12, "first", "()LLosslessFabric$Cycle;"⟩
def dkwX12_first_3 : List UInt8 := [182, 0, 66, 61, 167, 255, 211, 42, 176]
abbrev dktX12_first_3 : List UInt8 := dkwX12_first_3 ++ []
def dkwX12_first_2 : List UInt8 := [180, 0, 63, 4, 96, 181, 0, 63, 132, 4, 255, 21, 4, 154, 0, 7, 29, 167, 0, 10, 42, 28, 21, 4]
abbrev dktX12_first_2 : List UInt8 := dkwX12_first_2 ++ dktX12_first_3
def dkwX12_first_1 : List UInt8 := [180, 0, 15, 29, 46, 54, 4, 21, 4, 158, 0, 46, 42, 180, 0, 19, 42, 180, 0, 63, 28, 79, 42, 89]
abbrev dktX12_first_1 : List UInt8 := dkwX12_first_1 ++ dktX12_first_2
def dkwX12_first_0 : List UInt8 := [42, 182, 0, 53, 60, 27, 154, 0, 5, 42, 176, 27, 184, 0, 57, 61, 28, 62, 42, 29, 182, 0, 46, 42]
abbrev dktX12_first_0 : List UInt8 := dkwX12_first_0 ++ dktX12_first_1
theorem dksX12_first_0 : cX12_first.data.toList.drop 0 = dktX12_first_0 := by decide +kernel
theorem dksX12_first_1 : cX12_first.data.toList.drop 24 = dktX12_first_1 := dk_seg dksX12_first_0 24 rfl rfl
theorem dksX12_first_2 : cX12_first.data.toList.drop 48 = dktX12_first_2 := dk_seg dksX12_first_1 24 rfl rfl
theorem dksX12_first_3 : cX12_first.data.toList.drop 72 = dktX12_first_3 := dk_seg dksX12_first_2 24 rfl rfl
theorem dX12_first_0 : decode cX12_first 0 = .ok (.aload_n 0, 1) := dk_42 (dk_at dksX12_first_0 0 rfl rfl)
theorem dX12_first_1 : decode cX12_first 1 = .ok (.invokevirtual 53, 3) := dk_182 0 53 (dk_at dksX12_first_0 1 rfl rfl)
theorem dX12_first_4 : decode cX12_first 4 = .ok (.istore_n 1, 1) := dk_60 (dk_at dksX12_first_0 4 rfl rfl)
theorem dX12_first_5 : decode cX12_first 5 = .ok (.iload_n 1, 1) := dk_27 (dk_at dksX12_first_0 5 rfl rfl)
theorem dX12_first_6 : decode cX12_first 6 = .ok (.ifCond .ne 5, 3) := dk_154 0 5 (dk_at dksX12_first_0 6 rfl rfl)
theorem dX12_first_9 : decode cX12_first 9 = .ok (.aload_n 0, 1) := dk_42 (dk_at dksX12_first_0 9 rfl rfl)
theorem dX12_first_10 : decode cX12_first 10 = .ok (.areturn, 1) := dk_176 (dk_at dksX12_first_0 10 rfl rfl)
theorem dX12_first_11 : decode cX12_first 11 = .ok (.iload_n 1, 1) := dk_27 (dk_at dksX12_first_0 11 rfl rfl)
theorem dX12_first_12 : decode cX12_first 12 = .ok (.invokestatic 57, 3) := dk_184 0 57 (dk_at dksX12_first_0 12 rfl rfl)
theorem dX12_first_15 : decode cX12_first 15 = .ok (.istore_n 2, 1) := dk_61 (dk_at dksX12_first_0 15 rfl rfl)
theorem dX12_first_16 : decode cX12_first 16 = .ok (.iload_n 2, 1) := dk_28 (dk_at dksX12_first_0 16 rfl rfl)
theorem dX12_first_17 : decode cX12_first 17 = .ok (.istore_n 3, 1) := dk_62 (dk_at dksX12_first_0 17 rfl rfl)
theorem dX12_first_18 : decode cX12_first 18 = .ok (.aload_n 0, 1) := dk_42 (dk_at dksX12_first_0 18 rfl rfl)
theorem dX12_first_19 : decode cX12_first 19 = .ok (.iload_n 3, 1) := dk_29 (dk_at dksX12_first_0 19 rfl rfl)
theorem dX12_first_20 : decode cX12_first 20 = .ok (.invokevirtual 46, 3) := dk_182 0 46 (dk_at dksX12_first_0 20 rfl rfl)
theorem dX12_first_23 : decode cX12_first 23 = .ok (.aload_n 0, 1) := dk_42 (dk_at dksX12_first_0 23 rfl rfl)
theorem dX12_first_24 : decode cX12_first 24 = .ok (.getfield 15, 3) := dk_180 0 15 (dk_at dksX12_first_1 0 rfl rfl)
theorem dX12_first_27 : decode cX12_first 27 = .ok (.iload_n 3, 1) := dk_29 (dk_at dksX12_first_1 3 rfl rfl)
theorem dX12_first_28 : decode cX12_first 28 = .ok (.iaload, 1) := dk_46 (dk_at dksX12_first_1 4 rfl rfl)
theorem dX12_first_29 : decode cX12_first 29 = .ok (.istore 4, 2) := dk_54 4 (dk_at dksX12_first_1 5 rfl rfl)
theorem dX12_first_31 : decode cX12_first 31 = .ok (.iload 4, 2) := dk_21 4 (dk_at dksX12_first_1 7 rfl rfl)
theorem dX12_first_33 : decode cX12_first 33 = .ok (.ifCond .le 46, 3) := dk_158 0 46 (dk_at dksX12_first_1 9 rfl rfl)
theorem dX12_first_36 : decode cX12_first 36 = .ok (.aload_n 0, 1) := dk_42 (dk_at dksX12_first_1 12 rfl rfl)
theorem dX12_first_37 : decode cX12_first 37 = .ok (.getfield 19, 3) := dk_180 0 19 (dk_at dksX12_first_1 13 rfl rfl)
theorem dX12_first_40 : decode cX12_first 40 = .ok (.aload_n 0, 1) := dk_42 (dk_at dksX12_first_1 16 rfl rfl)
theorem dX12_first_41 : decode cX12_first 41 = .ok (.getfield 63, 3) := dk_180 0 63 (dk_at dksX12_first_1 17 rfl rfl)
theorem dX12_first_44 : decode cX12_first 44 = .ok (.iload_n 2, 1) := dk_28 (dk_at dksX12_first_1 20 rfl rfl)
theorem dX12_first_45 : decode cX12_first 45 = .ok (.iastore, 1) := dk_79 (dk_at dksX12_first_1 21 rfl rfl)
theorem dX12_first_46 : decode cX12_first 46 = .ok (.aload_n 0, 1) := dk_42 (dk_at dksX12_first_1 22 rfl rfl)
theorem dX12_first_47 : decode cX12_first 47 = .ok (.dup, 1) := dk_89 (dk_at dksX12_first_1 23 rfl rfl)
theorem dX12_first_48 : decode cX12_first 48 = .ok (.getfield 63, 3) := dk_180 0 63 (dk_at dksX12_first_2 0 rfl rfl)
theorem dX12_first_51 : decode cX12_first 51 = .ok (.iconst 1, 1) := dk_4 (dk_at dksX12_first_2 3 rfl rfl)
theorem dX12_first_52 : decode cX12_first 52 = .ok (.iadd, 1) := dk_96 (dk_at dksX12_first_2 4 rfl rfl)
theorem dX12_first_53 : decode cX12_first 53 = .ok (.putfield 63, 3) := dk_181 0 63 (dk_at dksX12_first_2 5 rfl rfl)
theorem dX12_first_56 : decode cX12_first 56 = .ok (.iinc 4 (-1), 3) := dk_132 4 255 (dk_at dksX12_first_2 8 rfl rfl)
theorem dX12_first_59 : decode cX12_first 59 = .ok (.iload 4, 2) := dk_21 4 (dk_at dksX12_first_2 11 rfl rfl)
theorem dX12_first_61 : decode cX12_first 61 = .ok (.ifCond .ne 7, 3) := dk_154 0 7 (dk_at dksX12_first_2 13 rfl rfl)
theorem dX12_first_64 : decode cX12_first 64 = .ok (.iload_n 3, 1) := dk_29 (dk_at dksX12_first_2 16 rfl rfl)
theorem dX12_first_65 : decode cX12_first 65 = .ok (.goto 10, 3) := dk_167 0 10 (dk_at dksX12_first_2 17 rfl rfl)
theorem dX12_first_68 : decode cX12_first 68 = .ok (.aload_n 0, 1) := dk_42 (dk_at dksX12_first_2 20 rfl rfl)
theorem dX12_first_69 : decode cX12_first 69 = .ok (.iload_n 2, 1) := dk_28 (dk_at dksX12_first_2 21 rfl rfl)
theorem dX12_first_70 : decode cX12_first 70 = .ok (.iload 4, 2) := dk_21 4 (dk_at dksX12_first_2 22 rfl rfl)
theorem dX12_first_72 : decode cX12_first 72 = .ok (.invokevirtual 66, 3) := dk_182 0 66 (dk_at dksX12_first_3 0 rfl rfl)
theorem dX12_first_75 : decode cX12_first 75 = .ok (.istore_n 2, 1) := dk_61 (dk_at dksX12_first_3 3 rfl rfl)
theorem dX12_first_76 : decode cX12_first 76 = .ok (.goto (-45), 3) := dk_167 255 211 (dk_at dksX12_first_3 4 rfl rfl)
theorem dX12_first_79 : decode cX12_first 79 = .ok (.aload_n 0, 1) := dk_42 (dk_at dksX12_first_3 7 rfl rfl)
theorem dX12_first_80 : decode cX12_first 80 = .ok (.areturn, 1) := dk_176 (dk_at dksX12_first_3 8 rfl rfl)
abbrev cX12_inAny : ByteArray := prog_3_method_4_code
def yX12_inAny : MethodName := ⟨RX12, "inAny", "()I"⟩
def dkwX12_inAny_2 : List UInt8 := [27, 172]
abbrev dktX12_inAny_2 : List UInt8 := dkwX12_inAny_2 ++ []
def dkwX12_inAny_1 : List UInt8 := [180, 0, 15, 28, 46, 16, 99, 162, 0, 11, 27, 178, 0, 50, 28, 46, 128, 60, 132, 2, 1, 167, 255, 215]
abbrev dktX12_inAny_1 : List UInt8 := dkwX12_inAny_1 ++ dktX12_inAny_2
def dkwX12_inAny_0 : List UInt8 := [3, 60, 3, 61, 28, 42, 180, 0, 3, 180, 0, 26, 180, 0, 30, 162, 0, 33, 42, 28, 182, 0, 46, 42]
abbrev dktX12_inAny_0 : List UInt8 := dkwX12_inAny_0 ++ dktX12_inAny_1
theorem dksX12_inAny_0 : cX12_inAny.data.toList.drop 0 = dktX12_inAny_0 := by decide +kernel
theorem dksX12_inAny_1 : cX12_inAny.data.toList.drop 24 = dktX12_inAny_1 := dk_seg dksX12_inAny_0 24 rfl rfl
theorem dksX12_inAny_2 : cX12_inAny.data.toList.drop 48 = dktX12_inAny_2 := dk_seg dksX12_inAny_1 24 rfl rfl
theorem dX12_inAny_0 : decode cX12_inAny 0 = .ok (.iconst 0, 1) := dk_3 (dk_at dksX12_inAny_0 0 rfl rfl)
theorem dX12_inAny_1 : decode cX12_inAny 1 = .ok (.istore_n 1, 1) := dk_60 (dk_at dksX12_inAny_0 1 rfl rfl)
theorem dX12_inAny_2 : decode cX12_inAny 2 = .ok (.iconst 0, 1) := dk_3 (dk_at dksX12_inAny_0 2 rfl rfl)
theorem dX12_inAny_3 : decode cX12_inAny 3 = .ok (.istore_n 2, 1) := dk_61 (dk_at dksX12_inAny_0 3 rfl rfl)
theorem dX12_inAny_4 : decode cX12_inAny 4 = .ok (.iload_n 2, 1) := dk_28 (dk_at dksX12_inAny_0 4 rfl rfl)
theorem dX12_inAny_5 : decode cX12_inAny 5 = .ok (.aload_n 0, 1) := dk_42 (dk_at dksX12_inAny_0 5 rfl rfl)
theorem dX12_inAny_6 : decode cX12_inAny 6 = .ok (.getfield 3, 3) := dk_180 0 3 (dk_at dksX12_inAny_0 6 rfl rfl)
theorem dX12_inAny_9 : decode cX12_inAny 9 = .ok (.getfield 26, 3) := dk_180 0 26 (dk_at dksX12_inAny_0 9 rfl rfl)
theorem dX12_inAny_12 : decode cX12_inAny 12 = .ok (.getfield 30, 3) := dk_180 0 30 (dk_at dksX12_inAny_0 12 rfl rfl)
theorem dX12_inAny_15 : decode cX12_inAny 15 = .ok (.if_icmp .ge 33, 3) := dk_162 0 33 (dk_at dksX12_inAny_0 15 rfl rfl)
theorem dX12_inAny_18 : decode cX12_inAny 18 = .ok (.aload_n 0, 1) := dk_42 (dk_at dksX12_inAny_0 18 rfl rfl)
theorem dX12_inAny_19 : decode cX12_inAny 19 = .ok (.iload_n 2, 1) := dk_28 (dk_at dksX12_inAny_0 19 rfl rfl)
theorem dX12_inAny_20 : decode cX12_inAny 20 = .ok (.invokevirtual 46, 3) := dk_182 0 46 (dk_at dksX12_inAny_0 20 rfl rfl)
theorem dX12_inAny_23 : decode cX12_inAny 23 = .ok (.aload_n 0, 1) := dk_42 (dk_at dksX12_inAny_0 23 rfl rfl)
theorem dX12_inAny_24 : decode cX12_inAny 24 = .ok (.getfield 15, 3) := dk_180 0 15 (dk_at dksX12_inAny_1 0 rfl rfl)
theorem dX12_inAny_27 : decode cX12_inAny 27 = .ok (.iload_n 2, 1) := dk_28 (dk_at dksX12_inAny_1 3 rfl rfl)
theorem dX12_inAny_28 : decode cX12_inAny 28 = .ok (.iaload, 1) := dk_46 (dk_at dksX12_inAny_1 4 rfl rfl)
theorem dX12_inAny_29 : decode cX12_inAny 29 = .ok (.bipush 99, 2) := dk_16 99 (dk_at dksX12_inAny_1 5 rfl rfl)
theorem dX12_inAny_31 : decode cX12_inAny 31 = .ok (.if_icmp .ge 11, 3) := dk_162 0 11 (dk_at dksX12_inAny_1 7 rfl rfl)
theorem dX12_inAny_34 : decode cX12_inAny 34 = .ok (.iload_n 1, 1) := dk_27 (dk_at dksX12_inAny_1 10 rfl rfl)
theorem dX12_inAny_35 : decode cX12_inAny 35 = .ok (.getstatic 50, 3) := dk_178 0 50 (dk_at dksX12_inAny_1 11 rfl rfl)
theorem dX12_inAny_38 : decode cX12_inAny 38 = .ok (.iload_n 2, 1) := dk_28 (dk_at dksX12_inAny_1 14 rfl rfl)
theorem dX12_inAny_39 : decode cX12_inAny 39 = .ok (.iaload, 1) := dk_46 (dk_at dksX12_inAny_1 15 rfl rfl)
theorem dX12_inAny_40 : decode cX12_inAny 40 = .ok (.ior, 1) := dk_128 (dk_at dksX12_inAny_1 16 rfl rfl)
theorem dX12_inAny_41 : decode cX12_inAny 41 = .ok (.istore_n 1, 1) := dk_60 (dk_at dksX12_inAny_1 17 rfl rfl)
theorem dX12_inAny_42 : decode cX12_inAny 42 = .ok (.iinc 2 1, 3) := dk_132 2 1 (dk_at dksX12_inAny_1 18 rfl rfl)
theorem dX12_inAny_45 : decode cX12_inAny 45 = .ok (.goto (-41), 3) := dk_167 255 215 (dk_at dksX12_inAny_1 21 rfl rfl)
theorem dX12_inAny_48 : decode cX12_inAny 48 = .ok (.iload_n 1, 1) := dk_27 (dk_at dksX12_inAny_2 0 rfl rfl)
theorem dX12_inAny_49 : decode cX12_inAny 49 = .ok (.ireturn, 1) := dk_172 (dk_at dksX12_inAny_2 1 rfl rfl)
abbrev cX12_laysTo : ByteArray := prog_3_method_2_code
def yX12_laysTo : MethodName := ⟨RX12, "laysTo", "(I)V"⟩
def dkwX12_laysTo_3 : List UInt8 := [153, 0, 10, 42, 180, 0, 15, 29, 28, 79, 132, 3, 1, 167, 255, 211, 132, 2, 1, 167, 255, 189, 177]
abbrev dktX12_laysTo_3 : List UInt8 := dkwX12_laysTo_3 ++ []
def dkwX12_laysTo_2 : List UInt8 := [180, 0, 30, 162, 0, 37, 42, 180, 0, 15, 29, 46, 16, 99, 160, 0, 20, 42, 29, 27, 28, 182, 0, 36]
abbrev dktX12_laysTo_2 : List UInt8 := dkwX12_laysTo_2 ++ dktX12_laysTo_3
def dkwX12_laysTo_1 : List UInt8 := [28, 42, 180, 0, 3, 180, 0, 26, 180, 0, 30, 163, 0, 59, 3, 62, 29, 42, 180, 0, 3, 180, 0, 26]
abbrev dktX12_laysTo_1 : List UInt8 := dkwX12_laysTo_1 ++ dktX12_laysTo_2
def dkwX12_laysTo_0 : List UInt8 := [3, 61, 28, 16, 10, 162, 0, 17, 42, 180, 0, 15, 28, 16, 99, 79, 132, 2, 1, 167, 255, 239, 4, 61]
abbrev dktX12_laysTo_0 : List UInt8 := dkwX12_laysTo_0 ++ dktX12_laysTo_1
theorem dksX12_laysTo_0 : cX12_laysTo.data.toList.drop 0 = dktX12_laysTo_0 := by decide +kernel
theorem dksX12_laysTo_1 : cX12_laysTo.data.toList.drop 24 = dktX12_laysTo_1 := dk_seg dksX12_laysTo_0 24 rfl rfl
theorem dksX12_laysTo_2 : cX12_laysTo.data.toList.drop 48 = dktX12_laysTo_2 := dk_seg dksX12_laysTo_1 24 rfl rfl
theorem dksX12_laysTo_3 : cX12_laysTo.data.toList.drop 72 = dktX12_laysTo_3 := dk_seg dksX12_laysTo_2 24 rfl rfl
theorem dX12_laysTo_0 : decode cX12_laysTo 0 = .ok (.iconst 0, 1) := dk_3 (dk_at dksX12_laysTo_0 0 rfl rfl)
theorem dX12_laysTo_1 : decode cX12_laysTo 1 = .ok (.istore_n 2, 1) := dk_61 (dk_at dksX12_laysTo_0 1 rfl rfl)
theorem dX12_laysTo_2 : decode cX12_laysTo 2 = .ok (.iload_n 2, 1) := dk_28 (dk_at dksX12_laysTo_0 2 rfl rfl)
theorem dX12_laysTo_3 : decode cX12_laysTo 3 = .ok (.bipush 10, 2) := dk_16 10 (dk_at dksX12_laysTo_0 3 rfl rfl)
theorem dX12_laysTo_5 : decode cX12_laysTo 5 = .ok (.if_icmp .ge 17, 3) := dk_162 0 17 (dk_at dksX12_laysTo_0 5 rfl rfl)
theorem dX12_laysTo_8 : decode cX12_laysTo 8 = .ok (.aload_n 0, 1) := dk_42 (dk_at dksX12_laysTo_0 8 rfl rfl)
theorem dX12_laysTo_9 : decode cX12_laysTo 9 = .ok (.getfield 15, 3) := dk_180 0 15 (dk_at dksX12_laysTo_0 9 rfl rfl)
theorem dX12_laysTo_12 : decode cX12_laysTo 12 = .ok (.iload_n 2, 1) := dk_28 (dk_at dksX12_laysTo_0 12 rfl rfl)
theorem dX12_laysTo_13 : decode cX12_laysTo 13 = .ok (.bipush 99, 2) := dk_16 99 (dk_at dksX12_laysTo_0 13 rfl rfl)
theorem dX12_laysTo_15 : decode cX12_laysTo 15 = .ok (.iastore, 1) := dk_79 (dk_at dksX12_laysTo_0 15 rfl rfl)
theorem dX12_laysTo_16 : decode cX12_laysTo 16 = .ok (.iinc 2 1, 3) := dk_132 2 1 (dk_at dksX12_laysTo_0 16 rfl rfl)
theorem dX12_laysTo_19 : decode cX12_laysTo 19 = .ok (.goto (-17), 3) := dk_167 255 239 (dk_at dksX12_laysTo_0 19 rfl rfl)
theorem dX12_laysTo_22 : decode cX12_laysTo 22 = .ok (.iconst 1, 1) := dk_4 (dk_at dksX12_laysTo_0 22 rfl rfl)
theorem dX12_laysTo_23 : decode cX12_laysTo 23 = .ok (.istore_n 2, 1) := dk_61 (dk_at dksX12_laysTo_0 23 rfl rfl)
theorem dX12_laysTo_24 : decode cX12_laysTo 24 = .ok (.iload_n 2, 1) := dk_28 (dk_at dksX12_laysTo_1 0 rfl rfl)
theorem dX12_laysTo_25 : decode cX12_laysTo 25 = .ok (.aload_n 0, 1) := dk_42 (dk_at dksX12_laysTo_1 1 rfl rfl)
theorem dX12_laysTo_26 : decode cX12_laysTo 26 = .ok (.getfield 3, 3) := dk_180 0 3 (dk_at dksX12_laysTo_1 2 rfl rfl)
theorem dX12_laysTo_29 : decode cX12_laysTo 29 = .ok (.getfield 26, 3) := dk_180 0 26 (dk_at dksX12_laysTo_1 5 rfl rfl)
theorem dX12_laysTo_32 : decode cX12_laysTo 32 = .ok (.getfield 30, 3) := dk_180 0 30 (dk_at dksX12_laysTo_1 8 rfl rfl)
theorem dX12_laysTo_35 : decode cX12_laysTo 35 = .ok (.if_icmp .gt 59, 3) := dk_163 0 59 (dk_at dksX12_laysTo_1 11 rfl rfl)
theorem dX12_laysTo_38 : decode cX12_laysTo 38 = .ok (.iconst 0, 1) := dk_3 (dk_at dksX12_laysTo_1 14 rfl rfl)
theorem dX12_laysTo_39 : decode cX12_laysTo 39 = .ok (.istore_n 3, 1) := dk_62 (dk_at dksX12_laysTo_1 15 rfl rfl)
theorem dX12_laysTo_40 : decode cX12_laysTo 40 = .ok (.iload_n 3, 1) := dk_29 (dk_at dksX12_laysTo_1 16 rfl rfl)
theorem dX12_laysTo_41 : decode cX12_laysTo 41 = .ok (.aload_n 0, 1) := dk_42 (dk_at dksX12_laysTo_1 17 rfl rfl)
theorem dX12_laysTo_42 : decode cX12_laysTo 42 = .ok (.getfield 3, 3) := dk_180 0 3 (dk_at dksX12_laysTo_1 18 rfl rfl)
theorem dX12_laysTo_45 : decode cX12_laysTo 45 = .ok (.getfield 26, 3) := dk_180 0 26 (dk_at dksX12_laysTo_1 21 rfl rfl)
theorem dX12_laysTo_48 : decode cX12_laysTo 48 = .ok (.getfield 30, 3) := dk_180 0 30 (dk_at dksX12_laysTo_2 0 rfl rfl)
theorem dX12_laysTo_51 : decode cX12_laysTo 51 = .ok (.if_icmp .ge 37, 3) := dk_162 0 37 (dk_at dksX12_laysTo_2 3 rfl rfl)
theorem dX12_laysTo_54 : decode cX12_laysTo 54 = .ok (.aload_n 0, 1) := dk_42 (dk_at dksX12_laysTo_2 6 rfl rfl)
theorem dX12_laysTo_55 : decode cX12_laysTo 55 = .ok (.getfield 15, 3) := dk_180 0 15 (dk_at dksX12_laysTo_2 7 rfl rfl)
theorem dX12_laysTo_58 : decode cX12_laysTo 58 = .ok (.iload_n 3, 1) := dk_29 (dk_at dksX12_laysTo_2 10 rfl rfl)
theorem dX12_laysTo_59 : decode cX12_laysTo 59 = .ok (.iaload, 1) := dk_46 (dk_at dksX12_laysTo_2 11 rfl rfl)
theorem dX12_laysTo_60 : decode cX12_laysTo 60 = .ok (.bipush 99, 2) := dk_16 99 (dk_at dksX12_laysTo_2 12 rfl rfl)
theorem dX12_laysTo_62 : decode cX12_laysTo 62 = .ok (.if_icmp .ne 20, 3) := dk_160 0 20 (dk_at dksX12_laysTo_2 14 rfl rfl)
theorem dX12_laysTo_65 : decode cX12_laysTo 65 = .ok (.aload_n 0, 1) := dk_42 (dk_at dksX12_laysTo_2 17 rfl rfl)
theorem dX12_laysTo_66 : decode cX12_laysTo 66 = .ok (.iload_n 3, 1) := dk_29 (dk_at dksX12_laysTo_2 18 rfl rfl)
theorem dX12_laysTo_67 : decode cX12_laysTo 67 = .ok (.iload_n 1, 1) := dk_27 (dk_at dksX12_laysTo_2 19 rfl rfl)
theorem dX12_laysTo_68 : decode cX12_laysTo 68 = .ok (.iload_n 2, 1) := dk_28 (dk_at dksX12_laysTo_2 20 rfl rfl)
theorem dX12_laysTo_69 : decode cX12_laysTo 69 = .ok (.invokevirtual 36, 3) := dk_182 0 36 (dk_at dksX12_laysTo_2 21 rfl rfl)
theorem dX12_laysTo_72 : decode cX12_laysTo 72 = .ok (.ifCond .eq 10, 3) := dk_153 0 10 (dk_at dksX12_laysTo_3 0 rfl rfl)
theorem dX12_laysTo_75 : decode cX12_laysTo 75 = .ok (.aload_n 0, 1) := dk_42 (dk_at dksX12_laysTo_3 3 rfl rfl)
theorem dX12_laysTo_76 : decode cX12_laysTo 76 = .ok (.getfield 15, 3) := dk_180 0 15 (dk_at dksX12_laysTo_3 4 rfl rfl)
theorem dX12_laysTo_79 : decode cX12_laysTo 79 = .ok (.iload_n 3, 1) := dk_29 (dk_at dksX12_laysTo_3 7 rfl rfl)
theorem dX12_laysTo_80 : decode cX12_laysTo 80 = .ok (.iload_n 2, 1) := dk_28 (dk_at dksX12_laysTo_3 8 rfl rfl)
theorem dX12_laysTo_81 : decode cX12_laysTo 81 = .ok (.iastore, 1) := dk_79 (dk_at dksX12_laysTo_3 9 rfl rfl)
theorem dX12_laysTo_82 : decode cX12_laysTo 82 = .ok (.iinc 3 1, 3) := dk_132 3 1 (dk_at dksX12_laysTo_3 10 rfl rfl)
theorem dX12_laysTo_85 : decode cX12_laysTo 85 = .ok (.goto (-45), 3) := dk_167 255 211 (dk_at dksX12_laysTo_3 13 rfl rfl)
theorem dX12_laysTo_88 : decode cX12_laysTo 88 = .ok (.iinc 2 1, 3) := dk_132 2 1 (dk_at dksX12_laysTo_3 16 rfl rfl)
theorem dX12_laysTo_91 : decode cX12_laysTo 91 = .ok (.goto (-67), 3) := dk_167 255 189 (dk_at dksX12_laysTo_3 19 rfl rfl)
theorem dX12_laysTo_94 : decode cX12_laysTo 94 = .ok (.return_, 1) := dk_177 (dk_at dksX12_laysTo_3 22 rfl rfl)
abbrev cX12_isAhead : ByteArray := prog_3_method_3_code
def yX12_isAhead : MethodName := ⟨RX12, "isAhead", "(III)Z"⟩
def dkwX12_isAhead_3 : List UInt8 := [167, 255, 208, 3, 172]
abbrev dktX12_isAhead_3 : List UInt8 := dkwX12_isAhead_3 ++ []
def dkwX12_isAhead_2 : List UInt8 := [160, 0, 20, 42, 180, 0, 22, 27, 21, 4, 185, 0, 40, 3, 0, 153, 0, 5, 4, 172, 132, 4, 1]
abbrev dktX12_isAhead_2 : List UInt8 := dkwX12_isAhead_2 ++ dktX12_isAhead_3
def dkwX12_isAhead_1 : List UInt8 := [180, 0, 3, 180, 0, 26, 180, 0, 30, 162, 0, 39, 42, 180, 0, 15, 21, 4, 46, 29, 4, 100]
abbrev dktX12_isAhead_1 : List UInt8 := dkwX12_isAhead_1 ++ dktX12_isAhead_2
def dkwX12_isAhead_0 : List UInt8 := [29, 4, 160, 0, 15, 42, 180, 0, 22, 27, 28, 185, 0, 40, 3, 0, 172, 3, 54, 4, 21, 4, 42]
abbrev dktX12_isAhead_0 : List UInt8 := dkwX12_isAhead_0 ++ dktX12_isAhead_1
theorem dksX12_isAhead_0 : cX12_isAhead.data.toList.drop 0 = dktX12_isAhead_0 := by decide +kernel
theorem dksX12_isAhead_1 : cX12_isAhead.data.toList.drop 23 = dktX12_isAhead_1 := dk_seg dksX12_isAhead_0 23 rfl rfl
theorem dksX12_isAhead_2 : cX12_isAhead.data.toList.drop 45 = dktX12_isAhead_2 := dk_seg dksX12_isAhead_1 22 rfl rfl
theorem dksX12_isAhead_3 : cX12_isAhead.data.toList.drop 68 = dktX12_isAhead_3 := dk_seg dksX12_isAhead_2 23 rfl rfl
theorem dX12_isAhead_0 : decode cX12_isAhead 0 = .ok (.iload_n 3, 1) := dk_29 (dk_at dksX12_isAhead_0 0 rfl rfl)
theorem dX12_isAhead_1 : decode cX12_isAhead 1 = .ok (.iconst 1, 1) := dk_4 (dk_at dksX12_isAhead_0 1 rfl rfl)
theorem dX12_isAhead_2 : decode cX12_isAhead 2 = .ok (.if_icmp .ne 15, 3) := dk_160 0 15 (dk_at dksX12_isAhead_0 2 rfl rfl)
theorem dX12_isAhead_5 : decode cX12_isAhead 5 = .ok (.aload_n 0, 1) := dk_42 (dk_at dksX12_isAhead_0 5 rfl rfl)
theorem dX12_isAhead_6 : decode cX12_isAhead 6 = .ok (.getfield 22, 3) := dk_180 0 22 (dk_at dksX12_isAhead_0 6 rfl rfl)
theorem dX12_isAhead_9 : decode cX12_isAhead 9 = .ok (.iload_n 1, 1) := dk_27 (dk_at dksX12_isAhead_0 9 rfl rfl)
theorem dX12_isAhead_10 : decode cX12_isAhead 10 = .ok (.iload_n 2, 1) := dk_28 (dk_at dksX12_isAhead_0 10 rfl rfl)
theorem dX12_isAhead_11 : decode cX12_isAhead 11 = .ok (.invokeinterface 40 3, 5) := by decide +kernel
theorem dX12_isAhead_16 : decode cX12_isAhead 16 = .ok (.ireturn, 1) := dk_172 (dk_at dksX12_isAhead_0 16 rfl rfl)
theorem dX12_isAhead_17 : decode cX12_isAhead 17 = .ok (.iconst 0, 1) := dk_3 (dk_at dksX12_isAhead_0 17 rfl rfl)
theorem dX12_isAhead_18 : decode cX12_isAhead 18 = .ok (.istore 4, 2) := dk_54 4 (dk_at dksX12_isAhead_0 18 rfl rfl)
theorem dX12_isAhead_20 : decode cX12_isAhead 20 = .ok (.iload 4, 2) := dk_21 4 (dk_at dksX12_isAhead_0 20 rfl rfl)
theorem dX12_isAhead_22 : decode cX12_isAhead 22 = .ok (.aload_n 0, 1) := dk_42 (dk_at dksX12_isAhead_0 22 rfl rfl)
theorem dX12_isAhead_23 : decode cX12_isAhead 23 = .ok (.getfield 3, 3) := dk_180 0 3 (dk_at dksX12_isAhead_1 0 rfl rfl)
theorem dX12_isAhead_26 : decode cX12_isAhead 26 = .ok (.getfield 26, 3) := dk_180 0 26 (dk_at dksX12_isAhead_1 3 rfl rfl)
theorem dX12_isAhead_29 : decode cX12_isAhead 29 = .ok (.getfield 30, 3) := dk_180 0 30 (dk_at dksX12_isAhead_1 6 rfl rfl)
theorem dX12_isAhead_32 : decode cX12_isAhead 32 = .ok (.if_icmp .ge 39, 3) := dk_162 0 39 (dk_at dksX12_isAhead_1 9 rfl rfl)
theorem dX12_isAhead_35 : decode cX12_isAhead 35 = .ok (.aload_n 0, 1) := dk_42 (dk_at dksX12_isAhead_1 12 rfl rfl)
theorem dX12_isAhead_36 : decode cX12_isAhead 36 = .ok (.getfield 15, 3) := dk_180 0 15 (dk_at dksX12_isAhead_1 13 rfl rfl)
theorem dX12_isAhead_39 : decode cX12_isAhead 39 = .ok (.iload 4, 2) := dk_21 4 (dk_at dksX12_isAhead_1 16 rfl rfl)
theorem dX12_isAhead_41 : decode cX12_isAhead 41 = .ok (.iaload, 1) := dk_46 (dk_at dksX12_isAhead_1 18 rfl rfl)
theorem dX12_isAhead_42 : decode cX12_isAhead 42 = .ok (.iload_n 3, 1) := dk_29 (dk_at dksX12_isAhead_1 19 rfl rfl)
theorem dX12_isAhead_43 : decode cX12_isAhead 43 = .ok (.iconst 1, 1) := dk_4 (dk_at dksX12_isAhead_1 20 rfl rfl)
theorem dX12_isAhead_44 : decode cX12_isAhead 44 = .ok (.isub, 1) := dk_100 (dk_at dksX12_isAhead_1 21 rfl rfl)
theorem dX12_isAhead_45 : decode cX12_isAhead 45 = .ok (.if_icmp .ne 20, 3) := dk_160 0 20 (dk_at dksX12_isAhead_2 0 rfl rfl)
theorem dX12_isAhead_48 : decode cX12_isAhead 48 = .ok (.aload_n 0, 1) := dk_42 (dk_at dksX12_isAhead_2 3 rfl rfl)
theorem dX12_isAhead_49 : decode cX12_isAhead 49 = .ok (.getfield 22, 3) := dk_180 0 22 (dk_at dksX12_isAhead_2 4 rfl rfl)
theorem dX12_isAhead_52 : decode cX12_isAhead 52 = .ok (.iload_n 1, 1) := dk_27 (dk_at dksX12_isAhead_2 7 rfl rfl)
theorem dX12_isAhead_53 : decode cX12_isAhead 53 = .ok (.iload 4, 2) := dk_21 4 (dk_at dksX12_isAhead_2 8 rfl rfl)
theorem dX12_isAhead_55 : decode cX12_isAhead 55 = .ok (.invokeinterface 40 3, 5) := by decide +kernel
theorem dX12_isAhead_60 : decode cX12_isAhead 60 = .ok (.ifCond .eq 5, 3) := dk_153 0 5 (dk_at dksX12_isAhead_2 15 rfl rfl)
theorem dX12_isAhead_63 : decode cX12_isAhead 63 = .ok (.iconst 1, 1) := dk_4 (dk_at dksX12_isAhead_2 18 rfl rfl)
theorem dX12_isAhead_64 : decode cX12_isAhead 64 = .ok (.ireturn, 1) := dk_172 (dk_at dksX12_isAhead_2 19 rfl rfl)
theorem dX12_isAhead_65 : decode cX12_isAhead 65 = .ok (.iinc 4 1, 3) := dk_132 4 1 (dk_at dksX12_isAhead_2 20 rfl rfl)
theorem dX12_isAhead_68 : decode cX12_isAhead 68 = .ok (.goto (-48), 3) := dk_167 255 208 (dk_at dksX12_isAhead_3 0 rfl rfl)
theorem dX12_isAhead_71 : decode cX12_isAhead 71 = .ok (.iconst 0, 1) := dk_3 (dk_at dksX12_isAhead_3 3 rfl rfl)
theorem dX12_isAhead_72 : decode cX12_isAhead 72 = .ok (.ireturn, 1) := dk_172 (dk_at dksX12_isAhead_3 4 rfl rfl)
abbrev cX12_nextTo : ByteArray := prog_3_method_6_code
def yX12_nextTo : MethodName := ⟨RX12, "nextTo", "(II)I"⟩
def dkwX12_nextTo_1 : List UInt8 := [154, 0, 9, 132, 3, 1, 167, 255, 229, 29, 172]
abbrev dktX12_nextTo_1 : List UInt8 := dkwX12_nextTo_1 ++ []
def dkwX12_nextTo_0 : List UInt8 := [3, 62, 42, 180, 0, 15, 29, 46, 28, 160, 0, 17, 42, 180, 0, 22, 27, 29, 185, 0, 40, 3, 0]
abbrev dktX12_nextTo_0 : List UInt8 := dkwX12_nextTo_0 ++ dktX12_nextTo_1
theorem dksX12_nextTo_0 : cX12_nextTo.data.toList.drop 0 = dktX12_nextTo_0 := by decide +kernel
theorem dksX12_nextTo_1 : cX12_nextTo.data.toList.drop 23 = dktX12_nextTo_1 := dk_seg dksX12_nextTo_0 23 rfl rfl
theorem dX12_nextTo_0 : decode cX12_nextTo 0 = .ok (.iconst 0, 1) := dk_3 (dk_at dksX12_nextTo_0 0 rfl rfl)
theorem dX12_nextTo_1 : decode cX12_nextTo 1 = .ok (.istore_n 3, 1) := dk_62 (dk_at dksX12_nextTo_0 1 rfl rfl)
theorem dX12_nextTo_2 : decode cX12_nextTo 2 = .ok (.aload_n 0, 1) := dk_42 (dk_at dksX12_nextTo_0 2 rfl rfl)
theorem dX12_nextTo_3 : decode cX12_nextTo 3 = .ok (.getfield 15, 3) := dk_180 0 15 (dk_at dksX12_nextTo_0 3 rfl rfl)
theorem dX12_nextTo_6 : decode cX12_nextTo 6 = .ok (.iload_n 3, 1) := dk_29 (dk_at dksX12_nextTo_0 6 rfl rfl)
theorem dX12_nextTo_7 : decode cX12_nextTo 7 = .ok (.iaload, 1) := dk_46 (dk_at dksX12_nextTo_0 7 rfl rfl)
theorem dX12_nextTo_8 : decode cX12_nextTo 8 = .ok (.iload_n 2, 1) := dk_28 (dk_at dksX12_nextTo_0 8 rfl rfl)
theorem dX12_nextTo_9 : decode cX12_nextTo 9 = .ok (.if_icmp .ne 17, 3) := dk_160 0 17 (dk_at dksX12_nextTo_0 9 rfl rfl)
theorem dX12_nextTo_12 : decode cX12_nextTo 12 = .ok (.aload_n 0, 1) := dk_42 (dk_at dksX12_nextTo_0 12 rfl rfl)
theorem dX12_nextTo_13 : decode cX12_nextTo 13 = .ok (.getfield 22, 3) := dk_180 0 22 (dk_at dksX12_nextTo_0 13 rfl rfl)
theorem dX12_nextTo_16 : decode cX12_nextTo 16 = .ok (.iload_n 1, 1) := dk_27 (dk_at dksX12_nextTo_0 16 rfl rfl)
theorem dX12_nextTo_17 : decode cX12_nextTo 17 = .ok (.iload_n 3, 1) := dk_29 (dk_at dksX12_nextTo_0 17 rfl rfl)
theorem dX12_nextTo_18 : decode cX12_nextTo 18 = .ok (.invokeinterface 40 3, 5) := by decide +kernel
theorem dX12_nextTo_23 : decode cX12_nextTo 23 = .ok (.ifCond .ne 9, 3) := dk_154 0 9 (dk_at dksX12_nextTo_1 0 rfl rfl)
theorem dX12_nextTo_26 : decode cX12_nextTo 26 = .ok (.iinc 3 1, 3) := dk_132 3 1 (dk_at dksX12_nextTo_1 3 rfl rfl)
theorem dX12_nextTo_29 : decode cX12_nextTo 29 = .ok (.goto (-27), 3) := dk_167 255 229 (dk_at dksX12_nextTo_1 6 rfl rfl)
theorem dX12_nextTo_32 : decode cX12_nextTo 32 = .ok (.iload_n 3, 1) := dk_29 (dk_at dksX12_nextTo_1 9 rfl rfl)
theorem dX12_nextTo_33 : decode cX12_nextTo 33 = .ok (.ireturn, 1) := dk_172 (dk_at dksX12_nextTo_1 10 rfl rfl)
theorem q125 : (Jvm.Cond.initialized "LosslessFabric$Cycle") ∈ lw_all := lw_g (lw_at lw_m1 25 rfl) rfl
theorem q158 : (Jvm.Cond.fieldLinkNest "LosslessFabric$Cycle" (30 : Nat) "LosslessFabric$Told" "linkMany" "I" "LosslessFabric") ∈ lw_tbl := lw_at lw_m1 58 rfl
theorem q396 : (Jvm.Cond.fieldLinkNest "LosslessFabric$Cycle" (26 : Nat) "LosslessFabric" "told" "LLosslessFabric$Told;" "LosslessFabric") ∈ lw_tbl := lw_at lw_m2 56 rfl
theorem q1047 : (Jvm.Cond.instantiable "LosslessFabric$Cycle" (5 : Nat)) ∈ lw_all := lw_g (lw_at lw_m4 227 rfl) rfl
theorem q1051 : (Jvm.Cond.instanceMethod ({ cls := "LosslessFabric$Cycle", name := "<init>", desc := "(LLosslessFabric;LLosslessFabric$Edge;)V" } : Jvm.MethodName)) ∈ lw_all := lw_g (lw_at lw_m4 231 rfl) rfl
theorem q1052 : (Jvm.Cond.code ({ cls := "LosslessFabric$Cycle", name := "<init>", desc := "(LLosslessFabric;LLosslessFabric$Edge;)V" } : Jvm.MethodName) prog_3_method_1_code (3 : Nat) (Option.none : Option Jvm.ClassFile.FieldType)) ∈ lw_all := lw_g (lw_at lw_m4 232 rfl) rfl
theorem q1053 : (Jvm.Cond.methodLink "LosslessFabric$Cycle" (9 : Nat) ({ cls := "java/lang/Object", name := "<init>", desc := "()V" } : Jvm.MethodName)) ∈ lw_all := lw_g (lw_at lw_m4 233 rfl) rfl
theorem q1054 : (Jvm.Cond.fieldLink "LosslessFabric$Cycle" (22 : Nat) "LosslessFabric$Cycle" "edge" "LLosslessFabric$Edge;") ∈ lw_all := lw_g (lw_at lw_m4 234 rfl) rfl
theorem q1055 : (Jvm.Cond.fieldLink "LosslessFabric$Cycle" (15 : Nat) "LosslessFabric$Cycle" "far" "[I") ∈ lw_all := lw_g (lw_at lw_m4 235 rfl) rfl
theorem q1056 : (Jvm.Cond.fieldLink "LosslessFabric$Cycle" (19 : Nat) "LosslessFabric$Cycle" "row" "[I") ∈ lw_all := lw_g (lw_at lw_m4 236 rfl) rfl
theorem q1058 : (Jvm.Cond.fieldLink "LosslessFabric$Cycle" (63 : Nat) "LosslessFabric$Cycle" "many" "I") ∈ lw_all := lw_g (lw_at lw_m4 238 rfl) rfl
theorem q1060 : (Jvm.Cond.fieldLink "LosslessFabric$Cycle" (3 : Nat) "LosslessFabric$Cycle" "this$0" "LLosslessFabric;") ∈ lw_all := lw_g (lw_at lw_m5 0 rfl) rfl
theorem q1061 : (Jvm.Cond.laysFinal "LosslessFabric$Cycle" "LosslessFabric$Cycle" "edge" "LLosslessFabric$Edge;") ∈ lw_all := lw_g (lw_at lw_m5 1 rfl) rfl
theorem q1062 : (Jvm.Cond.soleField "LosslessFabric$Cycle" "edge") ∈ lw_all := lw_g (lw_at lw_m5 2 rfl) rfl
theorem q1063 : (Jvm.Cond.laysFinal "LosslessFabric$Cycle" "LosslessFabric$Cycle" "far" "[I") ∈ lw_all := lw_g (lw_at lw_m5 3 rfl) rfl
theorem q1064 : (Jvm.Cond.soleField "LosslessFabric$Cycle" "far") ∈ lw_all := lw_g (lw_at lw_m5 4 rfl) rfl
theorem q1065 : (Jvm.Cond.laysFinal "LosslessFabric$Cycle" "LosslessFabric$Cycle" "row" "[I") ∈ lw_all := lw_g (lw_at lw_m5 5 rfl) rfl
theorem q1066 : (Jvm.Cond.soleField "LosslessFabric$Cycle" "row") ∈ lw_all := lw_g (lw_at lw_m5 6 rfl) rfl
theorem q1067 : (Jvm.Cond.lays "LosslessFabric$Cycle" "LosslessFabric$Cycle" "many" "I") ∈ lw_all := lw_g (lw_at lw_m5 7 rfl) rfl
theorem q1068 : (Jvm.Cond.soleField "LosslessFabric$Cycle" "many") ∈ lw_all := lw_g (lw_at lw_m5 8 rfl) rfl
theorem q1069 : (Jvm.Cond.laysFinal "LosslessFabric$Cycle" "LosslessFabric$Cycle" "this$0" "LLosslessFabric;") ∈ lw_all := lw_g (lw_at lw_m5 9 rfl) rfl
theorem q1070 : (Jvm.Cond.soleField "LosslessFabric$Cycle" "this$0") ∈ lw_all := lw_g (lw_at lw_m5 10 rfl) rfl
theorem q1071 : (Jvm.Cond.superclass "LosslessFabric$Cycle" "java/lang/Object") ∈ lw_all := lw_g (lw_at lw_m5 11 rfl) rfl
theorem q1073 : (Jvm.Cond.instanceMethod ({ cls := "LosslessFabric$Cycle", name := "first", desc := "()LLosslessFabric$Cycle;" } : Jvm.MethodName)) ∈ lw_all := lw_g (lw_at lw_m5 13 rfl) rfl
theorem q1074 : (Jvm.Cond.selects "LosslessFabric$Cycle" ({ cls := "LosslessFabric$Cycle", name := "first", desc := "()LLosslessFabric$Cycle;" } : Jvm.MethodName) ({ cls := "LosslessFabric$Cycle", name := "first", desc := "()LLosslessFabric$Cycle;" } : Jvm.MethodName)) ∈ lw_all := lw_g (lw_at lw_m5 14 rfl) rfl
theorem q1075 : (Jvm.Cond.code ({ cls := "LosslessFabric$Cycle", name := "first", desc := "()LLosslessFabric$Cycle;" } : Jvm.MethodName) prog_3_method_5_code (5 : Nat) (Option.some (Jvm.ClassFile.FieldType.object "LosslessFabric$Cycle"))) ∈ lw_all := lw_g (lw_at lw_m5 15 rfl) rfl
theorem q1076 : (Jvm.Cond.methodLink "LosslessFabric$Cycle" (53 : Nat) ({ cls := "LosslessFabric$Cycle", name := "inAny", desc := "()I" } : Jvm.MethodName)) ∈ lw_all := lw_g (lw_at lw_m5 16 rfl) rfl
theorem q1077 : (Jvm.Cond.instanceMethod ({ cls := "LosslessFabric$Cycle", name := "inAny", desc := "()I" } : Jvm.MethodName)) ∈ lw_all := lw_g (lw_at lw_m5 17 rfl) rfl
theorem q1078 : (Jvm.Cond.selects "LosslessFabric$Cycle" ({ cls := "LosslessFabric$Cycle", name := "inAny", desc := "()I" } : Jvm.MethodName) ({ cls := "LosslessFabric$Cycle", name := "inAny", desc := "()I" } : Jvm.MethodName)) ∈ lw_all := lw_g (lw_at lw_m5 18 rfl) rfl
theorem q1079 : (Jvm.Cond.code ({ cls := "LosslessFabric$Cycle", name := "inAny", desc := "()I" } : Jvm.MethodName) prog_3_method_4_code (3 : Nat) (Option.some Jvm.ClassFile.FieldType.int)) ∈ lw_all := lw_g (lw_at lw_m5 19 rfl) rfl
theorem q1080 : (Jvm.Cond.methodLink "LosslessFabric$Cycle" (46 : Nat) ({ cls := "LosslessFabric$Cycle", name := "laysTo", desc := "(I)V" } : Jvm.MethodName)) ∈ lw_all := lw_g (lw_at lw_m5 20 rfl) rfl
theorem q1081 : (Jvm.Cond.privateMethod ({ cls := "LosslessFabric$Cycle", name := "laysTo", desc := "(I)V" } : Jvm.MethodName)) ∈ lw_tbl := lw_at lw_m5 21 rfl
theorem q1082 : (Jvm.Cond.instanceMethod ({ cls := "LosslessFabric$Cycle", name := "laysTo", desc := "(I)V" } : Jvm.MethodName)) ∈ lw_all := lw_g (lw_at lw_m5 22 rfl) rfl
theorem q1083 : (Jvm.Cond.code ({ cls := "LosslessFabric$Cycle", name := "laysTo", desc := "(I)V" } : Jvm.MethodName) prog_3_method_2_code (4 : Nat) (Option.none : Option Jvm.ClassFile.FieldType)) ∈ lw_all := lw_g (lw_at lw_m5 23 rfl) rfl
theorem q1084 : (Jvm.Cond.methodLink "LosslessFabric$Cycle" (36 : Nat) ({ cls := "LosslessFabric$Cycle", name := "isAhead", desc := "(III)Z" } : Jvm.MethodName)) ∈ lw_all := lw_g (lw_at lw_m5 24 rfl) rfl
theorem q1085 : (Jvm.Cond.privateMethod ({ cls := "LosslessFabric$Cycle", name := "isAhead", desc := "(III)Z" } : Jvm.MethodName)) ∈ lw_tbl := lw_at lw_m5 25 rfl
theorem q1086 : (Jvm.Cond.instanceMethod ({ cls := "LosslessFabric$Cycle", name := "isAhead", desc := "(III)Z" } : Jvm.MethodName)) ∈ lw_all := lw_g (lw_at lw_m5 26 rfl) rfl
theorem q1087 : (Jvm.Cond.code ({ cls := "LosslessFabric$Cycle", name := "isAhead", desc := "(III)Z" } : Jvm.MethodName) prog_3_method_3_code (5 : Nat) (Option.some Jvm.ClassFile.FieldType.boolean)) ∈ lw_all := lw_g (lw_at lw_m5 27 rfl) rfl
theorem q1088 : (Jvm.Cond.interfaceEntry "LosslessFabric$Cycle" (40 : Nat)) ∈ lw_tbl := lw_at lw_m5 28 rfl
theorem q1089 : (Jvm.Cond.methodLink "LosslessFabric$Cycle" (40 : Nat) ({ cls := "LosslessFabric$Edge", name := "is", desc := "(II)Z" } : Jvm.MethodName)) ∈ lw_all := lw_g (lw_at lw_m5 29 rfl) rfl
theorem q1092 : (Jvm.Cond.fieldLinkNest "LosslessFabric$Cycle" (50 : Nat) "LosslessFabric" "BITS" "[I" "LosslessFabric") ∈ lw_tbl := lw_at lw_m5 32 rfl
theorem q1093 : (Jvm.Cond.methodLink "LosslessFabric$Cycle" (57 : Nat) ({ cls := "java/lang/Integer", name := "numberOfTrailingZeros", desc := "(I)I" } : Jvm.MethodName)) ∈ lw_all := lw_g (lw_at lw_m5 33 rfl) rfl
theorem q1097 : (Jvm.Cond.methodLink "LosslessFabric$Cycle" (66 : Nat) ({ cls := "LosslessFabric$Cycle", name := "nextTo", desc := "(II)I" } : Jvm.MethodName)) ∈ lw_all := lw_g (lw_at lw_m5 37 rfl) rfl
theorem q1098 : (Jvm.Cond.privateMethod ({ cls := "LosslessFabric$Cycle", name := "nextTo", desc := "(II)I" } : Jvm.MethodName)) ∈ lw_tbl := lw_at lw_m5 38 rfl
theorem q1099 : (Jvm.Cond.instanceMethod ({ cls := "LosslessFabric$Cycle", name := "nextTo", desc := "(II)I" } : Jvm.MethodName)) ∈ lw_all := lw_g (lw_at lw_m5 39 rfl) rfl
theorem q1100 : (Jvm.Cond.code ({ cls := "LosslessFabric$Cycle", name := "nextTo", desc := "(II)I" } : Jvm.MethodName) prog_3_method_6_code (4 : Nat) (Option.some Jvm.ClassFile.FieldType.int)) ∈ lw_all := lw_g (lw_at lw_m5 40 rfl) rfl
theorem q1937 : (Jvm.Cond.castable "LosslessFabric$Cycle" "java/lang/Object") ∈ lw_tbl := lw_at lw_m8 157 rfl
theorem in_X12 : ∀ w ∈ wsX120, w ∈ lw_all := lw_in wsX120 [1061, 1063, 1065, 1067, 1069] (by decide +kernel) (by decide +kernel)

/-! LosslessFabric$Fair -/
set_option maxRecDepth 100000
def RX13 : String := "LosslessFabric$Fair"
def TX13 : u_T := fun k => match k with
  | 0 => ("LosslessFabric$Fair", "up", "[J", true)
  | 1 => ("LosslessFabric$Fair", "down", "[J", true)
  | 2 => ("LosslessFabric$Fair", "done", "I", false)
  | 3 => ("LosslessFabric$Fair", "full", "I", false)
  | 4 => ("LosslessFabric$Fair", "upper", "J", false)
  | 5 => ("LosslessFabric$Fair", "lower", "J", false)
  | _ => ("LosslessFabric$Fair", "this$0", "LLosslessFabric;", true)
def tyX13 : Nat → FieldType := fun k => match k with
  | 0 => .array .long
  | 1 => .array .long
  | 2 => .int
  | 3 => .int
  | 4 => .long
  | 5 => .long
  | _ => .object "LosslessFabric"
abbrev wsX130 : List Cond := u_ws RX13 TX13 7
theorem nmX13 : ∀ a, a < 7 → ∀ b, b < 7 → a ≠ b → (TX13 a).2.1 ≠ (TX13 b).2.1 := by decide +kernel
theorem tyX13_ok : ∀ k, k < 7 → parseFieldDescriptor (TX13 k).2.2.1 = some (tyX13 k) := by decide +kernel
abbrev cX13_init : ByteArray := prog_7_method_1_code
def yX13_init : MethodName := ⟨RX13, "<init>", "(LLosslessFabric;)V"⟩
def dkwX13_init_4 : List UInt8 := [17, 0, 255, 159, 0, 10, 42, 182, 0, 55, 167, 255, 242, 177]
abbrev dktX13_init_4 : List UInt8 := dkwX13_init_4 ++ []
def dkwX13_init_3 : List UInt8 := [180, 0, 48, 178, 0, 51, 28, 46, 128, 181, 0, 48, 132, 2, 1, 167, 255, 200, 42, 180, 0, 48]
abbrev dktX13_init_3 : List UInt8 := dkwX13_init_3 ++ dktX13_init_4
def dkwX13_init_2 : List UInt8 := [180, 0, 26, 162, 0, 18, 43, 180, 0, 32, 180, 0, 36, 28, 50, 180, 0, 42, 154, 0, 17, 42, 89]
abbrev dktX13_init_2 : List UInt8 := dkwX13_init_2 ++ dktX13_init_3
def dkwX13_init_1 : List UInt8 := [181, 0, 19, 3, 61, 28, 16, 8, 162, 0, 56, 42, 180, 0, 19, 28, 10, 80, 28, 43, 180, 0, 22]
abbrev dktX13_init_1 : List UInt8 := dkwX13_init_1 ++ dktX13_init_2
def dkwX13_init_0 : List UInt8 := [42, 43, 181, 0, 3, 42, 183, 0, 9, 42, 16, 8, 188, 11, 181, 0, 15, 42, 16, 8, 188, 11]
abbrev dktX13_init_0 : List UInt8 := dkwX13_init_0 ++ dktX13_init_1
theorem dksX13_init_0 : cX13_init.data.toList.drop 0 = dktX13_init_0 := by decide +kernel
theorem dksX13_init_1 : cX13_init.data.toList.drop 22 = dktX13_init_1 := dk_seg dksX13_init_0 22 rfl rfl
theorem dksX13_init_2 : cX13_init.data.toList.drop 45 = dktX13_init_2 := dk_seg dksX13_init_1 23 rfl rfl
theorem dksX13_init_3 : cX13_init.data.toList.drop 68 = dktX13_init_3 := dk_seg dksX13_init_2 23 rfl rfl
theorem dksX13_init_4 : cX13_init.data.toList.drop 90 = dktX13_init_4 := dk_seg dksX13_init_3 22 rfl rfl
theorem dX13_init_0 : decode cX13_init 0 = .ok (.aload_n 0, 1) := dk_42 (dk_at dksX13_init_0 0 rfl rfl)
theorem dX13_init_1 : decode cX13_init 1 = .ok (.aload_n 1, 1) := dk_43 (dk_at dksX13_init_0 1 rfl rfl)
theorem dX13_init_2 : decode cX13_init 2 = .ok (.putfield 3, 3) := dk_181 0 3 (dk_at dksX13_init_0 2 rfl rfl)
theorem dX13_init_5 : decode cX13_init 5 = .ok (.aload_n 0, 1) := dk_42 (dk_at dksX13_init_0 5 rfl rfl)
theorem dX13_init_6 : decode cX13_init 6 = .ok (.invokespecial 9, 3) := dk_183 0 9 (dk_at dksX13_init_0 6 rfl rfl)
theorem dX13_init_9 : decode cX13_init 9 = .ok (.aload_n 0, 1) := dk_42 (dk_at dksX13_init_0 9 rfl rfl)
theorem dX13_init_10 : decode cX13_init 10 = .ok (.bipush 8, 2) := dk_16 8 (dk_at dksX13_init_0 10 rfl rfl)
theorem dX13_init_12 : decode cX13_init 12 = .ok (.newarray .long, 2) := dk_188_11 (dk_at dksX13_init_0 12 rfl rfl)
theorem dX13_init_14 : decode cX13_init 14 = .ok (.putfield 15, 3) := dk_181 0 15 (dk_at dksX13_init_0 14 rfl rfl)
theorem dX13_init_17 : decode cX13_init 17 = .ok (.aload_n 0, 1) := dk_42 (dk_at dksX13_init_0 17 rfl rfl)
theorem dX13_init_18 : decode cX13_init 18 = .ok (.bipush 8, 2) := dk_16 8 (dk_at dksX13_init_0 18 rfl rfl)
theorem dX13_init_20 : decode cX13_init 20 = .ok (.newarray .long, 2) := dk_188_11 (dk_at dksX13_init_0 20 rfl rfl)
theorem dX13_init_22 : decode cX13_init 22 = .ok (.putfield 19, 3) := dk_181 0 19 (dk_at dksX13_init_1 0 rfl rfl)
theorem dX13_init_25 : decode cX13_init 25 = .ok (.iconst 0, 1) := dk_3 (dk_at dksX13_init_1 3 rfl rfl)
theorem dX13_init_26 : decode cX13_init 26 = .ok (.istore_n 2, 1) := dk_61 (dk_at dksX13_init_1 4 rfl rfl)
theorem dX13_init_27 : decode cX13_init 27 = .ok (.iload_n 2, 1) := dk_28 (dk_at dksX13_init_1 5 rfl rfl)
theorem dX13_init_28 : decode cX13_init 28 = .ok (.bipush 8, 2) := dk_16 8 (dk_at dksX13_init_1 6 rfl rfl)
theorem dX13_init_30 : decode cX13_init 30 = .ok (.if_icmp .ge 56, 3) := dk_162 0 56 (dk_at dksX13_init_1 8 rfl rfl)
theorem dX13_init_33 : decode cX13_init 33 = .ok (.aload_n 0, 1) := dk_42 (dk_at dksX13_init_1 11 rfl rfl)
theorem dX13_init_34 : decode cX13_init 34 = .ok (.getfield 19, 3) := dk_180 0 19 (dk_at dksX13_init_1 12 rfl rfl)
theorem dX13_init_37 : decode cX13_init 37 = .ok (.iload_n 2, 1) := dk_28 (dk_at dksX13_init_1 15 rfl rfl)
theorem dX13_init_38 : decode cX13_init 38 = .ok (.lconst 1, 1) := dk_10 (dk_at dksX13_init_1 16 rfl rfl)
theorem dX13_init_39 : decode cX13_init 39 = .ok (.lastore, 1) := dk_80 (dk_at dksX13_init_1 17 rfl rfl)
theorem dX13_init_40 : decode cX13_init 40 = .ok (.iload_n 2, 1) := dk_28 (dk_at dksX13_init_1 18 rfl rfl)
theorem dX13_init_41 : decode cX13_init 41 = .ok (.aload_n 1, 1) := dk_43 (dk_at dksX13_init_1 19 rfl rfl)
theorem dX13_init_42 : decode cX13_init 42 = .ok (.getfield 22, 3) := dk_180 0 22 (dk_at dksX13_init_1 20 rfl rfl)
theorem dX13_init_45 : decode cX13_init 45 = .ok (.getfield 26, 3) := dk_180 0 26 (dk_at dksX13_init_2 0 rfl rfl)
theorem dX13_init_48 : decode cX13_init 48 = .ok (.if_icmp .ge 18, 3) := dk_162 0 18 (dk_at dksX13_init_2 3 rfl rfl)
theorem dX13_init_51 : decode cX13_init 51 = .ok (.aload_n 1, 1) := dk_43 (dk_at dksX13_init_2 6 rfl rfl)
theorem dX13_init_52 : decode cX13_init 52 = .ok (.getfield 32, 3) := dk_180 0 32 (dk_at dksX13_init_2 7 rfl rfl)
theorem dX13_init_55 : decode cX13_init 55 = .ok (.getfield 36, 3) := dk_180 0 36 (dk_at dksX13_init_2 10 rfl rfl)
theorem dX13_init_58 : decode cX13_init 58 = .ok (.iload_n 2, 1) := dk_28 (dk_at dksX13_init_2 13 rfl rfl)
theorem dX13_init_59 : decode cX13_init 59 = .ok (.aaload, 1) := dk_50 (dk_at dksX13_init_2 14 rfl rfl)
theorem dX13_init_60 : decode cX13_init 60 = .ok (.getfield 42, 3) := dk_180 0 42 (dk_at dksX13_init_2 15 rfl rfl)
theorem dX13_init_63 : decode cX13_init 63 = .ok (.ifCond .ne 17, 3) := dk_154 0 17 (dk_at dksX13_init_2 18 rfl rfl)
theorem dX13_init_66 : decode cX13_init 66 = .ok (.aload_n 0, 1) := dk_42 (dk_at dksX13_init_2 21 rfl rfl)
theorem dX13_init_67 : decode cX13_init 67 = .ok (.dup, 1) := dk_89 (dk_at dksX13_init_2 22 rfl rfl)
theorem dX13_init_68 : decode cX13_init 68 = .ok (.getfield 48, 3) := dk_180 0 48 (dk_at dksX13_init_3 0 rfl rfl)
theorem dX13_init_71 : decode cX13_init 71 = .ok (.getstatic 51, 3) := dk_178 0 51 (dk_at dksX13_init_3 3 rfl rfl)
theorem dX13_init_74 : decode cX13_init 74 = .ok (.iload_n 2, 1) := dk_28 (dk_at dksX13_init_3 6 rfl rfl)
theorem dX13_init_75 : decode cX13_init 75 = .ok (.iaload, 1) := dk_46 (dk_at dksX13_init_3 7 rfl rfl)
theorem dX13_init_76 : decode cX13_init 76 = .ok (.ior, 1) := dk_128 (dk_at dksX13_init_3 8 rfl rfl)
theorem dX13_init_77 : decode cX13_init 77 = .ok (.putfield 48, 3) := dk_181 0 48 (dk_at dksX13_init_3 9 rfl rfl)
theorem dX13_init_80 : decode cX13_init 80 = .ok (.iinc 2 1, 3) := dk_132 2 1 (dk_at dksX13_init_3 12 rfl rfl)
theorem dX13_init_83 : decode cX13_init 83 = .ok (.goto (-56), 3) := dk_167 255 200 (dk_at dksX13_init_3 15 rfl rfl)
theorem dX13_init_86 : decode cX13_init 86 = .ok (.aload_n 0, 1) := dk_42 (dk_at dksX13_init_3 18 rfl rfl)
theorem dX13_init_87 : decode cX13_init 87 = .ok (.getfield 48, 3) := dk_180 0 48 (dk_at dksX13_init_3 19 rfl rfl)
theorem dX13_init_90 : decode cX13_init 90 = .ok (.sipush 255, 3) := dk_17 0 255 (dk_at dksX13_init_4 0 rfl rfl)
theorem dX13_init_93 : decode cX13_init 93 = .ok (.if_icmp .eq 10, 3) := dk_159 0 10 (dk_at dksX13_init_4 3 rfl rfl)
theorem dX13_init_96 : decode cX13_init 96 = .ok (.aload_n 0, 1) := dk_42 (dk_at dksX13_init_4 6 rfl rfl)
theorem dX13_init_97 : decode cX13_init 97 = .ok (.invokevirtual 55, 3) := dk_182 0 55 (dk_at dksX13_init_4 7 rfl rfl)
theorem dX13_init_100 : decode cX13_init 100 = .ok (.goto (-14), 3) := dk_167 255 242 (dk_at dksX13_init_4 10 rfl rfl)
theorem dX13_init_103 : decode cX13_init 103 = .ok (.return_, 1) := dk_177 (dk_at dksX13_init_4 13 rfl rfl)
abbrev cX13_grows : ByteArray := prog_7_method_5_code
def yX13_grows : MethodName := ⟨RX13, "grows", "()V"⟩
def dkwX13_grows_7 : List UInt8 := [181, 0, 48, 132, 8, 1, 167, 255, 175, 177]
abbrev dktX13_grows_7 : List UInt8 := dkwX13_grows_7 ++ []
def dkwX13_grows_6 : List UInt8 := [42, 180, 0, 19, 21, 8, 22, 4, 22, 6, 109, 80, 42, 89, 180, 0, 48, 178, 0, 51, 21, 8, 46, 128]
abbrev dktX13_grows_6 : List UInt8 := dkwX13_grows_6 ++ dktX13_grows_7
def dkwX13_grows_5 : List UInt8 := [42, 21, 8, 27, 182, 0, 84, 154, 0, 6, 167, 0, 41, 42, 180, 0, 15, 21, 8, 32, 22, 6, 109, 80]
abbrev dktX13_grows_5 : List UInt8 := dkwX13_grows_5 ++ dktX13_grows_6
def dkwX13_grows_4 : List UInt8 := [180, 0, 3, 180, 0, 22, 180, 0, 26, 162, 0, 72, 42, 180, 0, 48, 21, 8, 184, 0, 88, 154, 0, 54]
abbrev dktX13_grows_4 : List UInt8 := dkwX13_grows_4 ++ dktX13_grows_5
def dkwX13_grows_3 : List UInt8 := [55, 4, 132, 6, 1, 167, 255, 191, 22, 4, 32, 184, 0, 101, 55, 6, 3, 54, 8, 21, 8, 42]
abbrev dktX13_grows_3 : List UInt8 := dkwX13_grows_3 ++ dktX13_grows_4
def dkwX13_grows_2 : List UInt8 := [42, 180, 0, 81, 105, 148, 155, 0, 6, 167, 0, 17, 21, 6, 60, 42, 180, 0, 77, 65, 42, 180, 0, 81]
abbrev dktX13_grows_2 : List UInt8 := dkwX13_grows_2 ++ dktX13_grows_3
def dkwX13_grows_1 : List UInt8 := [162, 0, 56, 42, 21, 6, 182, 0, 108, 153, 0, 41, 27, 155, 0, 23, 42, 180, 0, 77, 22, 4, 105, 32]
abbrev dktX13_grows_1 : List UInt8 := dkwX13_grows_1 ++ dktX13_grows_2
def dkwX13_grows_0 : List UInt8 := [2, 60, 9, 65, 10, 55, 4, 3, 54, 6, 21, 6, 42, 180, 0, 3, 180, 0, 22, 180, 0, 105]
abbrev dktX13_grows_0 : List UInt8 := dkwX13_grows_0 ++ dktX13_grows_1
theorem dksX13_grows_0 : cX13_grows.data.toList.drop 0 = dktX13_grows_0 := by decide +kernel
theorem dksX13_grows_1 : cX13_grows.data.toList.drop 22 = dktX13_grows_1 := dk_seg dksX13_grows_0 22 rfl rfl
theorem dksX13_grows_2 : cX13_grows.data.toList.drop 46 = dktX13_grows_2 := dk_seg dksX13_grows_1 24 rfl rfl
theorem dksX13_grows_3 : cX13_grows.data.toList.drop 70 = dktX13_grows_3 := dk_seg dksX13_grows_2 24 rfl rfl
theorem dksX13_grows_4 : cX13_grows.data.toList.drop 92 = dktX13_grows_4 := dk_seg dksX13_grows_3 22 rfl rfl
theorem dksX13_grows_5 : cX13_grows.data.toList.drop 116 = dktX13_grows_5 := dk_seg dksX13_grows_4 24 rfl rfl
theorem dksX13_grows_6 : cX13_grows.data.toList.drop 140 = dktX13_grows_6 := dk_seg dksX13_grows_5 24 rfl rfl
theorem dksX13_grows_7 : cX13_grows.data.toList.drop 164 = dktX13_grows_7 := dk_seg dksX13_grows_6 24 rfl rfl
theorem dX13_grows_0 : decode cX13_grows 0 = .ok (.iconst (-1), 1) := dk_2 (dk_at dksX13_grows_0 0 rfl rfl)
theorem dX13_grows_1 : decode cX13_grows 1 = .ok (.istore_n 1, 1) := dk_60 (dk_at dksX13_grows_0 1 rfl rfl)
theorem dX13_grows_2 : decode cX13_grows 2 = .ok (.lconst 0, 1) := dk_9 (dk_at dksX13_grows_0 2 rfl rfl)
theorem dX13_grows_3 : decode cX13_grows 3 = .ok (.lstore_n 2, 1) := dk_65 (dk_at dksX13_grows_0 3 rfl rfl)
theorem dX13_grows_4 : decode cX13_grows 4 = .ok (.lconst 1, 1) := dk_10 (dk_at dksX13_grows_0 4 rfl rfl)
theorem dX13_grows_5 : decode cX13_grows 5 = .ok (.lstore 4, 2) := dk_55 4 (dk_at dksX13_grows_0 5 rfl rfl)
theorem dX13_grows_7 : decode cX13_grows 7 = .ok (.iconst 0, 1) := dk_3 (dk_at dksX13_grows_0 7 rfl rfl)
theorem dX13_grows_8 : decode cX13_grows 8 = .ok (.istore 6, 2) := dk_54 6 (dk_at dksX13_grows_0 8 rfl rfl)
theorem dX13_grows_10 : decode cX13_grows 10 = .ok (.iload 6, 2) := dk_21 6 (dk_at dksX13_grows_0 10 rfl rfl)
theorem dX13_grows_12 : decode cX13_grows 12 = .ok (.aload_n 0, 1) := dk_42 (dk_at dksX13_grows_0 12 rfl rfl)
theorem dX13_grows_13 : decode cX13_grows 13 = .ok (.getfield 3, 3) := dk_180 0 3 (dk_at dksX13_grows_0 13 rfl rfl)
theorem dX13_grows_16 : decode cX13_grows 16 = .ok (.getfield 22, 3) := dk_180 0 22 (dk_at dksX13_grows_0 16 rfl rfl)
theorem dX13_grows_19 : decode cX13_grows 19 = .ok (.getfield 105, 3) := dk_180 0 105 (dk_at dksX13_grows_0 19 rfl rfl)
theorem dX13_grows_22 : decode cX13_grows 22 = .ok (.if_icmp .ge 56, 3) := dk_162 0 56 (dk_at dksX13_grows_1 0 rfl rfl)
theorem dX13_grows_25 : decode cX13_grows 25 = .ok (.aload_n 0, 1) := dk_42 (dk_at dksX13_grows_1 3 rfl rfl)
theorem dX13_grows_26 : decode cX13_grows 26 = .ok (.iload 6, 2) := dk_21 6 (dk_at dksX13_grows_1 4 rfl rfl)
theorem dX13_grows_28 : decode cX13_grows 28 = .ok (.invokevirtual 108, 3) := dk_182 0 108 (dk_at dksX13_grows_1 6 rfl rfl)
theorem dX13_grows_31 : decode cX13_grows 31 = .ok (.ifCond .eq 41, 3) := dk_153 0 41 (dk_at dksX13_grows_1 9 rfl rfl)
theorem dX13_grows_34 : decode cX13_grows 34 = .ok (.iload_n 1, 1) := dk_27 (dk_at dksX13_grows_1 12 rfl rfl)
theorem dX13_grows_35 : decode cX13_grows 35 = .ok (.ifCond .lt 23, 3) := dk_155 0 23 (dk_at dksX13_grows_1 13 rfl rfl)
theorem dX13_grows_38 : decode cX13_grows 38 = .ok (.aload_n 0, 1) := dk_42 (dk_at dksX13_grows_1 16 rfl rfl)
theorem dX13_grows_39 : decode cX13_grows 39 = .ok (.getfield 77, 3) := dk_180 0 77 (dk_at dksX13_grows_1 17 rfl rfl)
theorem dX13_grows_42 : decode cX13_grows 42 = .ok (.lload 4, 2) := dk_22 4 (dk_at dksX13_grows_1 20 rfl rfl)
theorem dX13_grows_44 : decode cX13_grows 44 = .ok (.lmul, 1) := dk_105 (dk_at dksX13_grows_1 22 rfl rfl)
theorem dX13_grows_45 : decode cX13_grows 45 = .ok (.lload_n 2, 1) := dk_32 (dk_at dksX13_grows_1 23 rfl rfl)
theorem dX13_grows_46 : decode cX13_grows 46 = .ok (.aload_n 0, 1) := dk_42 (dk_at dksX13_grows_2 0 rfl rfl)
theorem dX13_grows_47 : decode cX13_grows 47 = .ok (.getfield 81, 3) := dk_180 0 81 (dk_at dksX13_grows_2 1 rfl rfl)
theorem dX13_grows_50 : decode cX13_grows 50 = .ok (.lmul, 1) := dk_105 (dk_at dksX13_grows_2 4 rfl rfl)
theorem dX13_grows_51 : decode cX13_grows 51 = .ok (.lcmp, 1) := dk_148 (dk_at dksX13_grows_2 5 rfl rfl)
theorem dX13_grows_52 : decode cX13_grows 52 = .ok (.ifCond .lt 6, 3) := dk_155 0 6 (dk_at dksX13_grows_2 6 rfl rfl)
theorem dX13_grows_55 : decode cX13_grows 55 = .ok (.goto 17, 3) := dk_167 0 17 (dk_at dksX13_grows_2 9 rfl rfl)
theorem dX13_grows_58 : decode cX13_grows 58 = .ok (.iload 6, 2) := dk_21 6 (dk_at dksX13_grows_2 12 rfl rfl)
theorem dX13_grows_60 : decode cX13_grows 60 = .ok (.istore_n 1, 1) := dk_60 (dk_at dksX13_grows_2 14 rfl rfl)
theorem dX13_grows_61 : decode cX13_grows 61 = .ok (.aload_n 0, 1) := dk_42 (dk_at dksX13_grows_2 15 rfl rfl)
theorem dX13_grows_62 : decode cX13_grows 62 = .ok (.getfield 77, 3) := dk_180 0 77 (dk_at dksX13_grows_2 16 rfl rfl)
theorem dX13_grows_65 : decode cX13_grows 65 = .ok (.lstore_n 2, 1) := dk_65 (dk_at dksX13_grows_2 19 rfl rfl)
theorem dX13_grows_66 : decode cX13_grows 66 = .ok (.aload_n 0, 1) := dk_42 (dk_at dksX13_grows_2 20 rfl rfl)
theorem dX13_grows_67 : decode cX13_grows 67 = .ok (.getfield 81, 3) := dk_180 0 81 (dk_at dksX13_grows_2 21 rfl rfl)
theorem dX13_grows_70 : decode cX13_grows 70 = .ok (.lstore 4, 2) := dk_55 4 (dk_at dksX13_grows_3 0 rfl rfl)
theorem dX13_grows_72 : decode cX13_grows 72 = .ok (.iinc 6 1, 3) := dk_132 6 1 (dk_at dksX13_grows_3 2 rfl rfl)
theorem dX13_grows_75 : decode cX13_grows 75 = .ok (.goto (-65), 3) := dk_167 255 191 (dk_at dksX13_grows_3 5 rfl rfl)
theorem dX13_grows_78 : decode cX13_grows 78 = .ok (.lload 4, 2) := dk_22 4 (dk_at dksX13_grows_3 8 rfl rfl)
theorem dX13_grows_80 : decode cX13_grows 80 = .ok (.lload_n 2, 1) := dk_32 (dk_at dksX13_grows_3 10 rfl rfl)
theorem dX13_grows_81 : decode cX13_grows 81 = .ok (.invokestatic 101, 3) := dk_184 0 101 (dk_at dksX13_grows_3 11 rfl rfl)
theorem dX13_grows_84 : decode cX13_grows 84 = .ok (.lstore 6, 2) := dk_55 6 (dk_at dksX13_grows_3 14 rfl rfl)
theorem dX13_grows_86 : decode cX13_grows 86 = .ok (.iconst 0, 1) := dk_3 (dk_at dksX13_grows_3 16 rfl rfl)
theorem dX13_grows_87 : decode cX13_grows 87 = .ok (.istore 8, 2) := dk_54 8 (dk_at dksX13_grows_3 17 rfl rfl)
theorem dX13_grows_89 : decode cX13_grows 89 = .ok (.iload 8, 2) := dk_21 8 (dk_at dksX13_grows_3 19 rfl rfl)
theorem dX13_grows_91 : decode cX13_grows 91 = .ok (.aload_n 0, 1) := dk_42 (dk_at dksX13_grows_3 21 rfl rfl)
theorem dX13_grows_92 : decode cX13_grows 92 = .ok (.getfield 3, 3) := dk_180 0 3 (dk_at dksX13_grows_4 0 rfl rfl)
theorem dX13_grows_95 : decode cX13_grows 95 = .ok (.getfield 22, 3) := dk_180 0 22 (dk_at dksX13_grows_4 3 rfl rfl)
theorem dX13_grows_98 : decode cX13_grows 98 = .ok (.getfield 26, 3) := dk_180 0 26 (dk_at dksX13_grows_4 6 rfl rfl)
theorem dX13_grows_101 : decode cX13_grows 101 = .ok (.if_icmp .ge 72, 3) := dk_162 0 72 (dk_at dksX13_grows_4 9 rfl rfl)
theorem dX13_grows_104 : decode cX13_grows 104 = .ok (.aload_n 0, 1) := dk_42 (dk_at dksX13_grows_4 12 rfl rfl)
theorem dX13_grows_105 : decode cX13_grows 105 = .ok (.getfield 48, 3) := dk_180 0 48 (dk_at dksX13_grows_4 13 rfl rfl)
theorem dX13_grows_108 : decode cX13_grows 108 = .ok (.iload 8, 2) := dk_21 8 (dk_at dksX13_grows_4 16 rfl rfl)
theorem dX13_grows_110 : decode cX13_grows 110 = .ok (.invokestatic 88, 3) := dk_184 0 88 (dk_at dksX13_grows_4 18 rfl rfl)
theorem dX13_grows_113 : decode cX13_grows 113 = .ok (.ifCond .ne 54, 3) := dk_154 0 54 (dk_at dksX13_grows_4 21 rfl rfl)
theorem dX13_grows_116 : decode cX13_grows 116 = .ok (.aload_n 0, 1) := dk_42 (dk_at dksX13_grows_5 0 rfl rfl)
theorem dX13_grows_117 : decode cX13_grows 117 = .ok (.iload 8, 2) := dk_21 8 (dk_at dksX13_grows_5 1 rfl rfl)
theorem dX13_grows_119 : decode cX13_grows 119 = .ok (.iload_n 1, 1) := dk_27 (dk_at dksX13_grows_5 3 rfl rfl)
theorem dX13_grows_120 : decode cX13_grows 120 = .ok (.invokevirtual 84, 3) := dk_182 0 84 (dk_at dksX13_grows_5 4 rfl rfl)
theorem dX13_grows_123 : decode cX13_grows 123 = .ok (.ifCond .ne 6, 3) := dk_154 0 6 (dk_at dksX13_grows_5 7 rfl rfl)
theorem dX13_grows_126 : decode cX13_grows 126 = .ok (.goto 41, 3) := dk_167 0 41 (dk_at dksX13_grows_5 10 rfl rfl)
theorem dX13_grows_129 : decode cX13_grows 129 = .ok (.aload_n 0, 1) := dk_42 (dk_at dksX13_grows_5 13 rfl rfl)
theorem dX13_grows_130 : decode cX13_grows 130 = .ok (.getfield 15, 3) := dk_180 0 15 (dk_at dksX13_grows_5 14 rfl rfl)
theorem dX13_grows_133 : decode cX13_grows 133 = .ok (.iload 8, 2) := dk_21 8 (dk_at dksX13_grows_5 17 rfl rfl)
theorem dX13_grows_135 : decode cX13_grows 135 = .ok (.lload_n 2, 1) := dk_32 (dk_at dksX13_grows_5 19 rfl rfl)
theorem dX13_grows_136 : decode cX13_grows 136 = .ok (.lload 6, 2) := dk_22 6 (dk_at dksX13_grows_5 20 rfl rfl)
theorem dX13_grows_138 : decode cX13_grows 138 = .ok (.ldiv, 1) := dk_109 (dk_at dksX13_grows_5 22 rfl rfl)
theorem dX13_grows_139 : decode cX13_grows 139 = .ok (.lastore, 1) := dk_80 (dk_at dksX13_grows_5 23 rfl rfl)
theorem dX13_grows_140 : decode cX13_grows 140 = .ok (.aload_n 0, 1) := dk_42 (dk_at dksX13_grows_6 0 rfl rfl)
theorem dX13_grows_141 : decode cX13_grows 141 = .ok (.getfield 19, 3) := dk_180 0 19 (dk_at dksX13_grows_6 1 rfl rfl)
theorem dX13_grows_144 : decode cX13_grows 144 = .ok (.iload 8, 2) := dk_21 8 (dk_at dksX13_grows_6 4 rfl rfl)
theorem dX13_grows_146 : decode cX13_grows 146 = .ok (.lload 4, 2) := dk_22 4 (dk_at dksX13_grows_6 6 rfl rfl)
theorem dX13_grows_148 : decode cX13_grows 148 = .ok (.lload 6, 2) := dk_22 6 (dk_at dksX13_grows_6 8 rfl rfl)
theorem dX13_grows_150 : decode cX13_grows 150 = .ok (.ldiv, 1) := dk_109 (dk_at dksX13_grows_6 10 rfl rfl)
theorem dX13_grows_151 : decode cX13_grows 151 = .ok (.lastore, 1) := dk_80 (dk_at dksX13_grows_6 11 rfl rfl)
theorem dX13_grows_152 : decode cX13_grows 152 = .ok (.aload_n 0, 1) := dk_42 (dk_at dksX13_grows_6 12 rfl rfl)
theorem dX13_grows_153 : decode cX13_grows 153 = .ok (.dup, 1) := dk_89 (dk_at dksX13_grows_6 13 rfl rfl)
theorem dX13_grows_154 : decode cX13_grows 154 = .ok (.getfield 48, 3) := dk_180 0 48 (dk_at dksX13_grows_6 14 rfl rfl)
theorem dX13_grows_157 : decode cX13_grows 157 = .ok (.getstatic 51, 3) := dk_178 0 51 (dk_at dksX13_grows_6 17 rfl rfl)
theorem dX13_grows_160 : decode cX13_grows 160 = .ok (.iload 8, 2) := dk_21 8 (dk_at dksX13_grows_6 20 rfl rfl)
theorem dX13_grows_162 : decode cX13_grows 162 = .ok (.iaload, 1) := dk_46 (dk_at dksX13_grows_6 22 rfl rfl)
theorem dX13_grows_163 : decode cX13_grows 163 = .ok (.ior, 1) := dk_128 (dk_at dksX13_grows_6 23 rfl rfl)
theorem dX13_grows_164 : decode cX13_grows 164 = .ok (.putfield 48, 3) := dk_181 0 48 (dk_at dksX13_grows_7 0 rfl rfl)
theorem dX13_grows_167 : decode cX13_grows 167 = .ok (.iinc 8 1, 3) := dk_132 8 1 (dk_at dksX13_grows_7 3 rfl rfl)
theorem dX13_grows_170 : decode cX13_grows 170 = .ok (.goto (-81), 3) := dk_167 255 175 (dk_at dksX13_grows_7 6 rfl rfl)
theorem dX13_grows_173 : decode cX13_grows 173 = .ok (.return_, 1) := dk_177 (dk_at dksX13_grows_7 9 rfl rfl)
abbrev cX13_lays : ByteArray := prog_7_method_3_code
def yX13_lays : MethodName := ⟨RX13, "lays", "(I)Z"⟩
def dkwX13_lays_5 : List UInt8 := [180, 0, 81, 4, 28, 184, 0, 95, 133, 105, 181, 0, 81, 28, 158, 0, 7, 4, 167, 0, 4, 3, 172]
abbrev dktX13_lays_5 : List UInt8 := dkwX13_lays_5 ++ []
def dkwX13_lays_4 : List UInt8 := [180, 0, 15, 29, 47, 42, 180, 0, 19, 29, 47, 182, 0, 91, 132, 3, 1, 167, 255, 176, 42, 89]
abbrev dktX13_lays_4 : List UInt8 := dkwX13_lays_4 ++ dktX13_lays_5
def dkwX13_lays_3 : List UInt8 := [167, 0, 36, 42, 180, 0, 48, 29, 184, 0, 88, 154, 0, 9, 132, 2, 1, 167, 0, 19, 42, 42]
abbrev dktX13_lays_3 : List UInt8 := dkwX13_lays_3 ++ dktX13_lays_4
def dkwX13_lays_2 : List UInt8 := [182, 0, 84, 153, 0, 57, 42, 180, 0, 3, 180, 0, 32, 180, 0, 36, 29, 50, 180, 0, 42, 154, 0, 6]
abbrev dktX13_lays_2 : List UInt8 := dkwX13_lays_2 ++ dktX13_lays_3
def dkwX13_lays_1 : List UInt8 := [181, 0, 81, 3, 62, 29, 42, 180, 0, 3, 180, 0, 22, 180, 0, 26, 162, 0, 72, 42, 29, 27]
abbrev dktX13_lays_1 : List UInt8 := dkwX13_lays_1 ++ dktX13_lays_2
def dkwX13_lays_0 : List UInt8 := [3, 61, 42, 42, 180, 0, 3, 180, 0, 22, 180, 0, 68, 27, 50, 180, 0, 72, 133, 181, 0, 77, 42, 10]
abbrev dktX13_lays_0 : List UInt8 := dkwX13_lays_0 ++ dktX13_lays_1
theorem dksX13_lays_0 : cX13_lays.data.toList.drop 0 = dktX13_lays_0 := by decide +kernel
theorem dksX13_lays_1 : cX13_lays.data.toList.drop 24 = dktX13_lays_1 := dk_seg dksX13_lays_0 24 rfl rfl
theorem dksX13_lays_2 : cX13_lays.data.toList.drop 46 = dktX13_lays_2 := dk_seg dksX13_lays_1 22 rfl rfl
theorem dksX13_lays_3 : cX13_lays.data.toList.drop 70 = dktX13_lays_3 := dk_seg dksX13_lays_2 24 rfl rfl
theorem dksX13_lays_4 : cX13_lays.data.toList.drop 92 = dktX13_lays_4 := dk_seg dksX13_lays_3 22 rfl rfl
theorem dksX13_lays_5 : cX13_lays.data.toList.drop 114 = dktX13_lays_5 := dk_seg dksX13_lays_4 22 rfl rfl
theorem dX13_lays_0 : decode cX13_lays 0 = .ok (.iconst 0, 1) := dk_3 (dk_at dksX13_lays_0 0 rfl rfl)
theorem dX13_lays_1 : decode cX13_lays 1 = .ok (.istore_n 2, 1) := dk_61 (dk_at dksX13_lays_0 1 rfl rfl)
theorem dX13_lays_2 : decode cX13_lays 2 = .ok (.aload_n 0, 1) := dk_42 (dk_at dksX13_lays_0 2 rfl rfl)
theorem dX13_lays_3 : decode cX13_lays 3 = .ok (.aload_n 0, 1) := dk_42 (dk_at dksX13_lays_0 3 rfl rfl)
theorem dX13_lays_4 : decode cX13_lays 4 = .ok (.getfield 3, 3) := dk_180 0 3 (dk_at dksX13_lays_0 4 rfl rfl)
theorem dX13_lays_7 : decode cX13_lays 7 = .ok (.getfield 22, 3) := dk_180 0 22 (dk_at dksX13_lays_0 7 rfl rfl)
theorem dX13_lays_10 : decode cX13_lays 10 = .ok (.getfield 68, 3) := dk_180 0 68 (dk_at dksX13_lays_0 10 rfl rfl)
theorem dX13_lays_13 : decode cX13_lays 13 = .ok (.iload_n 1, 1) := dk_27 (dk_at dksX13_lays_0 13 rfl rfl)
theorem dX13_lays_14 : decode cX13_lays 14 = .ok (.aaload, 1) := dk_50 (dk_at dksX13_lays_0 14 rfl rfl)
theorem dX13_lays_15 : decode cX13_lays 15 = .ok (.getfield 72, 3) := dk_180 0 72 (dk_at dksX13_lays_0 15 rfl rfl)
theorem dX13_lays_18 : decode cX13_lays 18 = .ok (.i2l, 1) := dk_133 (dk_at dksX13_lays_0 18 rfl rfl)
theorem dX13_lays_19 : decode cX13_lays 19 = .ok (.putfield 77, 3) := dk_181 0 77 (dk_at dksX13_lays_0 19 rfl rfl)
theorem dX13_lays_22 : decode cX13_lays 22 = .ok (.aload_n 0, 1) := dk_42 (dk_at dksX13_lays_0 22 rfl rfl)
theorem dX13_lays_23 : decode cX13_lays 23 = .ok (.lconst 1, 1) := dk_10 (dk_at dksX13_lays_0 23 rfl rfl)
theorem dX13_lays_24 : decode cX13_lays 24 = .ok (.putfield 81, 3) := dk_181 0 81 (dk_at dksX13_lays_1 0 rfl rfl)
theorem dX13_lays_27 : decode cX13_lays 27 = .ok (.iconst 0, 1) := dk_3 (dk_at dksX13_lays_1 3 rfl rfl)
theorem dX13_lays_28 : decode cX13_lays 28 = .ok (.istore_n 3, 1) := dk_62 (dk_at dksX13_lays_1 4 rfl rfl)
theorem dX13_lays_29 : decode cX13_lays 29 = .ok (.iload_n 3, 1) := dk_29 (dk_at dksX13_lays_1 5 rfl rfl)
theorem dX13_lays_30 : decode cX13_lays 30 = .ok (.aload_n 0, 1) := dk_42 (dk_at dksX13_lays_1 6 rfl rfl)
theorem dX13_lays_31 : decode cX13_lays 31 = .ok (.getfield 3, 3) := dk_180 0 3 (dk_at dksX13_lays_1 7 rfl rfl)
theorem dX13_lays_34 : decode cX13_lays 34 = .ok (.getfield 22, 3) := dk_180 0 22 (dk_at dksX13_lays_1 10 rfl rfl)
theorem dX13_lays_37 : decode cX13_lays 37 = .ok (.getfield 26, 3) := dk_180 0 26 (dk_at dksX13_lays_1 13 rfl rfl)
theorem dX13_lays_40 : decode cX13_lays 40 = .ok (.if_icmp .ge 72, 3) := dk_162 0 72 (dk_at dksX13_lays_1 16 rfl rfl)
theorem dX13_lays_43 : decode cX13_lays 43 = .ok (.aload_n 0, 1) := dk_42 (dk_at dksX13_lays_1 19 rfl rfl)
theorem dX13_lays_44 : decode cX13_lays 44 = .ok (.iload_n 3, 1) := dk_29 (dk_at dksX13_lays_1 20 rfl rfl)
theorem dX13_lays_45 : decode cX13_lays 45 = .ok (.iload_n 1, 1) := dk_27 (dk_at dksX13_lays_1 21 rfl rfl)
theorem dX13_lays_46 : decode cX13_lays 46 = .ok (.invokevirtual 84, 3) := dk_182 0 84 (dk_at dksX13_lays_2 0 rfl rfl)
theorem dX13_lays_49 : decode cX13_lays 49 = .ok (.ifCond .eq 57, 3) := dk_153 0 57 (dk_at dksX13_lays_2 3 rfl rfl)
theorem dX13_lays_52 : decode cX13_lays 52 = .ok (.aload_n 0, 1) := dk_42 (dk_at dksX13_lays_2 6 rfl rfl)
theorem dX13_lays_53 : decode cX13_lays 53 = .ok (.getfield 3, 3) := dk_180 0 3 (dk_at dksX13_lays_2 7 rfl rfl)
theorem dX13_lays_56 : decode cX13_lays 56 = .ok (.getfield 32, 3) := dk_180 0 32 (dk_at dksX13_lays_2 10 rfl rfl)
theorem dX13_lays_59 : decode cX13_lays 59 = .ok (.getfield 36, 3) := dk_180 0 36 (dk_at dksX13_lays_2 13 rfl rfl)
theorem dX13_lays_62 : decode cX13_lays 62 = .ok (.iload_n 3, 1) := dk_29 (dk_at dksX13_lays_2 16 rfl rfl)
theorem dX13_lays_63 : decode cX13_lays 63 = .ok (.aaload, 1) := dk_50 (dk_at dksX13_lays_2 17 rfl rfl)
theorem dX13_lays_64 : decode cX13_lays 64 = .ok (.getfield 42, 3) := dk_180 0 42 (dk_at dksX13_lays_2 18 rfl rfl)
theorem dX13_lays_67 : decode cX13_lays 67 = .ok (.ifCond .ne 6, 3) := dk_154 0 6 (dk_at dksX13_lays_2 21 rfl rfl)
theorem dX13_lays_70 : decode cX13_lays 70 = .ok (.goto 36, 3) := dk_167 0 36 (dk_at dksX13_lays_3 0 rfl rfl)
theorem dX13_lays_73 : decode cX13_lays 73 = .ok (.aload_n 0, 1) := dk_42 (dk_at dksX13_lays_3 3 rfl rfl)
theorem dX13_lays_74 : decode cX13_lays 74 = .ok (.getfield 48, 3) := dk_180 0 48 (dk_at dksX13_lays_3 4 rfl rfl)
theorem dX13_lays_77 : decode cX13_lays 77 = .ok (.iload_n 3, 1) := dk_29 (dk_at dksX13_lays_3 7 rfl rfl)
theorem dX13_lays_78 : decode cX13_lays 78 = .ok (.invokestatic 88, 3) := dk_184 0 88 (dk_at dksX13_lays_3 8 rfl rfl)
theorem dX13_lays_81 : decode cX13_lays 81 = .ok (.ifCond .ne 9, 3) := dk_154 0 9 (dk_at dksX13_lays_3 11 rfl rfl)
theorem dX13_lays_84 : decode cX13_lays 84 = .ok (.iinc 2 1, 3) := dk_132 2 1 (dk_at dksX13_lays_3 14 rfl rfl)
theorem dX13_lays_87 : decode cX13_lays 87 = .ok (.goto 19, 3) := dk_167 0 19 (dk_at dksX13_lays_3 17 rfl rfl)
theorem dX13_lays_90 : decode cX13_lays 90 = .ok (.aload_n 0, 1) := dk_42 (dk_at dksX13_lays_3 20 rfl rfl)
theorem dX13_lays_91 : decode cX13_lays 91 = .ok (.aload_n 0, 1) := dk_42 (dk_at dksX13_lays_3 21 rfl rfl)
theorem dX13_lays_92 : decode cX13_lays 92 = .ok (.getfield 15, 3) := dk_180 0 15 (dk_at dksX13_lays_4 0 rfl rfl)
theorem dX13_lays_95 : decode cX13_lays 95 = .ok (.iload_n 3, 1) := dk_29 (dk_at dksX13_lays_4 3 rfl rfl)
theorem dX13_lays_96 : decode cX13_lays 96 = .ok (.laload, 1) := dk_47 (dk_at dksX13_lays_4 4 rfl rfl)
theorem dX13_lays_97 : decode cX13_lays 97 = .ok (.aload_n 0, 1) := dk_42 (dk_at dksX13_lays_4 5 rfl rfl)
theorem dX13_lays_98 : decode cX13_lays 98 = .ok (.getfield 19, 3) := dk_180 0 19 (dk_at dksX13_lays_4 6 rfl rfl)
theorem dX13_lays_101 : decode cX13_lays 101 = .ok (.iload_n 3, 1) := dk_29 (dk_at dksX13_lays_4 9 rfl rfl)
theorem dX13_lays_102 : decode cX13_lays 102 = .ok (.laload, 1) := dk_47 (dk_at dksX13_lays_4 10 rfl rfl)
theorem dX13_lays_103 : decode cX13_lays 103 = .ok (.invokevirtual 91, 3) := dk_182 0 91 (dk_at dksX13_lays_4 11 rfl rfl)
theorem dX13_lays_106 : decode cX13_lays 106 = .ok (.iinc 3 1, 3) := dk_132 3 1 (dk_at dksX13_lays_4 14 rfl rfl)
theorem dX13_lays_109 : decode cX13_lays 109 = .ok (.goto (-80), 3) := dk_167 255 176 (dk_at dksX13_lays_4 17 rfl rfl)
theorem dX13_lays_112 : decode cX13_lays 112 = .ok (.aload_n 0, 1) := dk_42 (dk_at dksX13_lays_4 20 rfl rfl)
theorem dX13_lays_113 : decode cX13_lays 113 = .ok (.dup, 1) := dk_89 (dk_at dksX13_lays_4 21 rfl rfl)
theorem dX13_lays_114 : decode cX13_lays 114 = .ok (.getfield 81, 3) := dk_180 0 81 (dk_at dksX13_lays_5 0 rfl rfl)
theorem dX13_lays_117 : decode cX13_lays 117 = .ok (.iconst 1, 1) := dk_4 (dk_at dksX13_lays_5 3 rfl rfl)
theorem dX13_lays_118 : decode cX13_lays 118 = .ok (.iload_n 2, 1) := dk_28 (dk_at dksX13_lays_5 4 rfl rfl)
theorem dX13_lays_119 : decode cX13_lays 119 = .ok (.invokestatic 95, 3) := dk_184 0 95 (dk_at dksX13_lays_5 5 rfl rfl)
theorem dX13_lays_122 : decode cX13_lays 122 = .ok (.i2l, 1) := dk_133 (dk_at dksX13_lays_5 8 rfl rfl)
theorem dX13_lays_123 : decode cX13_lays 123 = .ok (.lmul, 1) := dk_105 (dk_at dksX13_lays_5 9 rfl rfl)
theorem dX13_lays_124 : decode cX13_lays 124 = .ok (.putfield 81, 3) := dk_181 0 81 (dk_at dksX13_lays_5 10 rfl rfl)
theorem dX13_lays_127 : decode cX13_lays 127 = .ok (.iload_n 2, 1) := dk_28 (dk_at dksX13_lays_5 13 rfl rfl)
theorem dX13_lays_128 : decode cX13_lays 128 = .ok (.ifCond .le 7, 3) := dk_158 0 7 (dk_at dksX13_lays_5 14 rfl rfl)
theorem dX13_lays_131 : decode cX13_lays 131 = .ok (.iconst 1, 1) := dk_4 (dk_at dksX13_lays_5 17 rfl rfl)
theorem dX13_lays_132 : decode cX13_lays 132 = .ok (.goto 4, 3) := dk_167 0 4 (dk_at dksX13_lays_5 18 rfl rfl)
theorem dX13_lays_135 : decode cX13_lays 135 = .ok (.iconst 0, 1) := dk_3 (dk_at dksX13_lays_5 21 rfl rfl)
theorem dX13_lays_136 : decode cX13_lays 136 = .ok (.ireturn, 1) := dk_172 (dk_at dksX13_lays_5 22 rfl rfl)
abbrev cX13_goesBy : ByteArray := prog_7_method_2_code
def yX13_goesBy : MethodName := ⟨RX13, "goesBy", "(II)Z"⟩
def dkwX13_goesBy_1 : List UInt8 := [172]
abbrev dktX13_goesBy_1 : List UInt8 := dkwX13_goesBy_1 ++ []
def dkwX13_goesBy_0 : List UInt8 := [42, 180, 0, 3, 180, 0, 22, 180, 0, 58, 27, 50, 28, 182, 0, 62, 155, 0, 7, 4, 167, 0, 4, 3]
abbrev dktX13_goesBy_0 : List UInt8 := dkwX13_goesBy_0 ++ dktX13_goesBy_1
theorem dksX13_goesBy_0 : cX13_goesBy.data.toList.drop 0 = dktX13_goesBy_0 := by decide +kernel
theorem dksX13_goesBy_1 : cX13_goesBy.data.toList.drop 24 = dktX13_goesBy_1 := dk_seg dksX13_goesBy_0 24 rfl rfl
theorem dX13_goesBy_0 : decode cX13_goesBy 0 = .ok (.aload_n 0, 1) := dk_42 (dk_at dksX13_goesBy_0 0 rfl rfl)
theorem dX13_goesBy_1 : decode cX13_goesBy 1 = .ok (.getfield 3, 3) := dk_180 0 3 (dk_at dksX13_goesBy_0 1 rfl rfl)
theorem dX13_goesBy_4 : decode cX13_goesBy 4 = .ok (.getfield 22, 3) := dk_180 0 22 (dk_at dksX13_goesBy_0 4 rfl rfl)
theorem dX13_goesBy_7 : decode cX13_goesBy 7 = .ok (.getfield 58, 3) := dk_180 0 58 (dk_at dksX13_goesBy_0 7 rfl rfl)
theorem dX13_goesBy_10 : decode cX13_goesBy 10 = .ok (.iload_n 1, 1) := dk_27 (dk_at dksX13_goesBy_0 10 rfl rfl)
theorem dX13_goesBy_11 : decode cX13_goesBy 11 = .ok (.aaload, 1) := dk_50 (dk_at dksX13_goesBy_0 11 rfl rfl)
theorem dX13_goesBy_12 : decode cX13_goesBy 12 = .ok (.iload_n 2, 1) := dk_28 (dk_at dksX13_goesBy_0 12 rfl rfl)
theorem dX13_goesBy_13 : decode cX13_goesBy 13 = .ok (.invokevirtual 62, 3) := dk_182 0 62 (dk_at dksX13_goesBy_0 13 rfl rfl)
theorem dX13_goesBy_16 : decode cX13_goesBy 16 = .ok (.ifCond .lt 7, 3) := dk_155 0 7 (dk_at dksX13_goesBy_0 16 rfl rfl)
theorem dX13_goesBy_19 : decode cX13_goesBy 19 = .ok (.iconst 1, 1) := dk_4 (dk_at dksX13_goesBy_0 19 rfl rfl)
theorem dX13_goesBy_20 : decode cX13_goesBy 20 = .ok (.goto 4, 3) := dk_167 0 4 (dk_at dksX13_goesBy_0 20 rfl rfl)
theorem dX13_goesBy_23 : decode cX13_goesBy 23 = .ok (.iconst 0, 1) := dk_3 (dk_at dksX13_goesBy_0 23 rfl rfl)
theorem dX13_goesBy_24 : decode cX13_goesBy 24 = .ok (.ireturn, 1) := dk_172 (dk_at dksX13_goesBy_1 0 rfl rfl)
abbrev cX13_less : ByteArray := prog_7_method_4_code
def yX13_less : MethodName := ⟨RX13, "less", "(JJ)V"⟩
def dkwX13_less_2 : List UInt8 := [181, 0, 77, 42, 89, 180, 0, 81, 22, 5, 109, 181, 0, 81, 177]
abbrev dktX13_less_2 : List UInt8 := dkwX13_less_2 ++ []
def dkwX13_less_1 : List UInt8 := [181, 0, 81, 42, 180, 0, 81, 42, 180, 0, 77, 184, 0, 101, 55, 5, 42, 89, 180, 0, 77, 22, 5, 109]
abbrev dktX13_less_1 : List UInt8 := dkwX13_less_1 ++ dktX13_less_2
def dkwX13_less_0 : List UInt8 := [42, 42, 180, 0, 77, 33, 105, 31, 42, 180, 0, 81, 105, 101, 181, 0, 77, 42, 89, 180, 0, 81, 33, 105]
abbrev dktX13_less_0 : List UInt8 := dkwX13_less_0 ++ dktX13_less_1
theorem dksX13_less_0 : cX13_less.data.toList.drop 0 = dktX13_less_0 := by decide +kernel
theorem dksX13_less_1 : cX13_less.data.toList.drop 24 = dktX13_less_1 := dk_seg dksX13_less_0 24 rfl rfl
theorem dksX13_less_2 : cX13_less.data.toList.drop 48 = dktX13_less_2 := dk_seg dksX13_less_1 24 rfl rfl
theorem dX13_less_0 : decode cX13_less 0 = .ok (.aload_n 0, 1) := dk_42 (dk_at dksX13_less_0 0 rfl rfl)
theorem dX13_less_1 : decode cX13_less 1 = .ok (.aload_n 0, 1) := dk_42 (dk_at dksX13_less_0 1 rfl rfl)
theorem dX13_less_2 : decode cX13_less 2 = .ok (.getfield 77, 3) := dk_180 0 77 (dk_at dksX13_less_0 2 rfl rfl)
theorem dX13_less_5 : decode cX13_less 5 = .ok (.lload_n 3, 1) := dk_33 (dk_at dksX13_less_0 5 rfl rfl)
theorem dX13_less_6 : decode cX13_less 6 = .ok (.lmul, 1) := dk_105 (dk_at dksX13_less_0 6 rfl rfl)
theorem dX13_less_7 : decode cX13_less 7 = .ok (.lload_n 1, 1) := dk_31 (dk_at dksX13_less_0 7 rfl rfl)
theorem dX13_less_8 : decode cX13_less 8 = .ok (.aload_n 0, 1) := dk_42 (dk_at dksX13_less_0 8 rfl rfl)
theorem dX13_less_9 : decode cX13_less 9 = .ok (.getfield 81, 3) := dk_180 0 81 (dk_at dksX13_less_0 9 rfl rfl)
theorem dX13_less_12 : decode cX13_less 12 = .ok (.lmul, 1) := dk_105 (dk_at dksX13_less_0 12 rfl rfl)
theorem dX13_less_13 : decode cX13_less 13 = .ok (.lsub, 1) := dk_101 (dk_at dksX13_less_0 13 rfl rfl)
theorem dX13_less_14 : decode cX13_less 14 = .ok (.putfield 77, 3) := dk_181 0 77 (dk_at dksX13_less_0 14 rfl rfl)
theorem dX13_less_17 : decode cX13_less 17 = .ok (.aload_n 0, 1) := dk_42 (dk_at dksX13_less_0 17 rfl rfl)
theorem dX13_less_18 : decode cX13_less 18 = .ok (.dup, 1) := dk_89 (dk_at dksX13_less_0 18 rfl rfl)
theorem dX13_less_19 : decode cX13_less 19 = .ok (.getfield 81, 3) := dk_180 0 81 (dk_at dksX13_less_0 19 rfl rfl)
theorem dX13_less_22 : decode cX13_less 22 = .ok (.lload_n 3, 1) := dk_33 (dk_at dksX13_less_0 22 rfl rfl)
theorem dX13_less_23 : decode cX13_less 23 = .ok (.lmul, 1) := dk_105 (dk_at dksX13_less_0 23 rfl rfl)
theorem dX13_less_24 : decode cX13_less 24 = .ok (.putfield 81, 3) := dk_181 0 81 (dk_at dksX13_less_1 0 rfl rfl)
theorem dX13_less_27 : decode cX13_less 27 = .ok (.aload_n 0, 1) := dk_42 (dk_at dksX13_less_1 3 rfl rfl)
theorem dX13_less_28 : decode cX13_less 28 = .ok (.getfield 81, 3) := dk_180 0 81 (dk_at dksX13_less_1 4 rfl rfl)
theorem dX13_less_31 : decode cX13_less 31 = .ok (.aload_n 0, 1) := dk_42 (dk_at dksX13_less_1 7 rfl rfl)
theorem dX13_less_32 : decode cX13_less 32 = .ok (.getfield 77, 3) := dk_180 0 77 (dk_at dksX13_less_1 8 rfl rfl)
theorem dX13_less_35 : decode cX13_less 35 = .ok (.invokestatic 101, 3) := dk_184 0 101 (dk_at dksX13_less_1 11 rfl rfl)
theorem dX13_less_38 : decode cX13_less 38 = .ok (.lstore 5, 2) := dk_55 5 (dk_at dksX13_less_1 14 rfl rfl)
theorem dX13_less_40 : decode cX13_less 40 = .ok (.aload_n 0, 1) := dk_42 (dk_at dksX13_less_1 16 rfl rfl)
theorem dX13_less_41 : decode cX13_less 41 = .ok (.dup, 1) := dk_89 (dk_at dksX13_less_1 17 rfl rfl)
theorem dX13_less_42 : decode cX13_less 42 = .ok (.getfield 77, 3) := dk_180 0 77 (dk_at dksX13_less_1 18 rfl rfl)
theorem dX13_less_45 : decode cX13_less 45 = .ok (.lload 5, 2) := dk_22 5 (dk_at dksX13_less_1 21 rfl rfl)
theorem dX13_less_47 : decode cX13_less 47 = .ok (.ldiv, 1) := dk_109 (dk_at dksX13_less_1 23 rfl rfl)
theorem dX13_less_48 : decode cX13_less 48 = .ok (.putfield 77, 3) := dk_181 0 77 (dk_at dksX13_less_2 0 rfl rfl)
theorem dX13_less_51 : decode cX13_less 51 = .ok (.aload_n 0, 1) := dk_42 (dk_at dksX13_less_2 3 rfl rfl)
theorem dX13_less_52 : decode cX13_less 52 = .ok (.dup, 1) := dk_89 (dk_at dksX13_less_2 4 rfl rfl)
theorem dX13_less_53 : decode cX13_less 53 = .ok (.getfield 81, 3) := dk_180 0 81 (dk_at dksX13_less_2 5 rfl rfl)
theorem dX13_less_56 : decode cX13_less 56 = .ok (.lload 5, 2) := dk_22 5 (dk_at dksX13_less_2 8 rfl rfl)
theorem dX13_less_58 : decode cX13_less 58 = .ok (.ldiv, 1) := dk_109 (dk_at dksX13_less_2 10 rfl rfl)
theorem dX13_less_59 : decode cX13_less 59 = .ok (.putfield 81, 3) := dk_181 0 81 (dk_at dksX13_less_2 11 rfl rfl)
theorem dX13_less_62 : decode cX13_less 62 = .ok (.return_, 1) := dk_177 (dk_at dksX13_less_2 14 rfl rfl)
abbrev cX13_filled : ByteArray := prog_7_method_6_code
def yX13_filled : MethodName := ⟨RX13, "filled", "()LLosslessFabric$Fair;"⟩
def dkwX13_filled_2 : List UInt8 := [132, 1, 1, 167, 255, 208, 42, 176]
abbrev dktX13_filled_2 : List UInt8 := dkwX13_filled_2 ++ []
def dkwX13_filled_1 : List UInt8 := [42, 180, 0, 77, 9, 148, 154, 0, 17, 42, 89, 180, 0, 112, 178, 0, 51, 27, 46, 128, 181, 0, 112]
abbrev dktX13_filled_1 : List UInt8 := dkwX13_filled_1 ++ dktX13_filled_2
def dkwX13_filled_0 : List UInt8 := [3, 60, 27, 42, 180, 0, 3, 180, 0, 22, 180, 0, 105, 162, 0, 40, 42, 27, 182, 0, 108, 154, 0, 26]
abbrev dktX13_filled_0 : List UInt8 := dkwX13_filled_0 ++ dktX13_filled_1
theorem dksX13_filled_0 : cX13_filled.data.toList.drop 0 = dktX13_filled_0 := by decide +kernel
theorem dksX13_filled_1 : cX13_filled.data.toList.drop 24 = dktX13_filled_1 := dk_seg dksX13_filled_0 24 rfl rfl
theorem dksX13_filled_2 : cX13_filled.data.toList.drop 47 = dktX13_filled_2 := dk_seg dksX13_filled_1 23 rfl rfl
theorem dX13_filled_0 : decode cX13_filled 0 = .ok (.iconst 0, 1) := dk_3 (dk_at dksX13_filled_0 0 rfl rfl)
theorem dX13_filled_1 : decode cX13_filled 1 = .ok (.istore_n 1, 1) := dk_60 (dk_at dksX13_filled_0 1 rfl rfl)
theorem dX13_filled_2 : decode cX13_filled 2 = .ok (.iload_n 1, 1) := dk_27 (dk_at dksX13_filled_0 2 rfl rfl)
theorem dX13_filled_3 : decode cX13_filled 3 = .ok (.aload_n 0, 1) := dk_42 (dk_at dksX13_filled_0 3 rfl rfl)
theorem dX13_filled_4 : decode cX13_filled 4 = .ok (.getfield 3, 3) := dk_180 0 3 (dk_at dksX13_filled_0 4 rfl rfl)
theorem dX13_filled_7 : decode cX13_filled 7 = .ok (.getfield 22, 3) := dk_180 0 22 (dk_at dksX13_filled_0 7 rfl rfl)
theorem dX13_filled_10 : decode cX13_filled 10 = .ok (.getfield 105, 3) := dk_180 0 105 (dk_at dksX13_filled_0 10 rfl rfl)
theorem dX13_filled_13 : decode cX13_filled 13 = .ok (.if_icmp .ge 40, 3) := dk_162 0 40 (dk_at dksX13_filled_0 13 rfl rfl)
theorem dX13_filled_16 : decode cX13_filled 16 = .ok (.aload_n 0, 1) := dk_42 (dk_at dksX13_filled_0 16 rfl rfl)
theorem dX13_filled_17 : decode cX13_filled 17 = .ok (.iload_n 1, 1) := dk_27 (dk_at dksX13_filled_0 17 rfl rfl)
theorem dX13_filled_18 : decode cX13_filled 18 = .ok (.invokevirtual 108, 3) := dk_182 0 108 (dk_at dksX13_filled_0 18 rfl rfl)
theorem dX13_filled_21 : decode cX13_filled 21 = .ok (.ifCond .ne 26, 3) := dk_154 0 26 (dk_at dksX13_filled_0 21 rfl rfl)
theorem dX13_filled_24 : decode cX13_filled 24 = .ok (.aload_n 0, 1) := dk_42 (dk_at dksX13_filled_1 0 rfl rfl)
theorem dX13_filled_25 : decode cX13_filled 25 = .ok (.getfield 77, 3) := dk_180 0 77 (dk_at dksX13_filled_1 1 rfl rfl)
theorem dX13_filled_28 : decode cX13_filled 28 = .ok (.lconst 0, 1) := dk_9 (dk_at dksX13_filled_1 4 rfl rfl)
theorem dX13_filled_29 : decode cX13_filled 29 = .ok (.lcmp, 1) := dk_148 (dk_at dksX13_filled_1 5 rfl rfl)
theorem dX13_filled_30 : decode cX13_filled 30 = .ok (.ifCond .ne 17, 3) := dk_154 0 17 (dk_at dksX13_filled_1 6 rfl rfl)
theorem dX13_filled_33 : decode cX13_filled 33 = .ok (.aload_n 0, 1) := dk_42 (dk_at dksX13_filled_1 9 rfl rfl)
theorem dX13_filled_34 : decode cX13_filled 34 = .ok (.dup, 1) := dk_89 (dk_at dksX13_filled_1 10 rfl rfl)
theorem dX13_filled_35 : decode cX13_filled 35 = .ok (.getfield 112, 3) := dk_180 0 112 (dk_at dksX13_filled_1 11 rfl rfl)
theorem dX13_filled_38 : decode cX13_filled 38 = .ok (.getstatic 51, 3) := dk_178 0 51 (dk_at dksX13_filled_1 14 rfl rfl)
theorem dX13_filled_41 : decode cX13_filled 41 = .ok (.iload_n 1, 1) := dk_27 (dk_at dksX13_filled_1 17 rfl rfl)
theorem dX13_filled_42 : decode cX13_filled 42 = .ok (.iaload, 1) := dk_46 (dk_at dksX13_filled_1 18 rfl rfl)
theorem dX13_filled_43 : decode cX13_filled 43 = .ok (.ior, 1) := dk_128 (dk_at dksX13_filled_1 19 rfl rfl)
theorem dX13_filled_44 : decode cX13_filled 44 = .ok (.putfield 112, 3) := dk_181 0 112 (dk_at dksX13_filled_1 20 rfl rfl)
theorem dX13_filled_47 : decode cX13_filled 47 = .ok (.iinc 1 1, 3) := dk_132 1 1 (dk_at dksX13_filled_2 0 rfl rfl)
theorem dX13_filled_50 : decode cX13_filled 50 = .ok (.goto (-48), 3) := dk_167 255 208 (dk_at dksX13_filled_2 3 rfl rfl)
theorem dX13_filled_53 : decode cX13_filled 53 = .ok (.aload_n 0, 1) := dk_42 (dk_at dksX13_filled_2 6 rfl rfl)
theorem dX13_filled_54 : decode cX13_filled 54 = .ok (.areturn, 1) := dk_176 (dk_at dksX13_filled_2 7 rfl rfl)
theorem q127 : (Jvm.Cond.initialized "LosslessFabric$Fair") ∈ lw_all := lw_g (lw_at lw_m1 27 rfl) rfl
theorem q148 : (Jvm.Cond.fieldLinkNest "LosslessFabric$Fair" (68 : Nat) "LosslessFabric$Told" "links" "[LLosslessFabric$Link;" "LosslessFabric") ∈ lw_tbl := lw_at lw_m1 48 rfl
theorem q152 : (Jvm.Cond.fieldLinkNest "LosslessFabric$Fair" (58 : Nat) "LosslessFabric$Told" "flows" "[LLosslessFabric$Flow;" "LosslessFabric") ∈ lw_tbl := lw_at lw_m1 52 rfl
theorem q159 : (Jvm.Cond.fieldLinkNest "LosslessFabric$Fair" (105 : Nat) "LosslessFabric$Told" "linkMany" "I" "LosslessFabric") ∈ lw_tbl := lw_at lw_m1 59 rfl
theorem q162 : (Jvm.Cond.fieldLinkNest "LosslessFabric$Fair" (26 : Nat) "LosslessFabric$Told" "flowMany" "I" "LosslessFabric") ∈ lw_tbl := lw_at lw_m1 62 rfl
theorem q323 : (Jvm.Cond.fieldLinkNest "LosslessFabric$Fair" (42 : Nat) "LosslessFabric$Sender" "isOn" "Z" "LosslessFabric") ∈ lw_tbl := lw_at lw_m1 223 rfl
theorem q357 : (Jvm.Cond.fieldLinkNest "LosslessFabric$Fair" (36 : Nat) "LosslessFabric$State" "senders" "[LLosslessFabric$Sender;" "LosslessFabric") ∈ lw_tbl := lw_at lw_m2 17 rfl
theorem q395 : (Jvm.Cond.fieldLinkNest "LosslessFabric$Fair" (22 : Nat) "LosslessFabric" "told" "LLosslessFabric$Told;" "LosslessFabric") ∈ lw_tbl := lw_at lw_m2 55 rfl
theorem q403 : (Jvm.Cond.fieldLinkNest "LosslessFabric$Fair" (32 : Nat) "LosslessFabric" "now" "LLosslessFabric$State;" "LosslessFabric") ∈ lw_tbl := lw_at lw_m2 63 rfl
theorem q731 : (Jvm.Cond.fieldLinkNest "LosslessFabric$Fair" (72 : Nat) "LosslessFabric$Link" "cap" "I" "LosslessFabric") ∈ lw_tbl := lw_at lw_m3 151 rfl
theorem q1125 : (Jvm.Cond.instantiable "LosslessFabric$Fair" (7 : Nat)) ∈ lw_all := lw_g (lw_at lw_m5 65 rfl) rfl
theorem q1127 : (Jvm.Cond.instanceMethod ({ cls := "LosslessFabric$Fair", name := "<init>", desc := "(LLosslessFabric;)V" } : Jvm.MethodName)) ∈ lw_all := lw_g (lw_at lw_m5 67 rfl) rfl
theorem q1128 : (Jvm.Cond.code ({ cls := "LosslessFabric$Fair", name := "<init>", desc := "(LLosslessFabric;)V" } : Jvm.MethodName) prog_7_method_1_code (3 : Nat) (Option.none : Option Jvm.ClassFile.FieldType)) ∈ lw_all := lw_g (lw_at lw_m5 68 rfl) rfl
theorem q1129 : (Jvm.Cond.methodLink "LosslessFabric$Fair" (9 : Nat) ({ cls := "java/lang/Object", name := "<init>", desc := "()V" } : Jvm.MethodName)) ∈ lw_all := lw_g (lw_at lw_m5 69 rfl) rfl
theorem q1130 : (Jvm.Cond.fieldLinkNest "LosslessFabric$Fair" (51 : Nat) "LosslessFabric" "BITS" "[I" "LosslessFabric") ∈ lw_tbl := lw_at lw_m5 70 rfl
theorem q1131 : (Jvm.Cond.methodLink "LosslessFabric$Fair" (55 : Nat) ({ cls := "LosslessFabric$Fair", name := "grows", desc := "()V" } : Jvm.MethodName)) ∈ lw_all := lw_g (lw_at lw_m5 71 rfl) rfl
theorem q1132 : (Jvm.Cond.privateMethod ({ cls := "LosslessFabric$Fair", name := "grows", desc := "()V" } : Jvm.MethodName)) ∈ lw_tbl := lw_at lw_m5 72 rfl
theorem q1133 : (Jvm.Cond.instanceMethod ({ cls := "LosslessFabric$Fair", name := "grows", desc := "()V" } : Jvm.MethodName)) ∈ lw_all := lw_g (lw_at lw_m5 73 rfl) rfl
theorem q1134 : (Jvm.Cond.code ({ cls := "LosslessFabric$Fair", name := "grows", desc := "()V" } : Jvm.MethodName) prog_7_method_5_code (9 : Nat) (Option.none : Option Jvm.ClassFile.FieldType)) ∈ lw_all := lw_g (lw_at lw_m5 74 rfl) rfl
theorem q1135 : (Jvm.Cond.methodLink "LosslessFabric$Fair" (108 : Nat) ({ cls := "LosslessFabric$Fair", name := "lays", desc := "(I)Z" } : Jvm.MethodName)) ∈ lw_all := lw_g (lw_at lw_m5 75 rfl) rfl
theorem q1136 : (Jvm.Cond.privateMethod ({ cls := "LosslessFabric$Fair", name := "lays", desc := "(I)Z" } : Jvm.MethodName)) ∈ lw_tbl := lw_at lw_m5 76 rfl
theorem q1137 : (Jvm.Cond.instanceMethod ({ cls := "LosslessFabric$Fair", name := "lays", desc := "(I)Z" } : Jvm.MethodName)) ∈ lw_all := lw_g (lw_at lw_m5 77 rfl) rfl
theorem q1138 : (Jvm.Cond.code ({ cls := "LosslessFabric$Fair", name := "lays", desc := "(I)Z" } : Jvm.MethodName) prog_7_method_3_code (4 : Nat) (Option.some Jvm.ClassFile.FieldType.boolean)) ∈ lw_all := lw_g (lw_at lw_m5 78 rfl) rfl
theorem q1139 : (Jvm.Cond.methodLink "LosslessFabric$Fair" (84 : Nat) ({ cls := "LosslessFabric$Fair", name := "goesBy", desc := "(II)Z" } : Jvm.MethodName)) ∈ lw_all := lw_g (lw_at lw_m5 79 rfl) rfl
theorem q1140 : (Jvm.Cond.privateMethod ({ cls := "LosslessFabric$Fair", name := "goesBy", desc := "(II)Z" } : Jvm.MethodName)) ∈ lw_tbl := lw_at lw_m5 80 rfl
theorem q1141 : (Jvm.Cond.instanceMethod ({ cls := "LosslessFabric$Fair", name := "goesBy", desc := "(II)Z" } : Jvm.MethodName)) ∈ lw_all := lw_g (lw_at lw_m5 81 rfl) rfl
theorem q1142 : (Jvm.Cond.code ({ cls := "LosslessFabric$Fair", name := "goesBy", desc := "(II)Z" } : Jvm.MethodName) prog_7_method_2_code (3 : Nat) (Option.some Jvm.ClassFile.FieldType.boolean)) ∈ lw_all := lw_g (lw_at lw_m5 82 rfl) rfl
theorem q1143 : (Jvm.Cond.methodLink "LosslessFabric$Fair" (62 : Nat) ({ cls := "LosslessFabric$Flow", name := "at", desc := "(I)I" } : Jvm.MethodName)) ∈ lw_all := lw_g (lw_at lw_m5 83 rfl) rfl
theorem q1144 : (Jvm.Cond.methodLinkNest "LosslessFabric$Fair" (88 : Nat) ({ cls := "LosslessFabric", name := "has", desc := "(II)Z" } : Jvm.MethodName) "LosslessFabric") ∈ lw_tbl := lw_at lw_m5 84 rfl
theorem q1147 : (Jvm.Cond.methodLink "LosslessFabric$Fair" (91 : Nat) ({ cls := "LosslessFabric$Fair", name := "less", desc := "(JJ)V" } : Jvm.MethodName)) ∈ lw_all := lw_g (lw_at lw_m5 87 rfl) rfl
theorem q1148 : (Jvm.Cond.privateMethod ({ cls := "LosslessFabric$Fair", name := "less", desc := "(JJ)V" } : Jvm.MethodName)) ∈ lw_tbl := lw_at lw_m5 88 rfl
theorem q1149 : (Jvm.Cond.instanceMethod ({ cls := "LosslessFabric$Fair", name := "less", desc := "(JJ)V" } : Jvm.MethodName)) ∈ lw_all := lw_g (lw_at lw_m5 89 rfl) rfl
theorem q1150 : (Jvm.Cond.code ({ cls := "LosslessFabric$Fair", name := "less", desc := "(JJ)V" } : Jvm.MethodName) prog_7_method_4_code (7 : Nat) (Option.none : Option Jvm.ClassFile.FieldType)) ∈ lw_all := lw_g (lw_at lw_m5 90 rfl) rfl
theorem q1151 : (Jvm.Cond.methodLinkNest "LosslessFabric$Fair" (101 : Nat) ({ cls := "LosslessFabric", name := "common", desc := "(JJ)J" } : Jvm.MethodName) "LosslessFabric") ∈ lw_tbl := lw_at lw_m5 91 rfl
theorem q1154 : (Jvm.Cond.methodLink "LosslessFabric$Fair" (95 : Nat) ({ cls := "java/lang/Math", name := "max", desc := "(II)I" } : Jvm.MethodName)) ∈ lw_all := lw_g (lw_at lw_m5 94 rfl) rfl
theorem q1155 : (Jvm.Cond.fieldLink "LosslessFabric$Fair" (15 : Nat) "LosslessFabric$Fair" "up" "[J") ∈ lw_all := lw_g (lw_at lw_m5 95 rfl) rfl
theorem q1157 : (Jvm.Cond.fieldLink "LosslessFabric$Fair" (19 : Nat) "LosslessFabric$Fair" "down" "[J") ∈ lw_all := lw_g (lw_at lw_m5 97 rfl) rfl
theorem q1159 : (Jvm.Cond.fieldLink "LosslessFabric$Fair" (48 : Nat) "LosslessFabric$Fair" "done" "I") ∈ lw_all := lw_g (lw_at lw_m5 99 rfl) rfl
theorem q1160 : (Jvm.Cond.fieldLink "LosslessFabric$Fair" (112 : Nat) "LosslessFabric$Fair" "full" "I") ∈ lw_all := lw_g (lw_at lw_m5 100 rfl) rfl
theorem q1162 : (Jvm.Cond.fieldLink "LosslessFabric$Fair" (77 : Nat) "LosslessFabric$Fair" "upper" "J") ∈ lw_all := lw_g (lw_at lw_m5 102 rfl) rfl
theorem q1163 : (Jvm.Cond.fieldLink "LosslessFabric$Fair" (81 : Nat) "LosslessFabric$Fair" "lower" "J") ∈ lw_all := lw_g (lw_at lw_m5 103 rfl) rfl
theorem q1164 : (Jvm.Cond.fieldLink "LosslessFabric$Fair" (3 : Nat) "LosslessFabric$Fair" "this$0" "LLosslessFabric;") ∈ lw_all := lw_g (lw_at lw_m5 104 rfl) rfl
theorem q1165 : (Jvm.Cond.laysFinal "LosslessFabric$Fair" "LosslessFabric$Fair" "up" "[J") ∈ lw_all := lw_g (lw_at lw_m5 105 rfl) rfl
theorem q1166 : (Jvm.Cond.soleField "LosslessFabric$Fair" "up") ∈ lw_all := lw_g (lw_at lw_m5 106 rfl) rfl
theorem q1167 : (Jvm.Cond.laysFinal "LosslessFabric$Fair" "LosslessFabric$Fair" "down" "[J") ∈ lw_all := lw_g (lw_at lw_m5 107 rfl) rfl
theorem q1168 : (Jvm.Cond.soleField "LosslessFabric$Fair" "down") ∈ lw_all := lw_g (lw_at lw_m5 108 rfl) rfl
theorem q1169 : (Jvm.Cond.lays "LosslessFabric$Fair" "LosslessFabric$Fair" "done" "I") ∈ lw_all := lw_g (lw_at lw_m5 109 rfl) rfl
theorem q1170 : (Jvm.Cond.soleField "LosslessFabric$Fair" "done") ∈ lw_all := lw_g (lw_at lw_m5 110 rfl) rfl
theorem q1171 : (Jvm.Cond.lays "LosslessFabric$Fair" "LosslessFabric$Fair" "full" "I") ∈ lw_all := lw_g (lw_at lw_m5 111 rfl) rfl
theorem q1172 : (Jvm.Cond.soleField "LosslessFabric$Fair" "full") ∈ lw_all := lw_g (lw_at lw_m5 112 rfl) rfl
theorem q1173 : (Jvm.Cond.lays "LosslessFabric$Fair" "LosslessFabric$Fair" "upper" "J") ∈ lw_all := lw_g (lw_at lw_m5 113 rfl) rfl
theorem q1174 : (Jvm.Cond.soleField "LosslessFabric$Fair" "upper") ∈ lw_all := lw_g (lw_at lw_m5 114 rfl) rfl
theorem q1175 : (Jvm.Cond.lays "LosslessFabric$Fair" "LosslessFabric$Fair" "lower" "J") ∈ lw_all := lw_g (lw_at lw_m5 115 rfl) rfl
theorem q1176 : (Jvm.Cond.soleField "LosslessFabric$Fair" "lower") ∈ lw_all := lw_g (lw_at lw_m5 116 rfl) rfl
theorem q1177 : (Jvm.Cond.laysFinal "LosslessFabric$Fair" "LosslessFabric$Fair" "this$0" "LLosslessFabric;") ∈ lw_all := lw_g (lw_at lw_m5 117 rfl) rfl
theorem q1178 : (Jvm.Cond.soleField "LosslessFabric$Fair" "this$0") ∈ lw_all := lw_g (lw_at lw_m5 118 rfl) rfl
theorem q1179 : (Jvm.Cond.superclass "LosslessFabric$Fair" "java/lang/Object") ∈ lw_all := lw_g (lw_at lw_m5 119 rfl) rfl
theorem q1186 : (Jvm.Cond.instanceMethod ({ cls := "LosslessFabric$Fair", name := "filled", desc := "()LLosslessFabric$Fair;" } : Jvm.MethodName)) ∈ lw_all := lw_g (lw_at lw_m5 126 rfl) rfl
theorem q1187 : (Jvm.Cond.selects "LosslessFabric$Fair" ({ cls := "LosslessFabric$Fair", name := "filled", desc := "()LLosslessFabric$Fair;" } : Jvm.MethodName) ({ cls := "LosslessFabric$Fair", name := "filled", desc := "()LLosslessFabric$Fair;" } : Jvm.MethodName)) ∈ lw_all := lw_g (lw_at lw_m5 127 rfl) rfl
theorem q1188 : (Jvm.Cond.code ({ cls := "LosslessFabric$Fair", name := "filled", desc := "()LLosslessFabric$Fair;" } : Jvm.MethodName) prog_7_method_6_code (2 : Nat) (Option.some (Jvm.ClassFile.FieldType.object "LosslessFabric$Fair"))) ∈ lw_all := lw_g (lw_at lw_m5 128 rfl) rfl
theorem q1938 : (Jvm.Cond.castable "LosslessFabric$Fair" "java/lang/Object") ∈ lw_tbl := lw_at lw_m8 158 rfl
theorem in_X13 : ∀ w ∈ wsX130, w ∈ lw_all := lw_in wsX130 [1165, 1167, 1169, 1171, 1173, 1175, 1177] (by decide +kernel) (by decide +kernel)
