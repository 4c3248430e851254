theorem q946 : (Jvm.Cond.interfaceMethod "LosslessFabric$Climb" "LosslessFabric$Climb" "more" "(II)I") ∈ lw_tbl := lw_at lw_m4 126 rfl
set_option maxRecDepth 100000
theorem q947 : (Jvm.Cond.declares ({ cls := "LosslessFabric$Climb", name := "more", desc := "(II)I" } : Jvm.MethodName)) ∈ lw_tbl := lw_at lw_m4 127 rfl

theorem q933 : (Jvm.Cond.interfaceMethod "LosslessFabric$Deed" "LosslessFabric$Deed" "does" "(LLosslessFabric$State;)V") ∈ lw_tbl := lw_at lw_m4 113 rfl
set_option maxRecDepth 100000
theorem q934 : (Jvm.Cond.declares ({ cls := "LosslessFabric$Deed", name := "does", desc := "(LLosslessFabric$State;)V" } : Jvm.MethodName)) ∈ lw_tbl := lw_at lw_m4 114 rfl

theorem q1090 : (Jvm.Cond.interfaceMethod "LosslessFabric$Edge" "LosslessFabric$Edge" "is" "(II)Z") ∈ lw_tbl := lw_at lw_m5 30 rfl
set_option maxRecDepth 100000
theorem q1091 : (Jvm.Cond.declares ({ cls := "LosslessFabric$Edge", name := "is", desc := "(II)Z" } : Jvm.MethodName)) ∈ lw_tbl := lw_at lw_m5 31 rfl

theorem q1219 : (Jvm.Cond.interfaceMethod "LosslessFabric$Goal" "LosslessFabric$Goal" "is" "(LLosslessFabric$State;)Z") ∈ lw_tbl := lw_at lw_m5 159 rfl
set_option maxRecDepth 100000
theorem q1220 : (Jvm.Cond.declares ({ cls := "LosslessFabric$Goal", name := "is", desc := "(LLosslessFabric$State;)Z" } : Jvm.MethodName)) ∈ lw_tbl := lw_at lw_m5 160 rfl

theorem q119 : (Jvm.Cond.initialized "java/lang/System") ∈ lw_all := lw_g (lw_at lw_m1 19 rfl) rfl
set_option maxRecDepth 100000
theorem q828 : (Jvm.Cond.static ({ cls := "java/lang/System", name := "arraycopy", desc := "(Ljava/lang/Object;ILjava/lang/Object;II)V" } : Jvm.MethodName)) ∈ lw_all := lw_g (lw_at lw_m4 8 rfl) rfl
theorem q829 : (Jvm.Cond.native ({ cls := "java/lang/System", name := "arraycopy", desc := "(Ljava/lang/Object;ILjava/lang/Object;II)V" } : Jvm.MethodName)) ∈ lw_all := lw_g (lw_at lw_m4 9 rfl) rfl

theorem q143 : (Jvm.Cond.arrayOver (Jvm.ClassFile.FieldType.object "LosslessFabric$Link")) ∈ lw_tbl := lw_at lw_m1 43 rfl
set_option maxRecDepth 100000
theorem q145 : (Jvm.Cond.arrayOver (Jvm.ClassFile.FieldType.object "LosslessFabric$Flow")) ∈ lw_tbl := lw_at lw_m1 45 rfl
theorem q217 : (Jvm.Cond.arrayClass Jvm.ClassFile.FieldType.byte) ∈ lw_all := lw_g (lw_at lw_m1 117 rfl) rfl
theorem q219 : (Jvm.Cond.arrayOver (Jvm.ClassFile.FieldType.object "LosslessFabric$Notice")) ∈ lw_tbl := lw_at lw_m1 119 rfl
theorem q230 : (Jvm.Cond.arrayOver (Jvm.ClassFile.FieldType.object "LosslessFabric$End")) ∈ lw_tbl := lw_at lw_m1 130 rfl
theorem q232 : (Jvm.Cond.arrayOver (Jvm.ClassFile.FieldType.object "LosslessFabric$Sender")) ∈ lw_tbl := lw_at lw_m1 132 rfl
theorem q290 : (Jvm.Cond.arrayClass Jvm.ClassFile.FieldType.int) ∈ lw_all := lw_g (lw_at lw_m1 190 rfl) rfl
theorem q368 : (Jvm.Cond.arrayOver (Jvm.ClassFile.FieldType.object "LosslessFabric$State")) ∈ lw_tbl := lw_at lw_m2 28 rfl
theorem q1180 : (Jvm.Cond.arrayClass Jvm.ClassFile.FieldType.long) ∈ lw_all := lw_g (lw_at lw_m5 120 rfl) rfl
theorem q1524 : (Jvm.Cond.arrayClass Jvm.ClassFile.FieldType.boolean) ∈ lw_all := lw_g (lw_at lw_m6 224 rfl) rfl
