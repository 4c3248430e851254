/-! THE LAMBDAS: their shapes; the forwarders that the rule writes for them -/
def gl_s0 : Lambda.Shape := { iface := "LosslessFabric$Climb", name := "more", sam := ⟨[.int, .int], some (.int)⟩, captured := [.object "LosslessFabric"], kind := 5, implClass := "LosslessFabric", implName := "lambda$new$0", implDesc := ⟨[.int, .int], some (.int)⟩, implItf := false, inst := ⟨[.int, .int], some (.int)⟩ }
def gl_x0 : MethodName := ⟨"LosslessFabric", "<init>", "()V"⟩
def gl_D0 : ClassFile := (gl_s0.file "LosslessFabric").getD { minorVersion := 0, majorVersion := 0, constantPool := #[], accessFlags := 0, thisClass := 0, superClass := 0, interfaces := #[], fields := #[], methods := #[], attributes := #[] }
theorem gl_f0 : gl_s0.file "LosslessFabric" = some gl_D0 := by
  have h : (gl_s0.file "LosslessFabric").isSome = true := by decide +kernel
  obtain ⟨x, hx⟩ := Option.isSome_iff_exists.mp h
  simp [gl_D0, hx]
def gl_m0 : Method := ((layoutMethods gl_D0).bind (·[1]?)).getD default
theorem gl_g0 : ∀ ms, layoutMethods gl_D0 = some ms → ms[1]? = some gl_m0 := by
  intro ms hms
  have h : ((layoutMethods gl_D0).bind (·[1]?)).isSome = true := by decide +kernel
  obtain ⟨x, hx⟩ := Option.isSome_iff_exists.mp h
  unfold gl_m0
  rw [hx]
  rw [hms] at hx
  exact hx
def gl_c0 : ByteArray := ⟨#[42, 180, 0, 15, 27, 28, 182, 0, 22, 172]⟩
theorem gl_h0 : (gl_m0.code.map fun c => (c.code.data, c.maxLocals)) = some (gl_c0.data, 3) := by decide +kernel
theorem gl_i0 : (gl_m0.accessFlags, gl_m0.name, gl_m0.sig.returnType) = (0x0001, "more", some FieldType.int) := by decide +kernel
theorem gl_p0 : gl_D0.constantPool[22]? = some (.methodref 19 21) ∧ gl_D0.constantPool.className? 19 = some "LosslessFabric" ∧ gl_D0.constantPool.nameAndType? 21 = some ("lambda$new$0", "(II)I") := by decide +kernel
theorem gl_q0_0 : gl_D0.constantPool[15]? = some (.fieldref 2 14) ∧ gl_D0.constantPool.nameAndType? 14 = some ("arg$1", "LLosslessFabric;") := by decide +kernel
theorem gl_d0_0 : decode gl_c0 0 = .ok (.aload_n 0, 1) := by decide +kernel
theorem gl_d0_1 : decode gl_c0 1 = .ok (.getfield 15, 3) := by decide +kernel
theorem gl_d0_4 : decode gl_c0 4 = .ok (.iload_n 1, 1) := by decide +kernel
theorem gl_d0_5 : decode gl_c0 5 = .ok (.iload_n 2, 1) := by decide +kernel
theorem gl_d0_6 : decode gl_c0 6 = .ok (.invokevirtual 22, 3) := by decide +kernel
theorem gl_d0_9 : decode gl_c0 9 = .ok (.ireturn, 1) := by decide +kernel
theorem gl_l0 : ((layoutFields gl_D0 0).map fun l => (l.1.toList.map fun (f : Field) => (f.name, f.isStatic, f.slot), l.2.1.toList)) = some ([("arg$1", false, 0)], [FieldType.object "LosslessFabric"]) := by decide +kernel
def gl_s1 : Lambda.Shape := { iface := "LosslessFabric$Deed", name := "does", sam := ⟨[.object "LosslessFabric$State"], none⟩, captured := [.int, .int], kind := 6, implClass := "LosslessFabric", implName := "lambda$samples$1", implDesc := ⟨[.int, .int, .object "LosslessFabric$State"], none⟩, implItf := false, inst := ⟨[.object "LosslessFabric$State"], none⟩ }
def gl_x1 : MethodName := ⟨"LosslessFabric", "samples", "(LLosslessFabric$State;I)V"⟩
def gl_D1 : ClassFile := (gl_s1.file "LosslessFabric").getD { minorVersion := 0, majorVersion := 0, constantPool := #[], accessFlags := 0, thisClass := 0, superClass := 0, interfaces := #[], fields := #[], methods := #[], attributes := #[] }
theorem gl_f1 : gl_s1.file "LosslessFabric" = some gl_D1 := by
  have h : (gl_s1.file "LosslessFabric").isSome = true := by decide +kernel
  obtain ⟨x, hx⟩ := Option.isSome_iff_exists.mp h
  simp [gl_D1, hx]
def gl_m1 : Method := ((layoutMethods gl_D1).bind (·[1]?)).getD default
theorem gl_g1 : ∀ ms, layoutMethods gl_D1 = some ms → ms[1]? = some gl_m1 := by
  intro ms hms
  have h : ((layoutMethods gl_D1).bind (·[1]?)).isSome = true := by decide +kernel
  obtain ⟨x, hx⟩ := Option.isSome_iff_exists.mp h
  unfold gl_m1
  rw [hx]
  rw [hms] at hx
  exact hx
def gl_c1 : ByteArray := ⟨#[42, 180, 0, 16, 42, 180, 0, 18, 43, 184, 0, 26, 177]⟩
theorem gl_h1 : (gl_m1.code.map fun c => (c.code.data, c.maxLocals)) = some (gl_c1.data, 2) := by decide +kernel
theorem gl_i1 : (gl_m1.accessFlags, gl_m1.name, gl_m1.sig.returnType) = (0x0001, "does", none) := by decide +kernel
theorem gl_p1 : gl_D1.constantPool[26]? = some (.methodref 22 25) ∧ gl_D1.constantPool.className? 22 = some "LosslessFabric" ∧ gl_D1.constantPool.nameAndType? 25 = some ("lambda$samples$1", "(IILLosslessFabric$State;)V") := by decide +kernel
theorem gl_q1_0 : gl_D1.constantPool[16]? = some (.fieldref 2 15) ∧ gl_D1.constantPool.nameAndType? 15 = some ("arg$1", "I") := by decide +kernel
theorem gl_q1_1 : gl_D1.constantPool[18]? = some (.fieldref 2 17) ∧ gl_D1.constantPool.nameAndType? 17 = some ("arg$2", "I") := by decide +kernel
theorem gl_d1_0 : decode gl_c1 0 = .ok (.aload_n 0, 1) := by decide +kernel
theorem gl_d1_1 : decode gl_c1 1 = .ok (.getfield 16, 3) := by decide +kernel
theorem gl_d1_4 : decode gl_c1 4 = .ok (.aload_n 0, 1) := by decide +kernel
theorem gl_d1_5 : decode gl_c1 5 = .ok (.getfield 18, 3) := by decide +kernel
theorem gl_d1_8 : decode gl_c1 8 = .ok (.aload_n 1, 1) := by decide +kernel
theorem gl_d1_9 : decode gl_c1 9 = .ok (.invokestatic 26, 3) := by decide +kernel
theorem gl_d1_12 : decode gl_c1 12 = .ok (.return_, 1) := by decide +kernel
theorem gl_l1 : ((layoutFields gl_D1 0).map fun l => (l.1.toList.map fun (f : Field) => (f.name, f.isStatic, f.slot), l.2.1.toList)) = some ([("arg$1", false, 0), ("arg$2", false, 1)], [FieldType.int, FieldType.int]) := by decide +kernel
def gl_s2 : Lambda.Shape := { iface := "LosslessFabric$Edge", name := "is", sam := ⟨[.int, .int], some (.boolean)⟩, captured := [.object "LosslessFabric$State"], kind := 6, implClass := "LosslessFabric", implName := "lambda$paused$2", implDesc := ⟨[.object "LosslessFabric$State", .int, .int], some (.boolean)⟩, implItf := false, inst := ⟨[.int, .int], some (.boolean)⟩ }
def gl_x2 : MethodName := ⟨"LosslessFabric", "paused", "(LLosslessFabric$State;)LLosslessFabric$Cycle;"⟩
def gl_D2 : ClassFile := (gl_s2.file "LosslessFabric").getD { minorVersion := 0, majorVersion := 0, constantPool := #[], accessFlags := 0, thisClass := 0, superClass := 0, interfaces := #[], fields := #[], methods := #[], attributes := #[] }
theorem gl_f2 : gl_s2.file "LosslessFabric" = some gl_D2 := by
  have h : (gl_s2.file "LosslessFabric").isSome = true := by decide +kernel
  obtain ⟨x, hx⟩ := Option.isSome_iff_exists.mp h
  simp [gl_D2, hx]
def gl_m2 : Method := ((layoutMethods gl_D2).bind (·[1]?)).getD default
theorem gl_g2 : ∀ ms, layoutMethods gl_D2 = some ms → ms[1]? = some gl_m2 := by
  intro ms hms
  have h : ((layoutMethods gl_D2).bind (·[1]?)).isSome = true := by decide +kernel
  obtain ⟨x, hx⟩ := Option.isSome_iff_exists.mp h
  unfold gl_m2
  rw [hx]
  rw [hms] at hx
  exact hx
def gl_c2 : ByteArray := ⟨#[42, 180, 0, 15, 27, 28, 184, 0, 23, 172]⟩
theorem gl_h2 : (gl_m2.code.map fun c => (c.code.data, c.maxLocals)) = some (gl_c2.data, 3) := by decide +kernel
theorem gl_i2 : (gl_m2.accessFlags, gl_m2.name, gl_m2.sig.returnType) = (0x0001, "is", some FieldType.boolean) := by decide +kernel
theorem gl_p2 : gl_D2.constantPool[23]? = some (.methodref 19 22) ∧ gl_D2.constantPool.className? 19 = some "LosslessFabric" ∧ gl_D2.constantPool.nameAndType? 22 = some ("lambda$paused$2", "(LLosslessFabric$State;II)Z") := by decide +kernel
theorem gl_q2_0 : gl_D2.constantPool[15]? = some (.fieldref 2 14) ∧ gl_D2.constantPool.nameAndType? 14 = some ("arg$1", "LLosslessFabric$State;") := by decide +kernel
theorem gl_d2_0 : decode gl_c2 0 = .ok (.aload_n 0, 1) := by decide +kernel
theorem gl_d2_1 : decode gl_c2 1 = .ok (.getfield 15, 3) := by decide +kernel
theorem gl_d2_4 : decode gl_c2 4 = .ok (.iload_n 1, 1) := by decide +kernel
theorem gl_d2_5 : decode gl_c2 5 = .ok (.iload_n 2, 1) := by decide +kernel
theorem gl_d2_6 : decode gl_c2 6 = .ok (.invokestatic 23, 3) := by decide +kernel
theorem gl_d2_9 : decode gl_c2 9 = .ok (.ireturn, 1) := by decide +kernel
theorem gl_l2 : ((layoutFields gl_D2 0).map fun l => (l.1.toList.map fun (f : Field) => (f.name, f.isStatic, f.slot), l.2.1.toList)) = some ([("arg$1", false, 0)], [FieldType.object "LosslessFabric$State"]) := by decide +kernel
def gl_s3 : Lambda.Shape := { iface := "LosslessFabric$Edge", name := "is", sam := ⟨[.int, .int], some (.boolean)⟩, captured := [.object "LosslessFabric"], kind := 5, implClass := "LosslessFabric", implName := "lambda$inCycles$3", implDesc := ⟨[.int, .int], some (.boolean)⟩, implItf := false, inst := ⟨[.int, .int], some (.boolean)⟩ }
def gl_x3 : MethodName := ⟨"LosslessFabric", "inCycles", "(I)I"⟩
def gl_D3 : ClassFile := (gl_s3.file "LosslessFabric").getD { minorVersion := 0, majorVersion := 0, constantPool := #[], accessFlags := 0, thisClass := 0, superClass := 0, interfaces := #[], fields := #[], methods := #[], attributes := #[] }
theorem gl_f3 : gl_s3.file "LosslessFabric" = some gl_D3 := by
  have h : (gl_s3.file "LosslessFabric").isSome = true := by decide +kernel
  obtain ⟨x, hx⟩ := Option.isSome_iff_exists.mp h
  simp [gl_D3, hx]
def gl_m3 : Method := ((layoutMethods gl_D3).bind (·[1]?)).getD default
theorem gl_g3 : ∀ ms, layoutMethods gl_D3 = some ms → ms[1]? = some gl_m3 := by
  intro ms hms
  have h : ((layoutMethods gl_D3).bind (·[1]?)).isSome = true := by decide +kernel
  obtain ⟨x, hx⟩ := Option.isSome_iff_exists.mp h
  unfold gl_m3
  rw [hx]
  rw [hms] at hx
  exact hx
def gl_c3 : ByteArray := ⟨#[42, 180, 0, 15, 27, 28, 182, 0, 22, 172]⟩
theorem gl_h3 : (gl_m3.code.map fun c => (c.code.data, c.maxLocals)) = some (gl_c3.data, 3) := by decide +kernel
theorem gl_i3 : (gl_m3.accessFlags, gl_m3.name, gl_m3.sig.returnType) = (0x0001, "is", some FieldType.boolean) := by decide +kernel
theorem gl_p3 : gl_D3.constantPool[22]? = some (.methodref 19 21) ∧ gl_D3.constantPool.className? 19 = some "LosslessFabric" ∧ gl_D3.constantPool.nameAndType? 21 = some ("lambda$inCycles$3", "(II)Z") := by decide +kernel
theorem gl_q3_0 : gl_D3.constantPool[15]? = some (.fieldref 2 14) ∧ gl_D3.constantPool.nameAndType? 14 = some ("arg$1", "LLosslessFabric;") := by decide +kernel
theorem gl_d3_0 : decode gl_c3 0 = .ok (.aload_n 0, 1) := by decide +kernel
theorem gl_d3_1 : decode gl_c3 1 = .ok (.getfield 15, 3) := by decide +kernel
theorem gl_d3_4 : decode gl_c3 4 = .ok (.iload_n 1, 1) := by decide +kernel
theorem gl_d3_5 : decode gl_c3 5 = .ok (.iload_n 2, 1) := by decide +kernel
theorem gl_d3_6 : decode gl_c3 6 = .ok (.invokevirtual 22, 3) := by decide +kernel
theorem gl_d3_9 : decode gl_c3 9 = .ok (.ireturn, 1) := by decide +kernel
theorem gl_l3 : ((layoutFields gl_D3 0).map fun l => (l.1.toList.map fun (f : Field) => (f.name, f.isStatic, f.slot), l.2.1.toList)) = some ([("arg$1", false, 0)], [FieldType.object "LosslessFabric"]) := by decide +kernel
def gl_s4 : Lambda.Shape := { iface := "LosslessFabric$Goal", name := "is", sam := ⟨[.object "LosslessFabric$State"], some (.boolean)⟩, captured := [.object "LosslessFabric"], kind := 5, implClass := "LosslessFabric", implName := "lambda$stalls$4", implDesc := ⟨[.object "LosslessFabric$State"], some (.boolean)⟩, implItf := false, inst := ⟨[.object "LosslessFabric$State"], some (.boolean)⟩ }
def gl_x4 : MethodName := ⟨"LosslessFabric", "stalls", "()I"⟩
def gl_D4 : ClassFile := (gl_s4.file "LosslessFabric").getD { minorVersion := 0, majorVersion := 0, constantPool := #[], accessFlags := 0, thisClass := 0, superClass := 0, interfaces := #[], fields := #[], methods := #[], attributes := #[] }
theorem gl_f4 : gl_s4.file "LosslessFabric" = some gl_D4 := by
  have h : (gl_s4.file "LosslessFabric").isSome = true := by decide +kernel
  obtain ⟨x, hx⟩ := Option.isSome_iff_exists.mp h
  simp [gl_D4, hx]
def gl_m4 : Method := ((layoutMethods gl_D4).bind (·[1]?)).getD default
theorem gl_g4 : ∀ ms, layoutMethods gl_D4 = some ms → ms[1]? = some gl_m4 := by
  intro ms hms
  have h : ((layoutMethods gl_D4).bind (·[1]?)).isSome = true := by decide +kernel
  obtain ⟨x, hx⟩ := Option.isSome_iff_exists.mp h
  unfold gl_m4
  rw [hx]
  rw [hms] at hx
  exact hx
def gl_c4 : ByteArray := ⟨#[42, 180, 0, 15, 43, 182, 0, 22, 172]⟩
theorem gl_h4 : (gl_m4.code.map fun c => (c.code.data, c.maxLocals)) = some (gl_c4.data, 2) := by decide +kernel
theorem gl_i4 : (gl_m4.accessFlags, gl_m4.name, gl_m4.sig.returnType) = (0x0001, "is", some FieldType.boolean) := by decide +kernel
theorem gl_p4 : gl_D4.constantPool[22]? = some (.methodref 19 21) ∧ gl_D4.constantPool.className? 19 = some "LosslessFabric" ∧ gl_D4.constantPool.nameAndType? 21 = some ("lambda$stalls$4", "(LLosslessFabric$State;)Z") := by decide +kernel
theorem gl_q4_0 : gl_D4.constantPool[15]? = some (.fieldref 2 14) ∧ gl_D4.constantPool.nameAndType? 14 = some ("arg$1", "LLosslessFabric;") := by decide +kernel
theorem gl_d4_0 : decode gl_c4 0 = .ok (.aload_n 0, 1) := by decide +kernel
theorem gl_d4_1 : decode gl_c4 1 = .ok (.getfield 15, 3) := by decide +kernel
theorem gl_d4_4 : decode gl_c4 4 = .ok (.aload_n 1, 1) := by decide +kernel
theorem gl_d4_5 : decode gl_c4 5 = .ok (.invokevirtual 22, 3) := by decide +kernel
theorem gl_d4_8 : decode gl_c4 8 = .ok (.ireturn, 1) := by decide +kernel
theorem gl_l4 : ((layoutFields gl_D4 0).map fun l => (l.1.toList.map fun (f : Field) => (f.name, f.isStatic, f.slot), l.2.1.toList)) = some ([("arg$1", false, 0)], [FieldType.object "LosslessFabric"]) := by decide +kernel
def gl_s5 : Lambda.Shape := { iface := "LosslessFabric$Goal", name := "is", sam := ⟨[.object "LosslessFabric$State"], some (.boolean)⟩, captured := [], kind := 6, implClass := "LosslessFabric", implName := "lambda$quiet$5", implDesc := ⟨[.object "LosslessFabric$State"], some (.boolean)⟩, implItf := false, inst := ⟨[.object "LosslessFabric$State"], some (.boolean)⟩ }
def gl_x5 : MethodName := ⟨"LosslessFabric", "quiet", "()I"⟩
def gl_D5 : ClassFile := (gl_s5.file "LosslessFabric").getD { minorVersion := 0, majorVersion := 0, constantPool := #[], accessFlags := 0, thisClass := 0, superClass := 0, interfaces := #[], fields := #[], methods := #[], attributes := #[] }
theorem gl_f5 : gl_s5.file "LosslessFabric" = some gl_D5 := by
  have h : (gl_s5.file "LosslessFabric").isSome = true := by decide +kernel
  obtain ⟨x, hx⟩ := Option.isSome_iff_exists.mp h
  simp [gl_D5, hx]
def gl_m5 : Method := ((layoutMethods gl_D5).bind (·[1]?)).getD default
theorem gl_g5 : ∀ ms, layoutMethods gl_D5 = some ms → ms[1]? = some gl_m5 := by
  intro ms hms
  have h : ((layoutMethods gl_D5).bind (·[1]?)).isSome = true := by decide +kernel
  obtain ⟨x, hx⟩ := Option.isSome_iff_exists.mp h
  unfold gl_m5
  rw [hx]
  rw [hms] at hx
  exact hx
def gl_c5 : ByteArray := ⟨#[43, 184, 0, 17, 172]⟩
theorem gl_h5 : (gl_m5.code.map fun c => (c.code.data, c.maxLocals)) = some (gl_c5.data, 2) := by decide +kernel
theorem gl_i5 : (gl_m5.accessFlags, gl_m5.name, gl_m5.sig.returnType) = (0x0001, "is", some FieldType.boolean) := by decide +kernel
theorem gl_p5 : gl_D5.constantPool[17]? = some (.methodref 14 16) ∧ gl_D5.constantPool.className? 14 = some "LosslessFabric" ∧ gl_D5.constantPool.nameAndType? 16 = some ("lambda$quiet$5", "(LLosslessFabric$State;)Z") := by decide +kernel
theorem gl_d5_0 : decode gl_c5 0 = .ok (.aload_n 1, 1) := by decide +kernel
theorem gl_d5_1 : decode gl_c5 1 = .ok (.invokestatic 17, 3) := by decide +kernel
theorem gl_d5_4 : decode gl_c5 4 = .ok (.ireturn, 1) := by decide +kernel
theorem gl_l5 : ((layoutFields gl_D5 0).map fun l => (l.1.toList.map fun (f : Field) => (f.name, f.isStatic, f.slot), l.2.1.toList)) = some ([], []) := by decide +kernel
