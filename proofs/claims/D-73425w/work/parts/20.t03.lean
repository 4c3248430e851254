def fm_once_J14 (a1 : Int32)  : TM Unit :=
   tw_bd (tw_sz 4 a1 (1 : Int32)) fun _ =>
  tw_bd (fm_goOn) fun _ =>
  tw_rt ()
def fm_once (a1 : Int32) : TM Unit :=
   tw_bd (tw_lz 4 a1) fun x1 =>
  if x1 = 0 then (fm_once_J14 a1)
  else (tw_bd (fm_wrong (3 : Int32)) fun _ =>
 
  fm_once_J14 a1)
theorem hdX6_once : yX6_once.cls = "LosslessFabricModel" ∧ (yX6_once.cls ≠ "java/lang/invoke/MethodHandle" ∧ yX6_once.cls ≠ "java/lang/invoke/VarHandle" ∧ (parseMethodDescriptor yX6_once.desc).map (fun d => d.parameters.length) = some 1) := by decide +kernel
set_option maxHeartbeats 4000000 in
theorem mm_once {l : Launch} {X : (Nat → Nat) × (Nat → Nat) × Nat} {D : va_G} {dA : Nat → ClassId} {o : Nat} {ad : Nat → Nat} {A : Nat → Prop} (hD : tw_D o ad A) (a1 : Int32) (t0 tZ : TS) (r : Unit) (hf : fm_once a1 t0 = some (r, tZ)) : Met l yX6_once (ws_ yX6_once cX6_once 2 (none)) ({ frames := 8, cells := 0, slots := 0, locals := 189 }) (va_Pc [.ref o, .int a1] (tw_W X A D dA o ad t0)) (tw_Qv D dA o ad A tZ) 0 0 A := by
  refine Met.ofW (cc := cX6_once) (maxL := 2) (ret := none) (by decide) rfl ?_
  intro p e s m args below meth c s₁ B hml hv
  obtain ⟨rfl, hP, hK, hX⟩ := hv
  have hx := B.exec
  have hb := B.bytes
  have hr := B.returns
  have hts := atoms_spec (ws := (ws_ yX6_once cX6_once 2 (none))) B.pre
  have hts : ∀ w ∈ lw_all, w.before _ s = true := fun w h => hts w (List.mem_cons_of_mem _ h)
  have hown : s.vm.findClass "LosslessFabricModel" = some m.cls := findClass_of_methodNamed B.named
  have hlk := B.notSynchronized
  have C : tw_C X p s m _ c cX6_once D dA o ad A := ⟨hx, hb, hts, hown, hK, hD, hX⟩
  have hS : va_S A s.heap s.heap [] := va_S.rf
  have hl := lv_entry ([.ref o, .int a1]) (n := 2) (Nat.le_of_ble_eq_true rfl)
  rw [lg_entry_eq]
  generalize (lg_sl ([.ref o, .int a1]) ++ List.replicate (2 - (lg_sl ([.ref o, .int a1])).length) Slot.unset).toArray = ls at hl ⊢
  have hl : lv_has ls 2 [(0, .ref o), (1, .int a1)] := hl
  unfold fm_once at hf
  refine lv_aload_n hx hb dX6_once_0 rfl (lv_at hl 0 rfl) ?_
  refine tw_aget (k := 4) C hP (by decide) (by decide) q1380 dX6_once_1 ?_
  refine lv_iload_n hx hb dX6_once_4 rfl (lv_at hl 1 rfl) ?_
  obtain ⟨x1, t2, e3, hf⟩ := tw_bdE hf
  refine tw_zald C hP e3 dX6_once_5 (fun hP => ?_)
  have k14 : ∀  (t4 : TS) (H : Heap) (locs : List Loc) (ls : Array Slot), tw_P D dA o ad t4 H → va_S A s.heap H locs → lv_has ls 2 [(0, .ref o), (1, .int a1)] → fm_once_J14 a1  t4 = some (r, tZ) → W p l e (headSpec (ws_ yX6_once cX6_once 2 (none)) ({ frames := 8, cells := 0, slots := 0, locals := 189 })).room s m ([.ref o, .int a1] : List Value).toArray below meth c H locs 0 0 (MQ below (tw_Qv D dA o ad A tZ) ([.ref o, .int a1] : List Value).toArray s 0 0 A) (F0 m 14 ls []) := by
    intro t4 H locs ls hP hS hl hf
    unfold fm_once_J14 at hf
    refine lv_aload_n hx hb dX6_once_14 rfl (lv_at hl 0 rfl) ?_
    refine tw_aget (k := 4) C hP (by decide) (by decide) q1380 dX6_once_15 ?_
    refine lv_iload_n hx hb dX6_once_18 rfl (lv_at hl 1 rfl) ?_
    refine lv_iconst (v := (1 : Int32)) hx hb dX6_once_19 (by decide) ?_
    obtain ⟨x5, t6, e7, hf⟩ := tw_bdE hf
    refine tw_zast C hP hS e7 dX6_once_20 (fun H locs hP hS => ?_)
    refine lv_aload_n hx hb dX6_once_21 rfl (lv_at hl 0 rfl) ?_
    obtain ⟨x8, t9, e10, hf⟩ := tw_bdE hf
    refine tw_cVv (As := []) (rest := []) C hml hP hS (mm_goOn (l := l) (X := X) (D := D) (dA := dA) hD _ _ _ e10) (cwV 0 hts (lw_V q1583 q1585 qs54 q106 q1586) rfl rfl rfl hdX6_goOn ⟨Nat.le_of_ble_eq_true rfl, Nat.le_of_ble_eq_true rfl⟩) rfl hl.1 rfl (Nat.le_of_ble_eq_true rfl) dX6_once_22 (fun H locs hP hS => ?_)
    exact tw_iretv (tw_rtE hf).2 C hr hP hS hlk dX6_once_25
  refine lv_if_eq (tgt := 14) hx hb dX6_once_6 (by decide) (fun hc => ?_) (fun hc => ?_)
  · have hf := tw_ifT hc hf
    exact k14 _ _ _ _ hP hS (lv_sub hl [0, 1] rfl) hf
  · have hf := tw_ifF hc hf
    refine lv_aload_n hx hb dX6_once_9 rfl (lv_at hl 0 rfl) ?_
    refine lv_iconst (v := (3 : Int32)) hx hb dX6_once_10 (by decide) ?_
    obtain ⟨x11, t12, e13, hf⟩ := tw_bdE hf
    refine tw_cVv (As := [.int (3 : Int32)]) (rest := []) C hml hP hS (mm_wrong (l := l) (X := X) (D := D) (dA := dA) hD _ _ _ _ e13) (cwV 1 hts (lw_V q1571 q1573 qs51 q106 q1574) rfl rfl rfl hdX6_wrong ⟨Nat.le_of_ble_eq_true rfl, Nat.le_of_ble_eq_true rfl⟩) rfl hl.1 rfl (Nat.le_of_ble_eq_true rfl) dX6_once_11 (fun H locs hP hS => ?_)
    exact k14 _ _ _ _ hP hS (lv_sub hl [0, 1] rfl) hf
def fm_readSample  : TM Unit :=
  tw_bd (fm_once (2 : Int32)) fun _ =>
  tw_bd (fm_numeral (1 : Int32) (999 : Int32)) fun x4 =>
  tw_bd (fm_reads (2 : Int32) x4) fun _ =>
  tw_bd (fm_numeral (1 : Int32) (500 : Int32)) fun x10 =>
  tw_bd (fm_reads (3 : Int32) x10) fun _ =>
  tw_bd (fm_numeral (0 : Int32) (4 : Int32)) fun x16 =>
  tw_bd (fm_reads (4 : Int32) x16) fun _ =>
  tw_rt ()
theorem hdX6_readSample : yX6_readSample.cls = "LosslessFabricModel" ∧ (yX6_readSample.cls ≠ "java/lang/invoke/MethodHandle" ∧ yX6_readSample.cls ≠ "java/lang/invoke/VarHandle" ∧ (parseMethodDescriptor yX6_readSample.desc).map (fun d => d.parameters.length) = some 0) := by decide +kernel
set_option maxHeartbeats 4000000 in
theorem mm_readSample {l : Launch} {X : (Nat → Nat) × (Nat → Nat) × Nat} {D : va_G} {dA : Nat → ClassId} {o : Nat} {ad : Nat → Nat} {A : Nat → Prop} (hD : tw_D o ad A)  (t0 tZ : TS) (r : Unit) (hf : fm_readSample  t0 = some (r, tZ)) : Met l yX6_readSample (ws_ yX6_readSample cX6_readSample 1 (none)) ({ frames := 9, cells := 0, slots := 0, locals := 212 }) (va_Pc [.ref o] (tw_W X A D dA o ad t0)) (tw_Qv D dA o ad A tZ) 0 0 A := by
  refine Met.ofW (cc := cX6_readSample) (maxL := 1) (ret := none) (by decide) rfl ?_
  intro p e s m args below meth c s₁ B hml hv
  obtain ⟨rfl, hP, hK, hX⟩ := hv
  have hx := B.exec
  have hb := B.bytes
  have hr := B.returns
  have hts := atoms_spec (ws := (ws_ yX6_readSample cX6_readSample 1 (none))) B.pre
  have hts : ∀ w ∈ lw_all, w.before _ s = true := fun w h => hts w (List.mem_cons_of_mem _ h)
  have hown : s.vm.findClass "LosslessFabricModel" = some m.cls := findClass_of_methodNamed B.named
  have hlk := B.notSynchronized
  have C : tw_C X p s m _ c cX6_readSample D dA o ad A := ⟨hx, hb, hts, hown, hK, hD, hX⟩
  have hS : va_S A s.heap s.heap [] := va_S.rf
  have hl := lv_entry ([.ref o]) (n := 1) (Nat.le_of_ble_eq_true rfl)
  rw [lg_entry_eq]
  generalize (lg_sl ([.ref o]) ++ List.replicate (1 - (lg_sl ([.ref o])).length) Slot.unset).toArray = ls at hl ⊢
  have hl : lv_has ls 1 [(0, .ref o)] := hl
  unfold fm_readSample at hf
  refine lv_aload_n hx hb dX6_readSample_0 rfl (lv_at hl 0 rfl) ?_
  refine lv_iconst (v := (2 : Int32)) hx hb dX6_readSample_1 (by decide) ?_
  obtain ⟨x1, t2, e3, hf⟩ := tw_bdE hf
  refine tw_cVv (As := [.int (2 : Int32)]) (rest := []) C hml hP hS (mm_once (l := l) (X := X) (D := D) (dA := dA) hD _ _ _ _ e3) (cwV 1 hts (lw_V q1610 q1612 qs60 q106 q1613) rfl rfl rfl hdX6_once ⟨Nat.le_of_ble_eq_true rfl, Nat.le_of_ble_eq_true rfl⟩) rfl hl.1 rfl (Nat.le_of_ble_eq_true rfl) dX6_readSample_2 (fun H locs hP hS => ?_)
  refine lv_aload_n hx hb dX6_readSample_5 rfl (lv_at hl 0 rfl) ?_
  refine lv_iconst (v := (2 : Int32)) hx hb dX6_readSample_6 (by decide) ?_
  refine lv_aload_n hx hb dX6_readSample_7 rfl (lv_at hl 0 rfl) ?_
  refine lv_iconst (v := (1 : Int32)) hx hb dX6_readSample_8 (by decide) ?_
  refine lv_sipush (v := (999 : Int32)) hx hb dX6_readSample_9 (by decide) ?_
  obtain ⟨x4, t5, e6, hf⟩ := tw_bdE hf
  refine tw_cVi (As := [.int (1 : Int32), .int (999 : Int32)]) (rest := [.int (2 : Int32), .ref o]) C hml hP hS (mm_numeral (l := l) (X := X) (D := D) (dA := dA) hD _ _ _ _ _ e6) (cwV 2 hts (lw_V q1590 q1592 qs55 q106 q1593) rfl rfl rfl hdX6_numeral ⟨Nat.le_of_ble_eq_true rfl, Nat.le_of_ble_eq_true rfl⟩) rfl hl.1 rfl (Nat.le_of_ble_eq_true rfl) dX6_readSample_12 (fun H locs hP hS => ?_)
  obtain ⟨x7, t8, e9, hf⟩ := tw_bdE hf
  refine tw_cVv (As := [.int (2 : Int32), .int x4]) (rest := []) C hml hP hS (mm_reads (l := l) (X := X) (D := D) (dA := dA) hD _ _ _ _ _ e9) (cwV 2 hts (lw_V q1352 q1354 qs39 q106 q1355) rfl rfl rfl hdX6_reads ⟨Nat.le_of_ble_eq_true rfl, Nat.le_of_ble_eq_true rfl⟩) rfl hl.1 rfl (Nat.le_of_ble_eq_true rfl) dX6_readSample_15 (fun H locs hP hS => ?_)
  refine lv_aload_n hx hb dX6_readSample_18 rfl (lv_at hl 0 rfl) ?_
  refine lv_iconst (v := (3 : Int32)) hx hb dX6_readSample_19 (by decide) ?_
  refine lv_aload_n hx hb dX6_readSample_20 rfl (lv_at hl 0 rfl) ?_
  refine lv_iconst (v := (1 : Int32)) hx hb dX6_readSample_21 (by decide) ?_
  refine lv_sipush (v := (500 : Int32)) hx hb dX6_readSample_22 (by decide) ?_
  obtain ⟨x10, t11, e12, hf⟩ := tw_bdE hf
  refine tw_cVi (As := [.int (1 : Int32), .int (500 : Int32)]) (rest := [.int (3 : Int32), .ref o]) C hml hP hS (mm_numeral (l := l) (X := X) (D := D) (dA := dA) hD _ _ _ _ _ e12) (cwV 2 hts (lw_V q1590 q1592 qs55 q106 q1593) rfl rfl rfl hdX6_numeral ⟨Nat.le_of_ble_eq_true rfl, Nat.le_of_ble_eq_true rfl⟩) rfl hl.1 rfl (Nat.le_of_ble_eq_true rfl) dX6_readSample_25 (fun H locs hP hS => ?_)
  obtain ⟨x13, t14, e15, hf⟩ := tw_bdE hf
  refine tw_cVv (As := [.int (3 : Int32), .int x10]) (rest := []) C hml hP hS (mm_reads (l := l) (X := X) (D := D) (dA := dA) hD _ _ _ _ _ e15) (cwV 2 hts (lw_V q1352 q1354 qs39 q106 q1355) rfl rfl rfl hdX6_reads ⟨Nat.le_of_ble_eq_true rfl, Nat.le_of_ble_eq_true rfl⟩) rfl hl.1 rfl (Nat.le_of_ble_eq_true rfl) dX6_readSample_28 (fun H locs hP hS => ?_)
  refine lv_aload_n hx hb dX6_readSample_31 rfl (lv_at hl 0 rfl) ?_
  refine lv_iconst (v := (4 : Int32)) hx hb dX6_readSample_32 (by decide) ?_
  refine lv_aload_n hx hb dX6_readSample_33 rfl (lv_at hl 0 rfl) ?_
  refine lv_iconst (v := (0 : Int32)) hx hb dX6_readSample_34 (by decide) ?_
  refine lv_iconst (v := (4 : Int32)) hx hb dX6_readSample_35 (by decide) ?_
  obtain ⟨x16, t17, e18, hf⟩ := tw_bdE hf
  refine tw_cVi (As := [.int (0 : Int32), .int (4 : Int32)]) (rest := [.int (4 : Int32), .ref o]) C hml hP hS (mm_numeral (l := l) (X := X) (D := D) (dA := dA) hD _ _ _ _ _ e18) (cwV 2 hts (lw_V q1590 q1592 qs55 q106 q1593) rfl rfl rfl hdX6_numeral ⟨Nat.le_of_ble_eq_true rfl, Nat.le_of_ble_eq_true rfl⟩) rfl hl.1 rfl (Nat.le_of_ble_eq_true rfl) dX6_readSample_36 (fun H locs hP hS => ?_)
  obtain ⟨x19, t20, e21, hf⟩ := tw_bdE hf
  refine tw_cVv (As := [.int (4 : Int32), .int x16]) (rest := []) C hml hP hS (mm_reads (l := l) (X := X) (D := D) (dA := dA) hD _ _ _ _ _ e21) (cwV 2 hts (lw_V q1352 q1354 qs39 q106 q1355) rfl rfl rfl hdX6_reads ⟨Nat.le_of_ble_eq_true rfl, Nat.le_of_ble_eq_true rfl⟩) rfl hl.1 rfl (Nat.le_of_ble_eq_true rfl) dX6_readSample_39 (fun H locs hP hS => ?_)
  exact tw_iretv (tw_rtE hf).2 C hr hP hS hlk dX6_readSample_42
def fm_readSeed  : TM Unit :=
  tw_bd (fm_once (5 : Int32)) fun _ =>
  tw_bd (fm_numeral (0 : Int32) (99999 : Int32)) fun x4 =>
  tw_bd (fm_reads (8 : Int32) x4) fun _ =>
  tw_rt ()
theorem hdX6_readSeed : yX6_readSeed.cls = "LosslessFabricModel" ∧ (yX6_readSeed.cls ≠ "java/lang/invoke/MethodHandle" ∧ yX6_readSeed.cls ≠ "java/lang/invoke/VarHandle" ∧ (parseMethodDescriptor yX6_readSeed.desc).map (fun d => d.parameters.length) = some 0) := by decide +kernel
set_option maxHeartbeats 4000000 in
theorem mm_readSeed {l : Launch} {X : (Nat → Nat) × (Nat → Nat) × Nat} {D : va_G} {dA : Nat → ClassId} {o : Nat} {ad : Nat → Nat} {A : Nat → Prop} (hD : tw_D o ad A)  (t0 tZ : TS) (r : Unit) (hf : fm_readSeed  t0 = some (r, tZ)) : Met l yX6_readSeed (ws_ yX6_readSeed cX6_readSeed 1 (none)) ({ frames := 9, cells := 0, slots := 0, locals := 212 }) (va_Pc [.ref o] (tw_W X A D dA o ad t0)) (tw_Qv D dA o ad A tZ) 0 0 A := by
  refine Met.ofW (cc := cX6_readSeed) (maxL := 1) (ret := none) (by decide) rfl ?_
  intro p e s m args below meth c s₁ B hml hv
  obtain ⟨rfl, hP, hK, hX⟩ := hv
  have hx := B.exec
  have hb := B.bytes
  have hr := B.returns
  have hts := atoms_spec (ws := (ws_ yX6_readSeed cX6_readSeed 1 (none))) B.pre
  have hts : ∀ w ∈ lw_all, w.before _ s = true := fun w h => hts w (List.mem_cons_of_mem _ h)
  have hown : s.vm.findClass "LosslessFabricModel" = some m.cls := findClass_of_methodNamed B.named
  have hlk := B.notSynchronized
  have C : tw_C X p s m _ c cX6_readSeed D dA o ad A := ⟨hx, hb, hts, hown, hK, hD, hX⟩
  have hS : va_S A s.heap s.heap [] := va_S.rf
  have hl := lv_entry ([.ref o]) (n := 1) (Nat.le_of_ble_eq_true rfl)
  rw [lg_entry_eq]
  generalize (lg_sl ([.ref o]) ++ List.replicate (1 - (lg_sl ([.ref o])).length) Slot.unset).toArray = ls at hl ⊢
  have hl : lv_has ls 1 [(0, .ref o)] := hl
  unfold fm_readSeed at hf
  refine lv_aload_n hx hb dX6_readSeed_0 rfl (lv_at hl 0 rfl) ?_
  refine lv_iconst (v := (5 : Int32)) hx hb dX6_readSeed_1 (by decide) ?_
  obtain ⟨x1, t2, e3, hf⟩ := tw_bdE hf
  refine tw_cVv (As := [.int (5 : Int32)]) (rest := []) C hml hP hS (mm_once (l := l) (X := X) (D := D) (dA := dA) hD _ _ _ _ e3) (cwV 1 hts (lw_V q1610 q1612 qs60 q106 q1613) rfl rfl rfl hdX6_once ⟨Nat.le_of_ble_eq_true rfl, Nat.le_of_ble_eq_true rfl⟩) rfl hl.1 rfl (Nat.le_of_ble_eq_true rfl) dX6_readSeed_2 (fun H locs hP hS => ?_)
  refine lv_aload_n hx hb dX6_readSeed_5 rfl (lv_at hl 0 rfl) ?_
  refine lv_bipush (v := (8 : Int32)) hx hb dX6_readSeed_6 (by decide) ?_
  refine lv_aload_n hx hb dX6_readSeed_8 rfl (lv_at hl 0 rfl) ?_
  refine lv_iconst (v := (0 : Int32)) hx hb dX6_readSeed_9 (by decide) ?_
  refine lv_ldc hx hb hown (hts _ q1566) dX6_readSeed_10 ?_
  obtain ⟨x4, t5, e6, hf⟩ := tw_bdE hf
  refine tw_cVi (As := [.int (0 : Int32), .int (99999 : Int32)]) (rest := [.int (8 : Int32), .ref o]) C hml hP hS (mm_numeral (l := l) (X := X) (D := D) (dA := dA) hD _ _ _ _ _ e6) (cwV 2 hts (lw_V q1590 q1592 qs55 q106 q1593) rfl rfl rfl hdX6_numeral ⟨Nat.le_of_ble_eq_true rfl, Nat.le_of_ble_eq_true rfl⟩) rfl hl.1 rfl (Nat.le_of_ble_eq_true rfl) dX6_readSeed_12 (fun H locs hP hS => ?_)
  obtain ⟨x7, t8, e9, hf⟩ := tw_bdE hf
  refine tw_cVv (As := [.int (8 : Int32), .int x4]) (rest := []) C hml hP hS (mm_reads (l := l) (X := X) (D := D) (dA := dA) hD _ _ _ _ _ e9) (cwV 2 hts (lw_V q1352 q1354 qs39 q106 q1355) rfl rfl rfl hdX6_reads ⟨Nat.le_of_ble_eq_true rfl, Nat.le_of_ble_eq_true rfl⟩) rfl hl.1 rfl (Nat.le_of_ble_eq_true rfl) dX6_readSeed_15 (fun H locs hP hS => ?_)
  exact tw_iretv (tw_rtE hf).2 C hr hP hS hlk dX6_readSeed_18
def fm_readStage  : TM Unit :=
  tw_bd (fm_once (3 : Int32)) fun _ =>
  tw_bd (fm_numeral (1 : Int32) (999 : Int32)) fun x4 =>
  tw_bd (fm_reads (5 : Int32) x4) fun _ =>
  tw_bd (fm_numeral (1 : Int32) (99 : Int32)) fun x10 =>
  tw_bd (fm_reads (6 : Int32) x10) fun _ =>
  tw_bd (fm_numeral (1 : Int32) (99 : Int32)) fun x16 =>
  tw_bd (fm_reads (7 : Int32) x16) fun _ =>
  tw_rt ()
theorem hdX6_readStage : yX6_readStage.cls = "LosslessFabricModel" ∧ (yX6_readStage.cls ≠ "java/lang/invoke/MethodHandle" ∧ yX6_readStage.cls ≠ "java/lang/invoke/VarHandle" ∧ (parseMethodDescriptor yX6_readStage.desc).map (fun d => d.parameters.length) = some 0) := by decide +kernel
set_option maxHeartbeats 4000000 in
theorem mm_readStage {l : Launch} {X : (Nat → Nat) × (Nat → Nat) × Nat} {D : va_G} {dA : Nat → ClassId} {o : Nat} {ad : Nat → Nat} {A : Nat → Prop} (hD : tw_D o ad A)  (t0 tZ : TS) (r : Unit) (hf : fm_readStage  t0 = some (r, tZ)) : Met l yX6_readStage (ws_ yX6_readStage cX6_readStage 1 (none)) ({ frames := 9, cells := 0, slots := 0, locals := 212 }) (va_Pc [.ref o] (tw_W X A D dA o ad t0)) (tw_Qv D dA o ad A tZ) 0 0 A := by
  refine Met.ofW (cc := cX6_readStage) (maxL := 1) (ret := none) (by decide) rfl ?_
  intro p e s m args below meth c s₁ B hml hv
  obtain ⟨rfl, hP, hK, hX⟩ := hv
  have hx := B.exec
  have hb := B.bytes
  have hr := B.returns
  have hts := atoms_spec (ws := (ws_ yX6_readStage cX6_readStage 1 (none))) B.pre
  have hts : ∀ w ∈ lw_all, w.before _ s = true := fun w h => hts w (List.mem_cons_of_mem _ h)
  have hown : s.vm.findClass "LosslessFabricModel" = some m.cls := findClass_of_methodNamed B.named
  have hlk := B.notSynchronized
  have C : tw_C X p s m _ c cX6_readStage D dA o ad A := ⟨hx, hb, hts, hown, hK, hD, hX⟩
  have hS : va_S A s.heap s.heap [] := va_S.rf
  have hl := lv_entry ([.ref o]) (n := 1) (Nat.le_of_ble_eq_true rfl)
  rw [lg_entry_eq]
  generalize (lg_sl ([.ref o]) ++ List.replicate (1 - (lg_sl ([.ref o])).length) Slot.unset).toArray = ls at hl ⊢
  have hl : lv_has ls 1 [(0, .ref o)] := hl
  unfold fm_readStage at hf
  refine lv_aload_n hx hb dX6_readStage_0 rfl (lv_at hl 0 rfl) ?_
  refine lv_iconst (v := (3 : Int32)) hx hb dX6_readStage_1 (by decide) ?_
  obtain ⟨x1, t2, e3, hf⟩ := tw_bdE hf
  refine tw_cVv (As := [.int (3 : Int32)]) (rest := []) C hml hP hS (mm_once (l := l) (X := X) (D := D) (dA := dA) hD _ _ _ _ e3) (cwV 1 hts (lw_V q1610 q1612 qs60 q106 q1613) rfl rfl rfl hdX6_once ⟨Nat.le_of_ble_eq_true rfl, Nat.le_of_ble_eq_true rfl⟩) rfl hl.1 rfl (Nat.le_of_ble_eq_true rfl) dX6_readStage_2 (fun H locs hP hS => ?_)
  refine lv_aload_n hx hb dX6_readStage_5 rfl (lv_at hl 0 rfl) ?_
  refine lv_iconst (v := (5 : Int32)) hx hb dX6_readStage_6 (by decide) ?_
  refine lv_aload_n hx hb dX6_readStage_7 rfl (lv_at hl 0 rfl) ?_
  refine lv_iconst (v := (1 : Int32)) hx hb dX6_readStage_8 (by decide) ?_
  refine lv_sipush (v := (999 : Int32)) hx hb dX6_readStage_9 (by decide) ?_
  obtain ⟨x4, t5, e6, hf⟩ := tw_bdE hf
  refine tw_cVi (As := [.int (1 : Int32), .int (999 : Int32)]) (rest := [.int (5 : Int32), .ref o]) C hml hP hS (mm_numeral (l := l) (X := X) (D := D) (dA := dA) hD _ _ _ _ _ e6) (cwV 2 hts (lw_V q1590 q1592 qs55 q106 q1593) rfl rfl rfl hdX6_numeral ⟨Nat.le_of_ble_eq_true rfl, Nat.le_of_ble_eq_true rfl⟩) rfl hl.1 rfl (Nat.le_of_ble_eq_true rfl) dX6_readStage_12 (fun H locs hP hS => ?_)
  obtain ⟨x7, t8, e9, hf⟩ := tw_bdE hf
  refine tw_cVv (As := [.int (5 : Int32), .int x4]) (rest := []) C hml hP hS (mm_reads (l := l) (X := X) (D := D) (dA := dA) hD _ _ _ _ _ e9) (cwV 2 hts (lw_V q1352 q1354 qs39 q106 q1355) rfl rfl rfl hdX6_reads ⟨Nat.le_of_ble_eq_true rfl, Nat.le_of_ble_eq_true rfl⟩) rfl hl.1 rfl (Nat.le_of_ble_eq_true rfl) dX6_readStage_15 (fun H locs hP hS => ?_)
  refine lv_aload_n hx hb dX6_readStage_18 rfl (lv_at hl 0 rfl) ?_
  refine lv_bipush (v := (6 : Int32)) hx hb dX6_readStage_19 (by decide) ?_
  refine lv_aload_n hx hb dX6_readStage_21 rfl (lv_at hl 0 rfl) ?_
  refine lv_iconst (v := (1 : Int32)) hx hb dX6_readStage_22 (by decide) ?_
  refine lv_bipush (v := (99 : Int32)) hx hb dX6_readStage_23 (by decide) ?_
  obtain ⟨x10, t11, e12, hf⟩ := tw_bdE hf
  refine tw_cVi (As := [.int (1 : Int32), .int (99 : Int32)]) (rest := [.int (6 : Int32), .ref o]) C hml hP hS (mm_numeral (l := l) (X := X) (D := D) (dA := dA) hD _ _ _ _ _ e12) (cwV 2 hts (lw_V q1590 q1592 qs55 q106 q1593) rfl rfl rfl hdX6_numeral ⟨Nat.le_of_ble_eq_true rfl, Nat.le_of_ble_eq_true rfl⟩) rfl hl.1 rfl (Nat.le_of_ble_eq_true rfl) dX6_readStage_25 (fun H locs hP hS => ?_)
  obtain ⟨x13, t14, e15, hf⟩ := tw_bdE hf
  refine tw_cVv (As := [.int (6 : Int32), .int x10]) (rest := []) C hml hP hS (mm_reads (l := l) (X := X) (D := D) (dA := dA) hD _ _ _ _ _ e15) (cwV 2 hts (lw_V q1352 q1354 qs39 q106 q1355) rfl rfl rfl hdX6_reads ⟨Nat.le_of_ble_eq_true rfl, Nat.le_of_ble_eq_true rfl⟩) rfl hl.1 rfl (Nat.le_of_ble_eq_true rfl) dX6_readStage_28 (fun H locs hP hS => ?_)
  refine lv_aload_n hx hb dX6_readStage_31 rfl (lv_at hl 0 rfl) ?_
  refine lv_bipush (v := (7 : Int32)) hx hb dX6_readStage_32 (by decide) ?_
  refine lv_aload_n hx hb dX6_readStage_34 rfl (lv_at hl 0 rfl) ?_
  refine lv_iconst (v := (1 : Int32)) hx hb dX6_readStage_35 (by decide) ?_
  refine lv_bipush (v := (99 : Int32)) hx hb dX6_readStage_36 (by decide) ?_
  obtain ⟨x16, t17, e18, hf⟩ := tw_bdE hf
  refine tw_cVi (As := [.int (1 : Int32), .int (99 : Int32)]) (rest := [.int (7 : Int32), .ref o]) C hml hP hS (mm_numeral (l := l) (X := X) (D := D) (dA := dA) hD _ _ _ _ _ e18) (cwV 2 hts (lw_V q1590 q1592 qs55 q106 q1593) rfl rfl rfl hdX6_numeral ⟨Nat.le_of_ble_eq_true rfl, Nat.le_of_ble_eq_true rfl⟩) rfl hl.1 rfl (Nat.le_of_ble_eq_true rfl) dX6_readStage_38 (fun H locs hP hS => ?_)
  obtain ⟨x19, t20, e21, hf⟩ := tw_bdE hf
  refine tw_cVv (As := [.int (7 : Int32), .int x16]) (rest := []) C hml hP hS (mm_reads (l := l) (X := X) (D := D) (dA := dA) hD _ _ _ _ _ e21) (cwV 2 hts (lw_V q1352 q1354 qs39 q106 q1355) rfl rfl rfl hdX6_reads ⟨Nat.le_of_ble_eq_true rfl, Nat.le_of_ble_eq_true rfl⟩) rfl hl.1 rfl (Nat.le_of_ble_eq_true rfl) dX6_readStage_41 (fun H locs hP hS => ?_)
  exact tw_iretv (tw_rtE hf).2 C hr hP hS hlk dX6_readStage_44
def fm_readLine_J113   : TM Unit :=
  tw_bd (fm_goOn) fun _ =>
  tw_bd (tw_gi 16) fun x12 =>
  tw_bd (tw_pi 16 (x12 + (1 : Int32))) fun _ =>
  tw_rt ()
def fm_readLine_J93   : TM Unit :=
  tw_bd (tw_gi 22) fun x5 =>
  if x5 = 0 then (tw_bd (tw_gi 20) fun x18 =>
  if x18 = (3 : Int32) then (fm_readLine_J113)
  else (tw_bd (fm_wrong (1 : Int32)) fun _ =>
 
  fm_readLine_J113))
  else (fm_readLine_J113)
def fm_readLine  : TM Unit :=
  tw_bd (tw_gi 20) fun x1 =>
  if x1 = 0 then (tw_bd (tw_gi 21) fun x24 =>
  if x24 = 0 then (tw_bd (fm_readLink) fun _ =>
 
  fm_readLine_J93)
  else (tw_bd (tw_gi 21) fun x27 =>
  if x27 = (1 : Int32) then (tw_bd (fm_readFlow) fun _ =>
 
  fm_readLine_J93)
  else (tw_bd (tw_gi 21) fun x30 =>
  if x30 = (2 : Int32) then (tw_bd (fm_readSample) fun _ =>
 
  fm_readLine_J93)
  else (tw_bd (tw_gi 21) fun x33 =>
  if x33 = (3 : Int32) then (tw_bd (fm_readStage) fun _ =>
 
  fm_readLine_J93)
  else (tw_bd (tw_gi 21) fun x36 =>
  if x36 = (4 : Int32) then (tw_bd (fm_readOff) fun _ =>
 
  fm_readLine_J93)
  else (tw_bd (fm_readSeed) fun _ =>
 
  fm_readLine_J93))))))
  else (tw_bd (fm_wrong (1 : Int32)) fun _ =>
 
  fm_readLine_J93)
theorem hdX6_readLine : yX6_readLine.cls = "LosslessFabricModel" ∧ (yX6_readLine.cls ≠ "java/lang/invoke/MethodHandle" ∧ yX6_readLine.cls ≠ "java/lang/invoke/VarHandle" ∧ (parseMethodDescriptor yX6_readLine.desc).map (fun d => d.parameters.length) = some 0) := by decide +kernel
set_option maxHeartbeats 4000000 in
theorem mm_readLine {l : Launch} {X : (Nat → Nat) × (Nat → Nat) × Nat} {D : va_G} {dA : Nat → ClassId} {o : Nat} {ad : Nat → Nat} {A : Nat → Prop} (hD : tw_D o ad A)  (t0 tZ : TS) (r : Unit) (hf : fm_readLine  t0 = some (r, tZ)) : Met l yX6_readLine (ws_ yX6_readLine cX6_readLine 1 (none)) ({ frames := 10, cells := 0, slots := 0, locals := 238 }) (va_Pc [.ref o] (tw_W X A D dA o ad t0)) (tw_Qv D dA o ad A tZ) 0 0 A := by
  refine Met.ofW (cc := cX6_readLine) (maxL := 1) (ret := none) (by decide) rfl ?_
  intro p e s m args below meth c s₁ B hml hv
  obtain ⟨rfl, hP, hK, hX⟩ := hv
  have hx := B.exec
  have hb := B.bytes
  have hr := B.returns
  have hts := atoms_spec (ws := (ws_ yX6_readLine cX6_readLine 1 (none))) B.pre
  have hts : ∀ w ∈ lw_all, w.before _ s = true := fun w h => hts w (List.mem_cons_of_mem _ h)
  have hown : s.vm.findClass "LosslessFabricModel" = some m.cls := findClass_of_methodNamed B.named
  have hlk := B.notSynchronized
  have C : tw_C X p s m _ c cX6_readLine D dA o ad A := ⟨hx, hb, hts, hown, hK, hD, hX⟩
  have hS : va_S A s.heap s.heap [] := va_S.rf
  have hl := lv_entry ([.ref o]) (n := 1) (Nat.le_of_ble_eq_true rfl)
  rw [lg_entry_eq]
  generalize (lg_sl ([.ref o]) ++ List.replicate (1 - (lg_sl ([.ref o])).length) Slot.unset).toArray = ls at hl ⊢
  have hl : lv_has ls 1 [(0, .ref o)] := hl
  unfold fm_readLine at hf
  refine lv_aload_n hx hb dX6_readLine_0 rfl (lv_at hl 0 rfl) ?_
  obtain ⟨x1, t2, e3, hf⟩ := tw_bdE hf
  refine tw_iget (k := 20) C hP (by decide) (Or.inl rfl) e3 q1396 dX6_readLine_1 (fun hP => ?_)
  have k93 : ∀  (t4 : TS) (H : Heap) (locs : List Loc) (ls : Array Slot), tw_P D dA o ad t4 H → va_S A s.heap H locs → lv_has ls 1 [(0, .ref o)] → fm_readLine_J93  t4 = some (r, tZ) → W p l e (headSpec (ws_ yX6_readLine cX6_readLine 1 (none)) ({ frames := 10, cells := 0, slots := 0, locals := 238 })).room s m ([.ref o] : List Value).toArray below meth c H locs 0 0 (MQ below (tw_Qv D dA o ad A tZ) ([.ref o] : List Value).toArray s 0 0 A) (F0 m 93 ls []) := by
    intro t4 H locs ls hP hS hl hf
    unfold fm_readLine_J93 at hf
    refine lv_aload_n hx hb dX6_readLine_93 rfl (lv_at hl 0 rfl) ?_
    obtain ⟨x5, t6, e7, hf⟩ := tw_bdE hf
    refine tw_iget (k := 22) C hP (by decide) (Or.inl rfl) e7 q1398 dX6_readLine_94 (fun hP => ?_)
    have k113 : ∀  (t8 : TS) (H : Heap) (locs : List Loc) (ls : Array Slot), tw_P D dA o ad t8 H → va_S A s.heap H locs → lv_has ls 1 [(0, .ref o)] → fm_readLine_J113  t8 = some (r, tZ) → W p l e (headSpec (ws_ yX6_readLine cX6_readLine 1 (none)) ({ frames := 10, cells := 0, slots := 0, locals := 238 })).room s m ([.ref o] : List Value).toArray below meth c H locs 0 0 (MQ below (tw_Qv D dA o ad A tZ) ([.ref o] : List Value).toArray s 0 0 A) (F0 m 113 ls []) := by
      intro t8 H locs ls hP hS hl hf
      unfold fm_readLine_J113 at hf
      refine lv_aload_n hx hb dX6_readLine_113 rfl (lv_at hl 0 rfl) ?_
      obtain ⟨x9, t10, e11, hf⟩ := tw_bdE hf
      refine tw_cVv (As := []) (rest := []) C hml hP hS (mm_goOn (l := l) (X := X) (D := D) (dA := dA) hD _ _ _ e11) (cwV 0 hts (lw_V q1583 q1585 qs54 q106 q1586) rfl rfl rfl hdX6_goOn ⟨Nat.le_of_ble_eq_true rfl, Nat.le_of_ble_eq_true rfl⟩) rfl hl.1 rfl (Nat.le_of_ble_eq_true rfl) dX6_readLine_114 (fun H locs hP hS => ?_)
      refine lv_aload_n hx hb dX6_readLine_117 rfl (lv_at hl 0 rfl) ?_
      refine lv_dup hx hb dX6_readLine_118 rfl ?_
      obtain ⟨x12, t13, e14, hf⟩ := tw_bdE hf
      refine tw_iget (k := 16) C hP (by decide) (Or.inl rfl) e14 q1392 dX6_readLine_119 (fun hP => ?_)
      refine lv_iconst (v := (1 : Int32)) hx hb dX6_readLine_122 (by decide) ?_
      refine lv_iadd hx hb dX6_readLine_123 ?_
      obtain ⟨x15, t16, e17, hf⟩ := tw_bdE hf
      refine tw_iput (k := 16) C hP hS (by decide) rfl e17 q1392 dX6_readLine_124 (fun H locs hP hS => ?_)
      exact tw_iretv (tw_rtE hf).2 C hr hP hS hlk dX6_readLine_127
    refine lv_if_ne (tgt := 113) hx hb dX6_readLine_97 (by decide) (fun hc => ?_) (fun hc => ?_)
    · have hf := tw_ifF hc hf
      exact k113 _ _ _ _ hP hS (lv_sub hl [0] rfl) hf
    · have hf := tw_ifT hc hf
      refine lv_aload_n hx hb dX6_readLine_100 rfl (lv_at hl 0 rfl) ?_
      obtain ⟨x18, t19, e20, hf⟩ := tw_bdE hf
      refine tw_iget (k := 20) C hP (by decide) (Or.inl rfl) e20 q1396 dX6_readLine_101 (fun hP => ?_)
      refine lv_iconst (v := (3 : Int32)) hx hb dX6_readLine_104 (by decide) ?_
      refine lv_icmp_eq (tgt := 113) hx hb dX6_readLine_105 (by decide) (fun hc => ?_) (fun hc => ?_)
      · have hf := tw_ifT hc hf
        exact k113 _ _ _ _ hP hS (lv_sub hl [0] rfl) hf
      · have hf := tw_ifF hc hf
        refine lv_aload_n hx hb dX6_readLine_108 rfl (lv_at hl 0 rfl) ?_
        refine lv_iconst (v := (1 : Int32)) hx hb dX6_readLine_109 (by decide) ?_
        obtain ⟨x21, t22, e23, hf⟩ := tw_bdE hf
        refine tw_cVv (As := [.int (1 : Int32)]) (rest := []) C hml hP hS (mm_wrong (l := l) (X := X) (D := D) (dA := dA) hD _ _ _ _ e23) (cwV 1 hts (lw_V q1571 q1573 qs51 q106 q1574) rfl rfl rfl hdX6_wrong ⟨Nat.le_of_ble_eq_true rfl, Nat.le_of_ble_eq_true rfl⟩) rfl hl.1 rfl (Nat.le_of_ble_eq_true rfl) dX6_readLine_110 (fun H locs hP hS => ?_)
        exact k113 _ _ _ _ hP hS (lv_sub hl [0] rfl) hf
  refine lv_if_eq (tgt := 15) hx hb dX6_readLine_4 (by decide) (fun hc => ?_) (fun hc => ?_)
  · have hf := tw_ifT hc hf
    refine lv_aload_n hx hb dX6_readLine_15 rfl (lv_at hl 0 rfl) ?_
    obtain ⟨x24, t25, e26, hf⟩ := tw_bdE hf
    refine tw_iget (k := 21) C hP (by decide) (Or.inl rfl) e26 q1397 dX6_readLine_16 (fun hP => ?_)
    refine lv_if_ne (tgt := 29) hx hb dX6_readLine_19 (by decide) (fun hc => ?_) (fun hc => ?_)
    · have hf := tw_ifF hc hf
      refine lv_aload_n hx hb dX6_readLine_29 rfl (lv_at hl 0 rfl) ?_
      obtain ⟨x27, t28, e29, hf⟩ := tw_bdE hf
      refine tw_iget (k := 21) C hP (by decide) (Or.inl rfl) e29 q1397 dX6_readLine_30 (fun hP => ?_)
      refine lv_iconst (v := (1 : Int32)) hx hb dX6_readLine_33 (by decide) ?_
      refine lv_icmp_ne (tgt := 44) hx hb dX6_readLine_34 (by decide) (fun hc => ?_) (fun hc => ?_)
      · have hf := tw_ifF hc hf
        refine lv_aload_n hx hb dX6_readLine_44 rfl (lv_at hl 0 rfl) ?_
        obtain ⟨x30, t31, e32, hf⟩ := tw_bdE hf
        refine tw_iget (k := 21) C hP (by decide) (Or.inl rfl) e32 q1397 dX6_readLine_45 (fun hP => ?_)
        refine lv_iconst (v := (2 : Int32)) hx hb dX6_readLine_48 (by decide) ?_
        refine lv_icmp_ne (tgt := 59) hx hb dX6_readLine_49 (by decide) (fun hc => ?_) (fun hc => ?_)
        · have hf := tw_ifF hc hf
          refine lv_aload_n hx hb dX6_readLine_59 rfl (lv_at hl 0 rfl) ?_
          obtain ⟨x33, t34, e35, hf⟩ := tw_bdE hf
          refine tw_iget (k := 21) C hP (by decide) (Or.inl rfl) e35 q1397 dX6_readLine_60 (fun hP => ?_)
          refine lv_iconst (v := (3 : Int32)) hx hb dX6_readLine_63 (by decide) ?_
          refine lv_icmp_ne (tgt := 74) hx hb dX6_readLine_64 (by decide) (fun hc => ?_) (fun hc => ?_)
          · have hf := tw_ifF hc hf
            refine lv_aload_n hx hb dX6_readLine_74 rfl (lv_at hl 0 rfl) ?_
            obtain ⟨x36, t37, e38, hf⟩ := tw_bdE hf
            refine tw_iget (k := 21) C hP (by decide) (Or.inl rfl) e38 q1397 dX6_readLine_75 (fun hP => ?_)
            refine lv_iconst (v := (4 : Int32)) hx hb dX6_readLine_78 (by decide) ?_
            refine lv_icmp_ne (tgt := 89) hx hb dX6_readLine_79 (by decide) (fun hc => ?_) (fun hc => ?_)
            · have hf := tw_ifF hc hf
              refine lv_aload_n hx hb dX6_readLine_89 rfl (lv_at hl 0 rfl) ?_
              obtain ⟨x39, t40, e41, hf⟩ := tw_bdE hf
              refine tw_cVv (As := []) (rest := []) C hml hP hS (mm_readSeed (l := l) (X := X) (D := D) (dA := dA) hD _ _ _ e41) (cwV 0 hts (lw_V q1622 q1624 qs63 q106 q1625) rfl rfl rfl hdX6_readSeed ⟨Nat.le_of_ble_eq_true rfl, Nat.le_of_ble_eq_true rfl⟩) rfl hl.1 rfl (Nat.le_of_ble_eq_true rfl) dX6_readLine_90 (fun H locs hP hS => ?_)
              exact k93 _ _ _ _ hP hS (lv_sub hl [0] rfl) hf
            · have hf := tw_ifT hc hf
              refine lv_aload_n hx hb dX6_readLine_82 rfl (lv_at hl 0 rfl) ?_
              obtain ⟨x42, t43, e44, hf⟩ := tw_bdE hf
              refine tw_cVv (As := []) (rest := []) C hml hP hS (mm_readOff (l := l) (X := X) (D := D) (dA := dA) hD _ _ _ e44) (cwV 0 hts (lw_V q1618 q1620 qs62 q106 q1621) rfl rfl rfl hdX6_readOff ⟨Nat.le_of_ble_eq_true rfl, Nat.le_of_ble_eq_true rfl⟩) rfl hl.1 rfl (Nat.le_of_ble_eq_true rfl) dX6_readLine_83 (fun H locs hP hS => ?_)
              refine lv_goto (tgt := 93) hx hb dX6_readLine_86 (by decide) ?_
              exact k93 _ _ _ _ hP hS (lv_sub hl [0] rfl) hf
          · have hf := tw_ifT hc hf
            refine lv_aload_n hx hb dX6_readLine_67 rfl (lv_at hl 0 rfl) ?_
            obtain ⟨x45, t46, e47, hf⟩ := tw_bdE hf
            refine tw_cVv (As := []) (rest := []) C hml hP hS (mm_readStage (l := l) (X := X) (D := D) (dA := dA) hD _ _ _ e47) (cwV 0 hts (lw_V q1614 q1616 qs61 q106 q1617) rfl rfl rfl hdX6_readStage ⟨Nat.le_of_ble_eq_true rfl, Nat.le_of_ble_eq_true rfl⟩) rfl hl.1 rfl (Nat.le_of_ble_eq_true rfl) dX6_readLine_68 (fun H locs hP hS => ?_)
            refine lv_goto (tgt := 93) hx hb dX6_readLine_71 (by decide) ?_
            exact k93 _ _ _ _ hP hS (lv_sub hl [0] rfl) hf
        · have hf := tw_ifT hc hf
          refine lv_aload_n hx hb dX6_readLine_52 rfl (lv_at hl 0 rfl) ?_
          obtain ⟨x48, t49, e50, hf⟩ := tw_bdE hf
          refine tw_cVv (As := []) (rest := []) C hml hP hS (mm_readSample (l := l) (X := X) (D := D) (dA := dA) hD _ _ _ e50) (cwV 0 hts (lw_V q1606 q1608 qs59 q106 q1609) rfl rfl rfl hdX6_readSample ⟨Nat.le_of_ble_eq_true rfl, Nat.le_of_ble_eq_true rfl⟩) rfl hl.1 rfl (Nat.le_of_ble_eq_true rfl) dX6_readLine_53 (fun H locs hP hS => ?_)
          refine lv_goto (tgt := 93) hx hb dX6_readLine_56 (by decide) ?_
          exact k93 _ _ _ _ hP hS (lv_sub hl [0] rfl) hf
      · have hf := tw_ifT hc hf
        refine lv_aload_n hx hb dX6_readLine_37 rfl (lv_at hl 0 rfl) ?_
        obtain ⟨x51, t52, e53, hf⟩ := tw_bdE hf
        refine tw_cVv (As := []) (rest := []) C hml hP hS (mm_readFlow (l := l) (X := X) (D := D) (dA := dA) hD _ _ _ e53) (cwV 0 hts (lw_V q1594 q1596 qs56 q106 q1597) rfl rfl rfl hdX6_readFlow ⟨Nat.le_of_ble_eq_true rfl, Nat.le_of_ble_eq_true rfl⟩) rfl hl.1 rfl (Nat.le_of_ble_eq_true rfl) dX6_readLine_38 (fun H locs hP hS => ?_)
        refine lv_goto (tgt := 93) hx hb dX6_readLine_41 (by decide) ?_
        exact k93 _ _ _ _ hP hS (lv_sub hl [0] rfl) hf
    · have hf := tw_ifT hc hf
      refine lv_aload_n hx hb dX6_readLine_22 rfl (lv_at hl 0 rfl) ?_
      obtain ⟨x54, t55, e56, hf⟩ := tw_bdE hf
      refine tw_cVv (As := []) (rest := []) C hml hP hS (mm_readLink (l := l) (X := X) (D := D) (dA := dA) hD _ _ _ e56) (cwV 0 hts (lw_V q1575 q1577 qs52 q106 q1578) rfl rfl rfl hdX6_readLink ⟨Nat.le_of_ble_eq_true rfl, Nat.le_of_ble_eq_true rfl⟩) rfl hl.1 rfl (Nat.le_of_ble_eq_true rfl) dX6_readLine_23 (fun H locs hP hS => ?_)
      refine lv_goto (tgt := 93) hx hb dX6_readLine_26 (by decide) ?_
      exact k93 _ _ _ _ hP hS (lv_sub hl [0] rfl) hf
  · have hf := tw_ifF hc hf
    refine lv_aload_n hx hb dX6_readLine_7 rfl (lv_at hl 0 rfl) ?_
    refine lv_iconst (v := (1 : Int32)) hx hb dX6_readLine_8 (by decide) ?_
    obtain ⟨x57, t58, e59, hf⟩ := tw_bdE hf
    refine tw_cVv (As := [.int (1 : Int32)]) (rest := []) C hml hP hS (mm_wrong (l := l) (X := X) (D := D) (dA := dA) hD _ _ _ _ e59) (cwV 1 hts (lw_V q1571 q1573 qs51 q106 q1574) rfl rfl rfl hdX6_wrong ⟨Nat.le_of_ble_eq_true rfl, Nat.le_of_ble_eq_true rfl⟩) rfl hl.1 rfl (Nat.le_of_ble_eq_true rfl) dX6_readLine_9 (fun H locs hP hS => ?_)
    refine lv_goto (tgt := 93) hx hb dX6_readLine_12 (by decide) ?_
    exact k93 _ _ _ _ hP hS (lv_sub hl [0] rfl) hf
def fm_readText_J50   : TM Unit :=
  tw_rt ()
def fm_readText_L28  (sf28 : TM Unit)  : TM Unit :=
  tw_bd (tw_gi 22) fun x20 =>
  if x20 = 0 then (tw_bd (tw_gi 20) fun x24 =>
  if x24 = (4 : Int32) then (fm_readText_J50)
  else (tw_bd (fm_readLine) fun _ =>
 
  sf28))
  else (fm_readText_J50)
def fm_readText (a1 : Int32) : TM Unit :=
  tw_bd (tw_pi 17 a1) fun _ =>
  tw_bd (tw_pi 18 (0 : Int32)) fun _ =>
  tw_bd (tw_pi 22 (0 : Int32)) fun _ =>
  tw_bd (tw_pi 16 (0 : Int32)) fun _ =>
  tw_bd (fm_freshText) fun _ =>
  tw_bd (fm_token) fun _ =>
 
  tw_lp (fm_readText_L28) (fun _ => none) tw_fu
theorem hdX6_readText : yX6_readText.cls = "LosslessFabricModel" ∧ (yX6_readText.cls ≠ "java/lang/invoke/MethodHandle" ∧ yX6_readText.cls ≠ "java/lang/invoke/VarHandle" ∧ (parseMethodDescriptor yX6_readText.desc).map (fun d => d.parameters.length) = some 1) := by decide +kernel
set_option maxHeartbeats 4000000 in
theorem mm_readText {l : Launch} {X : (Nat → Nat) × (Nat → Nat) × Nat} {D : va_G} {dA : Nat → ClassId} {o : Nat} {ad : Nat → Nat} {A : Nat → Prop} (hD : tw_D o ad A) (a1 : Int32) (t0 tZ : TS) (r : Unit) (hf : fm_readText a1 t0 = some (r, tZ)) : Met l yX6_readText (ws_ yX6_readText cX6_readText 2 (none)) ({ frames := 11, cells := 0, slots := 0, locals := 258 }) (va_Pc [.ref o, .int a1] (tw_W X A D dA o ad t0)) (tw_Qv D dA o ad A tZ) 0 0 A := by
  refine Met.ofW (cc := cX6_readText) (maxL := 2) (ret := none) (by decide) rfl ?_
  intro p e s m args below meth c s₁ B hml hv
  obtain ⟨rfl, hP, hK, hX⟩ := hv
  have hx := B.exec
  have hb := B.bytes
  have hr := B.returns
  have hts := atoms_spec (ws := (ws_ yX6_readText cX6_readText 2 (none))) B.pre
  have hts : ∀ w ∈ lw_all, w.before _ s = true := fun w h => hts w (List.mem_cons_of_mem _ h)
  have hown : s.vm.findClass "LosslessFabricModel" = some m.cls := findClass_of_methodNamed B.named
  have hlk := B.notSynchronized
  have C : tw_C X p s m _ c cX6_readText D dA o ad A := ⟨hx, hb, hts, hown, hK, hD, hX⟩
  have hS : va_S A s.heap s.heap [] := va_S.rf
  have hl := lv_entry ([.ref o, .int a1]) (n := 2) (Nat.le_of_ble_eq_true rfl)
  rw [lg_entry_eq]
  generalize (lg_sl ([.ref o, .int a1]) ++ List.replicate (2 - (lg_sl ([.ref o, .int a1])).length) Slot.unset).toArray = ls at hl ⊢
  have hl : lv_has ls 2 [(0, .ref o), (1, .int a1)] := hl
  unfold fm_readText at hf
  refine lv_aload_n hx hb dX6_readText_0 rfl (lv_at hl 0 rfl) ?_
  refine lv_iload_n hx hb dX6_readText_1 rfl (lv_at hl 1 rfl) ?_
  obtain ⟨x1, t2, e3, hf⟩ := tw_bdE hf
  refine tw_iput (k := 17) C hP hS (by decide) rfl e3 q1393 dX6_readText_2 (fun H locs hP hS => ?_)
  refine lv_aload_n hx hb dX6_readText_5 rfl (lv_at hl 0 rfl) ?_
  refine lv_iconst (v := (0 : Int32)) hx hb dX6_readText_6 (by decide) ?_
  obtain ⟨x4, t5, e6, hf⟩ := tw_bdE hf
  refine tw_iput (k := 18) C hP hS (by decide) rfl e6 q1394 dX6_readText_7 (fun H locs hP hS => ?_)
  refine lv_aload_n hx hb dX6_readText_10 rfl (lv_at hl 0 rfl) ?_
  refine lv_iconst (v := (0 : Int32)) hx hb dX6_readText_11 (by decide) ?_
  obtain ⟨x7, t8, e9, hf⟩ := tw_bdE hf
  refine tw_iput (k := 22) C hP hS (by decide) rfl e9 q1398 dX6_readText_12 (fun H locs hP hS => ?_)
  refine lv_aload_n hx hb dX6_readText_15 rfl (lv_at hl 0 rfl) ?_
  refine lv_iconst (v := (0 : Int32)) hx hb dX6_readText_16 (by decide) ?_
  obtain ⟨x10, t11, e12, hf⟩ := tw_bdE hf
  refine tw_iput (k := 16) C hP hS (by decide) rfl e12 q1392 dX6_readText_17 (fun H locs hP hS => ?_)
  refine lv_aload_n hx hb dX6_readText_20 rfl (lv_at hl 0 rfl) ?_
  obtain ⟨x13, t14, e15, hf⟩ := tw_bdE hf
  refine tw_cVv (As := []) (rest := []) C hml hP hS (mm_freshText (l := l) (X := X) (D := D) (dA := dA) hD _ _ _ e15) (cwV 0 hts (lw_V q1348 q1350 qs38 q106 q1351) rfl rfl rfl hdX6_freshText ⟨Nat.le_of_ble_eq_true rfl, Nat.le_of_ble_eq_true rfl⟩) rfl hl.1 rfl (Nat.le_of_ble_eq_true rfl) dX6_readText_21 (fun H locs hP hS => ?_)
  refine lv_aload_n hx hb dX6_readText_24 rfl (lv_at hl 0 rfl) ?_
  obtain ⟨x16, t17, e18, hf⟩ := tw_bdE hf
  refine tw_cVv (As := []) (rest := []) C hml hP hS (mm_token (l := l) (X := X) (D := D) (dA := dA) hD _ _ _ e18) (cwV 0 hts (lw_V q1541 q1543 qs46 q106 q1544) rfl rfl rfl hdX6_token ⟨Nat.le_of_ble_eq_true rfl, Nat.le_of_ble_eq_true rfl⟩) rfl hl.1 rfl (Nat.le_of_ble_eq_true rfl) dX6_readText_25 (fun H locs hP hS => ?_)
  have k28 : ∀ (n : Nat)  (t19 : TS) (H : Heap) (locs : List Loc) (ls : Array Slot), tw_P D dA o ad t19 H → va_S A s.heap H locs → lv_has ls 2 [(0, .ref o)] → tw_lp (fm_readText_L28) (fun _ => none) n  t19 = some (r, tZ) → W p l e (headSpec (ws_ yX6_readText cX6_readText 2 (none)) ({ frames := 11, cells := 0, slots := 0, locals := 258 })).room s m ([.ref o, .int a1] : List Value).toArray below meth c H locs 0 0 (MQ below (tw_Qv D dA o ad A tZ) ([.ref o, .int a1] : List Value).toArray s 0 0 A) (F0 m 28 ls []) := by
    intro n
    induction n with
    | zero => intro t19 H locs ls hP hS hl hf; exact (tw_no hf).elim
    | succ n ih28 =>
      intro t19 H locs ls hP hS hl hf
      obtain ⟨sf28, hs28⟩ : ∃ f, f = tw_lp (fm_readText_L28) (fun _ => none) n := ⟨_, rfl⟩
      rw [← hs28] at ih28
      have hf : fm_readText_L28 sf28  t19 = some (r, tZ) := by rw [hs28]; exact hf
      clear hs28
      unfold fm_readText_L28 at hf
      refine lv_aload_n hx hb dX6_readText_28 rfl (lv_at hl 0 rfl) ?_
      obtain ⟨x20, t21, e22, hf⟩ := tw_bdE hf
      refine tw_iget (k := 22) C hP (by decide) (Or.inl rfl) e22 q1398 dX6_readText_29 (fun hP => ?_)
      have k50 : ∀  (t23 : TS) (H : Heap) (locs : List Loc) (ls : Array Slot), tw_P D dA o ad t23 H → va_S A s.heap H locs → lv_has ls 2 [] → fm_readText_J50  t23 = some (r, tZ) → W p l e (headSpec (ws_ yX6_readText cX6_readText 2 (none)) ({ frames := 11, cells := 0, slots := 0, locals := 258 })).room s m ([.ref o, .int a1] : List Value).toArray below meth c H locs 0 0 (MQ below (tw_Qv D dA o ad A tZ) ([.ref o, .int a1] : List Value).toArray s 0 0 A) (F0 m 50 ls []) := by
        intro t23 H locs ls hP hS hl hf
        unfold fm_readText_J50 at hf
        exact tw_iretv (tw_rtE hf).2 C hr hP hS hlk dX6_readText_50
      refine lv_if_ne (tgt := 50) hx hb dX6_readText_32 (by decide) (fun hc => ?_) (fun hc => ?_)
      · have hf := tw_ifF hc hf
        exact k50 _ _ _ _ hP hS (lv_sub hl [] rfl) hf
      · have hf := tw_ifT hc hf
        refine lv_aload_n hx hb dX6_readText_35 rfl (lv_at hl 0 rfl) ?_
        obtain ⟨x24, t25, e26, hf⟩ := tw_bdE hf
        refine tw_iget (k := 20) C hP (by decide) (Or.inl rfl) e26 q1396 dX6_readText_36 (fun hP => ?_)
        refine lv_iconst (v := (4 : Int32)) hx hb dX6_readText_39 (by decide) ?_
        refine lv_icmp_eq (tgt := 50) hx hb dX6_readText_40 (by decide) (fun hc => ?_) (fun hc => ?_)
        · have hf := tw_ifT hc hf
          exact k50 _ _ _ _ hP hS (lv_sub hl [] rfl) hf
        · have hf := tw_ifF hc hf
          refine lv_aload_n hx hb dX6_readText_43 rfl (lv_at hl 0 rfl) ?_
          obtain ⟨x27, t28, e29, hf⟩ := tw_bdE hf
          refine tw_cVv (As := []) (rest := []) C hml hP hS (mm_readLine (l := l) (X := X) (D := D) (dA := dA) hD _ _ _ e29) (cwV 0 hts (lw_V q1567 q1569 qs50 q106 q1570) rfl rfl rfl hdX6_readLine ⟨Nat.le_of_ble_eq_true rfl, Nat.le_of_ble_eq_true rfl⟩) rfl hl.1 rfl (Nat.le_of_ble_eq_true rfl) dX6_readText_44 (fun H locs hP hS => ?_)
          refine lv_goto (tgt := 28) hx hb dX6_readText_47 (by decide) ?_
          exact ih28 _ _ _ _ hP hS (lv_sub hl [0] rfl) hf
  exact k28 _ _ _ _ _ hP hS (lv_sub hl [0] rfl) hf
def fm_text_J17   : TM Int32 :=
  tw_rt (-2 : Int32)
def fm_text_J54  (w54_0 : Int32) : TM Int32 :=
  tw_bd (tw_pi 25 w54_0) fun _ =>
  tw_bd (tw_gi 22) fun x27 =>
  if x27 = 0 then (tw_bd (fm_takeText) fun _ =>
  tw_bd (fm_begins) fun _ =>
  tw_bd (tw_pi 31 (0 : Int32)) fun _ =>
  tw_bd (tw_pz 32 (0 : Int32)) fun _ =>
  tw_bd (tw_gi 16) fun x42 =>
  tw_rt x42)
  else (tw_rt (-1 : Int32))
def fm_text (a1 : Int32) : TM Int32 :=
  tw_bd (tw_pi 0 (0 : Int32)) fun _ =>
  if a1 < 0 then (fm_text_J17)
  else (tw_bd (tw_gi 2) fun x5 =>
  if a1 ≤ x5 then (tw_bd (fm_readText a1) fun _ =>
  tw_bd (tw_pi 2 (0 : Int32)) fun _ =>
  tw_bd (tw_gi 22) fun x14 =>
  tw_bd (tw_pi 24 x14) fun _ =>
  tw_bd (tw_gi 22) fun x20 =>
  if x20 = 0 then (fm_text_J54 (-1 : Int32))
  else (tw_bd (tw_gi 23) fun x45 =>
 
  fm_text_J54 x45))
  else (fm_text_J17))
theorem hdX6_text : yX6_text.cls = "LosslessFabricModel" ∧ (yX6_text.cls ≠ "java/lang/invoke/MethodHandle" ∧ yX6_text.cls ≠ "java/lang/invoke/VarHandle" ∧ (parseMethodDescriptor yX6_text.desc).map (fun d => d.parameters.length) = some 1) := by decide +kernel
set_option maxHeartbeats 4000000 in
theorem mm_text {l : Launch} {X : (Nat → Nat) × (Nat → Nat) × Nat} {D : va_G} {dA : Nat → ClassId} {o : Nat} {ad : Nat → Nat} {A : Nat → Prop} (hD : tw_D o ad A) (a1 : Int32) (t0 tZ : TS) (r : Int32) (hf : fm_text a1 t0 = some (r, tZ)) : Met l yX6_text (ws_ yX6_text cX6_text 2 (some .int)) ({ frames := 12, cells := 0, slots := 0, locals := 279 }) (va_Pc [.ref o, .int a1] (tw_W X A D dA o ad t0)) (tw_Qi D dA o ad A r tZ) 0 0 A := by
  refine Met.ofW (cc := cX6_text) (maxL := 2) (ret := some .int) (by decide) rfl ?_
  intro p e s m args below meth c s₁ B hml hv
  obtain ⟨rfl, hP, hK, hX⟩ := hv
  have hx := B.exec
  have hb := B.bytes
  have hr := B.returns
  have hts := atoms_spec (ws := (ws_ yX6_text cX6_text 2 (some .int))) B.pre
  have hts : ∀ w ∈ lw_all, w.before _ s = true := fun w h => hts w (List.mem_cons_of_mem _ h)
  have hown : s.vm.findClass "LosslessFabricModel" = some m.cls := findClass_of_methodNamed B.named
  have hlk := B.notSynchronized
  have C : tw_C X p s m _ c cX6_text D dA o ad A := ⟨hx, hb, hts, hown, hK, hD, hX⟩
  have hS : va_S A s.heap s.heap [] := va_S.rf
  have hl := lv_entry ([.ref o, .int a1]) (n := 2) (Nat.le_of_ble_eq_true rfl)
  rw [lg_entry_eq]
  generalize (lg_sl ([.ref o, .int a1]) ++ List.replicate (2 - (lg_sl ([.ref o, .int a1])).length) Slot.unset).toArray = ls at hl ⊢
  have hl : lv_has ls 2 [(0, .ref o), (1, .int a1)] := hl
  unfold fm_text at hf
  refine lv_aload_n hx hb dX6_text_0 rfl (lv_at hl 0 rfl) ?_
  refine lv_iconst (v := (0 : Int32)) hx hb dX6_text_1 (by decide) ?_
  obtain ⟨x1, t2, e3, hf⟩ := tw_bdE hf
  refine tw_iput (k := 0) C hP hS (by decide) rfl e3 q1376 dX6_text_2 (fun H locs hP hS => ?_)
  refine lv_iload_n hx hb dX6_text_5 rfl (lv_at hl 1 rfl) ?_
  have k17 : ∀  (t4 : TS) (H : Heap) (locs : List Loc) (ls : Array Slot), tw_P D dA o ad t4 H → va_S A s.heap H locs → lv_has ls 2 [] → fm_text_J17  t4 = some (r, tZ) → W p l e (headSpec (ws_ yX6_text cX6_text 2 (some .int)) ({ frames := 12, cells := 0, slots := 0, locals := 279 })).room s m ([.ref o, .int a1] : List Value).toArray below meth c H locs 0 0 (MQ below (tw_Qi D dA o ad A r tZ) ([.ref o, .int a1] : List Value).toArray s 0 0 A) (F0 m 17 ls []) := by
    intro t4 H locs ls hP hS hl hf
    unfold fm_text_J17 at hf
    refine lv_bipush (v := (-2 : Int32)) hx hb dX6_text_17 (by decide) ?_
    exact tw_ireti (tw_rtE hf).1 (tw_rtE hf).2 C hr hP hS hlk dX6_text_19
  refine lv_if_lt (tgt := 17) hx hb dX6_text_6 (by decide) (fun hc => ?_) (fun hc => ?_)
  · have hf := tw_ifT hc hf
    exact k17 _ _ _ _ hP hS (lv_sub hl [] rfl) hf
  · have hf := tw_ifF hc hf
    refine lv_iload_n hx hb dX6_text_9 rfl (lv_at hl 1 rfl) ?_
    refine lv_aload_n hx hb dX6_text_10 rfl (lv_at hl 0 rfl) ?_
    obtain ⟨x5, t6, e7, hf⟩ := tw_bdE hf
    refine tw_iget (k := 2) C hP (by decide) (Or.inl rfl) e7 q1378 dX6_text_11 (fun hP => ?_)
    refine lv_icmp_le (tgt := 20) hx hb dX6_text_14 (by decide) (fun hc => ?_) (fun hc => ?_)
    · have hf := tw_ifT hc hf
      refine lv_aload_n hx hb dX6_text_20 rfl (lv_at hl 0 rfl) ?_
      refine lv_iload_n hx hb dX6_text_21 rfl (lv_at hl 1 rfl) ?_
      obtain ⟨x8, t9, e10, hf⟩ := tw_bdE hf
      refine tw_cVv (As := [.int a1]) (rest := []) C hml hP hS (mm_readText (l := l) (X := X) (D := D) (dA := dA) hD _ _ _ _ e10) (cwV 1 hts (lw_V q1537 q1539 qs45 q106 q1540) rfl rfl rfl hdX6_readText ⟨Nat.le_of_ble_eq_true rfl, Nat.le_of_ble_eq_true rfl⟩) rfl hl.1 rfl (Nat.le_of_ble_eq_true rfl) dX6_text_22 (fun H locs hP hS => ?_)
      refine lv_aload_n hx hb dX6_text_25 rfl (lv_at hl 0 rfl) ?_
      refine lv_iconst (v := (0 : Int32)) hx hb dX6_text_26 (by decide) ?_
      obtain ⟨x11, t12, e13, hf⟩ := tw_bdE hf
      refine tw_iput (k := 2) C hP hS (by decide) rfl e13 q1378 dX6_text_27 (fun H locs hP hS => ?_)
      refine lv_aload_n hx hb dX6_text_30 rfl (lv_at hl 0 rfl) ?_
      refine lv_aload_n hx hb dX6_text_31 rfl (lv_at hl 0 rfl) ?_
      obtain ⟨x14, t15, e16, hf⟩ := tw_bdE hf
      refine tw_iget (k := 22) C hP (by decide) (Or.inl rfl) e16 q1398 dX6_text_32 (fun hP => ?_)
      obtain ⟨x17, t18, e19, hf⟩ := tw_bdE hf
      refine tw_iput (k := 24) C hP hS (by decide) rfl e19 q1400 dX6_text_35 (fun H locs hP hS => ?_)
      refine lv_aload_n hx hb dX6_text_38 rfl (lv_at hl 0 rfl) ?_
      refine lv_aload_n hx hb dX6_text_39 rfl (lv_at hl 0 rfl) ?_
      obtain ⟨x20, t21, e22, hf⟩ := tw_bdE hf
      refine tw_iget (k := 22) C hP (by decide) (Or.inl rfl) e22 q1398 dX6_text_40 (fun hP => ?_)
      have k54 : ∀ (w54_0 : Int32) (t23 : TS) (H : Heap) (locs : List Loc) (ls : Array Slot), tw_P D dA o ad t23 H → va_S A s.heap H locs → lv_has ls 2 [(0, .ref o)] → fm_text_J54 w54_0 t23 = some (r, tZ) → W p l e (headSpec (ws_ yX6_text cX6_text 2 (some .int)) ({ frames := 12, cells := 0, slots := 0, locals := 279 })).room s m ([.ref o, .int a1] : List Value).toArray below meth c H locs 0 0 (MQ below (tw_Qi D dA o ad A r tZ) ([.ref o, .int a1] : List Value).toArray s 0 0 A) (F0 m 54 ls [.int w54_0, .ref o]) := by
        intro w54_0 t23 H locs ls hP hS hl hf
        unfold fm_text_J54 at hf
        obtain ⟨x24, t25, e26, hf⟩ := tw_bdE hf
        refine tw_iput (k := 25) C hP hS (by decide) rfl e26 q1401 dX6_text_54 (fun H locs hP hS => ?_)
        refine lv_aload_n hx hb dX6_text_57 rfl (lv_at hl 0 rfl) ?_
        obtain ⟨x27, t28, e29, hf⟩ := tw_bdE hf
        refine tw_iget (k := 22) C hP (by decide) (Or.inl rfl) e29 q1398 dX6_text_58 (fun hP => ?_)
        refine lv_if_eq (tgt := 66) hx hb dX6_text_61 (by decide) (fun hc => ?_) (fun hc => ?_)
        · have hf := tw_ifT hc hf
          refine lv_aload_n hx hb dX6_text_66 rfl (lv_at hl 0 rfl) ?_
          obtain ⟨x30, t31, e32, hf⟩ := tw_bdE hf
          refine tw_cVv (As := []) (rest := []) C hml hP hS (mm_takeText (l := l) (X := X) (D := D) (dA := dA) hD _ _ _ e32) (cwV 0 hts (lw_V q1356 q1358 qs40 q106 q1359) rfl rfl rfl hdX6_takeText ⟨Nat.le_of_ble_eq_true rfl, Nat.le_of_ble_eq_true rfl⟩) rfl hl.1 rfl (Nat.le_of_ble_eq_true rfl) dX6_text_67 (fun H locs hP hS => ?_)
          refine lv_aload_n hx hb dX6_text_70 rfl (lv_at hl 0 rfl) ?_
          obtain ⟨x33, t34, e35, hf⟩ := tw_bdE hf
          refine tw_cVv (As := []) (rest := []) C hml hP hS (mm_begins (l := l) (X := X) (D := D) (dA := dA) hD _ _ _ e35) (cwV 0 hts (lw_V q1364 q1366 qs42 q106 q1367) rfl rfl rfl hdX6_begins ⟨Nat.le_of_ble_eq_true rfl, Nat.le_of_ble_eq_true rfl⟩) rfl hl.1 rfl (Nat.le_of_ble_eq_true rfl) dX6_text_71 (fun H locs hP hS => ?_)
          refine lv_aload_n hx hb dX6_text_74 rfl (lv_at hl 0 rfl) ?_
          refine lv_iconst (v := (0 : Int32)) hx hb dX6_text_75 (by decide) ?_
          obtain ⟨x36, t37, e38, hf⟩ := tw_bdE hf
          refine tw_iput (k := 31) C hP hS (by decide) rfl e38 q1407 dX6_text_76 (fun H locs hP hS => ?_)
          refine lv_aload_n hx hb dX6_text_79 rfl (lv_at hl 0 rfl) ?_
          refine lv_iconst (v := (0 : Int32)) hx hb dX6_text_80 (by decide) ?_
          obtain ⟨x39, t40, e41, hf⟩ := tw_bdE hf
          refine tw_zput (k := 32) C hP hS (by decide) rfl e41 q1408 dX6_text_81 (fun H locs hP hS => ?_)
          refine lv_aload_n hx hb dX6_text_84 rfl (lv_at hl 0 rfl) ?_
          obtain ⟨x42, t43, e44, hf⟩ := tw_bdE hf
          refine tw_iget (k := 16) C hP (by decide) (Or.inl rfl) e44 q1392 dX6_text_85 (fun hP => ?_)
          exact tw_ireti (tw_rtE hf).1 (tw_rtE hf).2 C hr hP hS hlk dX6_text_88
        · have hf := tw_ifF hc hf
          refine lv_iconst (v := (-1 : Int32)) hx hb dX6_text_64 (by decide) ?_
          exact tw_ireti (tw_rtE hf).1 (tw_rtE hf).2 C hr hP hS hlk dX6_text_65
      refine lv_if_ne (tgt := 50) hx hb dX6_text_43 (by decide) (fun hc => ?_) (fun hc => ?_)
      · have hf := tw_ifF hc hf
        refine lv_aload_n hx hb dX6_text_50 rfl (lv_at hl 0 rfl) ?_
        obtain ⟨x45, t46, e47, hf⟩ := tw_bdE hf
        refine tw_iget (k := 23) C hP (by decide) (Or.inl rfl) e47 q1399 dX6_text_51 (fun hP => ?_)
        exact k54 _ _ _ _ _ hP hS (lv_sub hl [0] rfl) hf
      · have hf := tw_ifT hc hf
        refine lv_iconst (v := (-1 : Int32)) hx hb dX6_text_46 (by decide) ?_
        refine lv_goto (tgt := 54) hx hb dX6_text_47 (by decide) ?_
        exact k54 _ _ _ _ _ hP hS (lv_sub hl [0] rfl) hf
    · have hf := tw_ifF hc hf
      exact k17 _ _ _ _ hP hS (lv_sub hl [] rfl) hf
def fm_fault_J29  (w29_0 : Int32) : TM Int32 :=
  tw_rt w29_0
def fm_fault (a1 : Int32) : TM Int32 :=
  tw_bd (tw_pi 0 (0 : Int32)) fun _ =>
  if a1 = 0 then (tw_bd (tw_gi 24) fun x8 =>
 
  fm_fault_J29 x8)
  else (if a1 = (1 : Int32) then (tw_bd (tw_gi 25) fun x5 =>
 
  fm_fault_J29 x5)
  else (fm_fault_J29 (-1 : Int32)))
theorem hdX6_fault : yX6_fault.cls = "LosslessFabricModel" ∧ (yX6_fault.cls ≠ "java/lang/invoke/MethodHandle" ∧ yX6_fault.cls ≠ "java/lang/invoke/VarHandle" ∧ (parseMethodDescriptor yX6_fault.desc).map (fun d => d.parameters.length) = some 1) := by decide +kernel
set_option maxHeartbeats 4000000 in
theorem mm_fault {l : Launch} {X : (Nat → Nat) × (Nat → Nat) × Nat} {D : va_G} {dA : Nat → ClassId} {o : Nat} {ad : Nat → Nat} {A : Nat → Prop} (hD : tw_D o ad A) (a1 : Int32) (t0 tZ : TS) (r : Int32) (hf : fm_fault a1 t0 = some (r, tZ)) : Met l yX6_fault (ws_ yX6_fault cX6_fault 2 (some .int)) ({ frames := 1, cells := 0, slots := 0, locals := 12 }) (va_Pc [.ref o, .int a1] (tw_W X A D dA o ad t0)) (tw_Qi D dA o ad A r tZ) 0 0 A := by
  refine Met.ofW (cc := cX6_fault) (maxL := 2) (ret := some .int) (by decide) rfl ?_
  intro p e s m args below meth c s₁ B hml hv
  obtain ⟨rfl, hP, hK, hX⟩ := hv
  have hx := B.exec
  have hb := B.bytes
  have hr := B.returns
  have hts := atoms_spec (ws := (ws_ yX6_fault cX6_fault 2 (some .int))) B.pre
  have hts : ∀ w ∈ lw_all, w.before _ s = true := fun w h => hts w (List.mem_cons_of_mem _ h)
  have hown : s.vm.findClass "LosslessFabricModel" = some m.cls := findClass_of_methodNamed B.named
  have hlk := B.notSynchronized
  have C : tw_C X p s m _ c cX6_fault D dA o ad A := ⟨hx, hb, hts, hown, hK, hD, hX⟩
  have hS : va_S A s.heap s.heap [] := va_S.rf
  have hl := lv_entry ([.ref o, .int a1]) (n := 2) (Nat.le_of_ble_eq_true rfl)
  rw [lg_entry_eq]
  generalize (lg_sl ([.ref o, .int a1]) ++ List.replicate (2 - (lg_sl ([.ref o, .int a1])).length) Slot.unset).toArray = ls at hl ⊢
  have hl : lv_has ls 2 [(0, .ref o), (1, .int a1)] := hl
  unfold fm_fault at hf
  refine lv_aload_n hx hb dX6_fault_0 rfl (lv_at hl 0 rfl) ?_
  refine lv_iconst (v := (0 : Int32)) hx hb dX6_fault_1 (by decide) ?_
  obtain ⟨x1, t2, e3, hf⟩ := tw_bdE hf
  refine tw_iput (k := 0) C hP hS (by decide) rfl e3 q1376 dX6_fault_2 (fun H locs hP hS => ?_)
  refine lv_iload_n hx hb dX6_fault_5 rfl (lv_at hl 1 rfl) ?_
  have k29 : ∀ (w29_0 : Int32) (t4 : TS) (H : Heap) (locs : List Loc) (ls : Array Slot), tw_P D dA o ad t4 H → va_S A s.heap H locs → lv_has ls 2 [] → fm_fault_J29 w29_0 t4 = some (r, tZ) → W p l e (headSpec (ws_ yX6_fault cX6_fault 2 (some .int)) ({ frames := 1, cells := 0, slots := 0, locals := 12 })).room s m ([.ref o, .int a1] : List Value).toArray below meth c H locs 0 0 (MQ below (tw_Qi D dA o ad A r tZ) ([.ref o, .int a1] : List Value).toArray s 0 0 A) (F0 m 29 ls [.int w29_0]) := by
    intro w29_0 t4 H locs ls hP hS hl hf
    unfold fm_fault_J29 at hf
    exact tw_ireti (tw_rtE hf).1 (tw_rtE hf).2 C hr hP hS hlk dX6_fault_29
  refine lv_if_ne (tgt := 16) hx hb dX6_fault_6 (by decide) (fun hc => ?_) (fun hc => ?_)
  · have hf := tw_ifF hc hf
    refine lv_iload_n hx hb dX6_fault_16 rfl (lv_at hl 1 rfl) ?_
    refine lv_iconst (v := (1 : Int32)) hx hb dX6_fault_17 (by decide) ?_
    refine lv_icmp_ne (tgt := 28) hx hb dX6_fault_18 (by decide) (fun hc => ?_) (fun hc => ?_)
    · have hf := tw_ifF hc hf
      refine lv_iconst (v := (-1 : Int32)) hx hb dX6_fault_28 (by decide) ?_
      exact k29 _ _ _ _ _ hP hS (lv_sub hl [] rfl) hf
    · have hf := tw_ifT hc hf
      refine lv_aload_n hx hb dX6_fault_21 rfl (lv_at hl 0 rfl) ?_
      obtain ⟨x5, t6, e7, hf⟩ := tw_bdE hf
      refine tw_iget (k := 25) C hP (by decide) (Or.inl rfl) e7 q1401 dX6_fault_22 (fun hP => ?_)
      refine lv_goto (tgt := 29) hx hb dX6_fault_25 (by decide) ?_
      exact k29 _ _ _ _ _ hP hS (lv_sub hl [] rfl) hf
  · have hf := tw_ifT hc hf
    refine lv_aload_n hx hb dX6_fault_9 rfl (lv_at hl 0 rfl) ?_
    obtain ⟨x8, t9, e10, hf⟩ := tw_bdE hf
    refine tw_iget (k := 24) C hP (by decide) (Or.inl rfl) e10 q1400 dX6_fault_10 (fun hP => ?_)
    refine lv_goto (tgt := 29) hx hb dX6_fault_13 (by decide) ?_
    exact k29 _ _ _ _ _ hP hS (lv_sub hl [] rfl) hf
def fm_named_J47  (w47_0 : Int32) : TM Int32 :=
  tw_rt w47_0
def fm_named (a1 : Int32) (a2 : Int32) : TM Int32 :=
  tw_bd (tw_pi 0 (0 : Int32)) fun _ =>
  if a1 = 0 then ( tw_bd (fm_links) fun x11 =>
  tw_bd (fm_foundIn 5 (0 : Int32) x11 a2) fun x14 =>
 
  fm_named_J47 x14)
  else (if a1 = (1 : Int32) then ( tw_bd (fm_flows) fun x5 =>
  tw_bd (fm_foundIn 11 (0 : Int32) x5 a2) fun x8 =>
 
  fm_named_J47 x8)
  else (fm_named_J47 (-1 : Int32)))
theorem hdX6_named : yX6_named.cls = "LosslessFabricModel" ∧ (yX6_named.cls ≠ "java/lang/invoke/MethodHandle" ∧ yX6_named.cls ≠ "java/lang/invoke/VarHandle" ∧ (parseMethodDescriptor yX6_named.desc).map (fun d => d.parameters.length) = some 2) := by decide +kernel
set_option maxHeartbeats 4000000 in
theorem mm_named {l : Launch} {X : (Nat → Nat) × (Nat → Nat) × Nat} {D : va_G} {dA : Nat → ClassId} {o : Nat} {ad : Nat → Nat} {A : Nat → Prop} (hD : tw_D o ad A) (a1 : Int32) (a2 : Int32) (t0 tZ : TS) (r : Int32) (hf : fm_named a1 a2 t0 = some (r, tZ)) : Met l yX6_named (ws_ yX6_named cX6_named 3 (some .int)) ({ frames := 2, cells := 0, slots := 0, locals := 36 }) (va_Pc [.ref o, .int a1, .int a2] (tw_W X A D dA o ad t0)) (tw_Qi D dA o ad A r tZ) 0 0 A := by
  refine Met.ofW (cc := cX6_named) (maxL := 3) (ret := some .int) (by decide) rfl ?_
  intro p e s m args below meth c s₁ B hml hv
  obtain ⟨rfl, hP, hK, hX⟩ := hv
  have hx := B.exec
  have hb := B.bytes
  have hr := B.returns
  have hts := atoms_spec (ws := (ws_ yX6_named cX6_named 3 (some .int))) B.pre
  have hts : ∀ w ∈ lw_all, w.before _ s = true := fun w h => hts w (List.mem_cons_of_mem _ h)
  have hown : s.vm.findClass "LosslessFabricModel" = some m.cls := findClass_of_methodNamed B.named
  have hlk := B.notSynchronized
  have C : tw_C X p s m _ c cX6_named D dA o ad A := ⟨hx, hb, hts, hown, hK, hD, hX⟩
  have hS : va_S A s.heap s.heap [] := va_S.rf
  have hl := lv_entry ([.ref o, .int a1, .int a2]) (n := 3) (Nat.le_of_ble_eq_true rfl)
  rw [lg_entry_eq]
  generalize (lg_sl ([.ref o, .int a1, .int a2]) ++ List.replicate (3 - (lg_sl ([.ref o, .int a1, .int a2])).length) Slot.unset).toArray = ls at hl ⊢
  have hl : lv_has ls 3 [(0, .ref o), (1, .int a1), (2, .int a2)] := hl
  unfold fm_named at hf
  refine lv_aload_n hx hb dX6_named_0 rfl (lv_at hl 0 rfl) ?_
  refine lv_iconst (v := (0 : Int32)) hx hb dX6_named_1 (by decide) ?_
  obtain ⟨x1, t2, e3, hf⟩ := tw_bdE hf
  refine tw_iput (k := 0) C hP hS (by decide) rfl e3 q1376 dX6_named_2 (fun H locs hP hS => ?_)
  refine lv_iload_n hx hb dX6_named_5 rfl (lv_at hl 1 rfl) ?_
  have k47 : ∀ (w47_0 : Int32) (t4 : TS) (H : Heap) (locs : List Loc) (ls : Array Slot), tw_P D dA o ad t4 H → va_S A s.heap H locs → lv_has ls 3 [] → fm_named_J47 w47_0 t4 = some (r, tZ) → W p l e (headSpec (ws_ yX6_named cX6_named 3 (some .int)) ({ frames := 2, cells := 0, slots := 0, locals := 36 })).room s m ([.ref o, .int a1, .int a2] : List Value).toArray below meth c H locs 0 0 (MQ below (tw_Qi D dA o ad A r tZ) ([.ref o, .int a1, .int a2] : List Value).toArray s 0 0 A) (F0 m 47 ls [.int w47_0]) := by
    intro w47_0 t4 H locs ls hP hS hl hf
    unfold fm_named_J47 at hf
    exact tw_ireti (tw_rtE hf).1 (tw_rtE hf).2 C hr hP hS hlk dX6_named_47
  refine lv_if_ne (tgt := 25) hx hb dX6_named_6 (by decide) (fun hc => ?_) (fun hc => ?_)
  · have hf := tw_ifF hc hf
    refine lv_iload_n hx hb dX6_named_25 rfl (lv_at hl 1 rfl) ?_
    refine lv_iconst (v := (1 : Int32)) hx hb dX6_named_26 (by decide) ?_
    refine lv_icmp_ne (tgt := 46) hx hb dX6_named_27 (by decide) (fun hc => ?_) (fun hc => ?_)
    · have hf := tw_ifF hc hf
      refine lv_iconst (v := (-1 : Int32)) hx hb dX6_named_46 (by decide) ?_
      exact k47 _ _ _ _ _ hP hS (lv_sub hl [] rfl) hf
    · have hf := tw_ifT hc hf
      refine lv_aload_n hx hb dX6_named_30 rfl (lv_at hl 0 rfl) ?_
      refine tw_aget (k := 11) C hP (by decide) (by decide) q1387 dX6_named_31 ?_
      refine lv_iconst (v := (0 : Int32)) hx hb dX6_named_34 (by decide) ?_
      refine lv_aload_n hx hb dX6_named_35 rfl (lv_at hl 0 rfl) ?_
      obtain ⟨x5, t6, e7, hf⟩ := tw_bdE hf
      refine tw_cVi (As := []) (rest := [.int (0 : Int32), .ref (ad 11)]) C hml hP hS (mm_flows (l := l) (X := X) (D := D) (dA := dA) hD _ _ _ e7) (cwV 0 hts (lw_V q1372 q1374 qs44 q106 q1375) rfl rfl rfl hdX6_flows ⟨Nat.le_of_ble_eq_true rfl, Nat.le_of_ble_eq_true rfl⟩) rfl hl.1 rfl (Nat.le_of_ble_eq_true rfl) dX6_named_36 (fun H locs hP hS => ?_)
      refine lv_iload_n hx hb dX6_named_39 rfl (lv_at hl 2 rfl) ?_
      obtain ⟨x8, t9, e10, hf⟩ := tw_bdE hf
      refine tw_cSi (As := [.ref (ad 11), .int (0 : Int32), .int x5, .int a2]) (rest := []) C hml hP hS (mm_foundIn (l := l) (X := X) (D := D) (dA := dA) hD _ _ _ _ _ _ _ e10) (va_cwS 4 hts (lw_S q1587 q1588 q106 q1589) rfl rfl rfl hdX6_foundIn ⟨Nat.le_of_ble_eq_true rfl, Nat.le_of_ble_eq_true rfl⟩) rfl hl.1 rfl (Nat.le_of_ble_eq_true rfl) dX6_named_40 (fun H locs hP hS => ?_)
      refine lv_goto (tgt := 47) hx hb dX6_named_43 (by decide) ?_
      exact k47 _ _ _ _ _ hP hS (lv_sub hl [] rfl) hf
  · have hf := tw_ifT hc hf
    refine lv_aload_n hx hb dX6_named_9 rfl (lv_at hl 0 rfl) ?_
    refine tw_aget (k := 5) C hP (by decide) (by decide) q1381 dX6_named_10 ?_
    refine lv_iconst (v := (0 : Int32)) hx hb dX6_named_13 (by decide) ?_
    refine lv_aload_n hx hb dX6_named_14 rfl (lv_at hl 0 rfl) ?_
    obtain ⟨x11, t12, e13, hf⟩ := tw_bdE hf
    refine tw_cVi (As := []) (rest := [.int (0 : Int32), .ref (ad 5)]) C hml hP hS (mm_links (l := l) (X := X) (D := D) (dA := dA) hD _ _ _ e13) (cwV 0 hts (lw_V q1368 q1370 qs43 q106 q1371) rfl rfl rfl hdX6_links ⟨Nat.le_of_ble_eq_true rfl, Nat.le_of_ble_eq_true rfl⟩) rfl hl.1 rfl (Nat.le_of_ble_eq_true rfl) dX6_named_15 (fun H locs hP hS => ?_)
    refine lv_iload_n hx hb dX6_named_18 rfl (lv_at hl 2 rfl) ?_
    obtain ⟨x14, t15, e16, hf⟩ := tw_bdE hf
    refine tw_cSi (As := [.ref (ad 5), .int (0 : Int32), .int x11, .int a2]) (rest := []) C hml hP hS (mm_foundIn (l := l) (X := X) (D := D) (dA := dA) hD _ _ _ _ _ _ _ e16) (va_cwS 4 hts (lw_S q1587 q1588 q106 q1589) rfl rfl rfl hdX6_foundIn ⟨Nat.le_of_ble_eq_true rfl, Nat.le_of_ble_eq_true rfl⟩) rfl hl.1 rfl (Nat.le_of_ble_eq_true rfl) dX6_named_19 (fun H locs hP hS => ?_)
    refine lv_goto (tgt := 47) hx hb dX6_named_22 (by decide) ?_
    exact k47 _ _ _ _ _ hP hS (lv_sub hl [] rfl) hf
def fm_copies_L3 (a0 : Nat) (a1 : Int32) (a2 : Nat) (a3 : Int32) (sf3 : Int32 → TM Unit) (v3_4 : Int32) : TM Unit :=
  if (337 : Int32) ≤ v3_4 then (tw_rt ())
  else (tw_bd (tw_ld a0 (a1 + v3_4)) fun x2 =>
  tw_bd (tw_st a2 (a3 + v3_4) x2) fun _ =>
 
  sf3 (v3_4 + (1 : Int32)))
def fm_copies (a0 : Nat) (a1 : Int32) (a2 : Nat) (a3 : Int32) : TM Unit :=
  tw_lp (fm_copies_L3 a0 a1 a2 a3) (fun _ _ => none) tw_fu (0 : Int32)
theorem hdX6_copies : (yX6_copies.cls ≠ "java/lang/invoke/MethodHandle" ∧ yX6_copies.cls ≠ "java/lang/invoke/VarHandle" ∧ (parseMethodDescriptor yX6_copies.desc).map (fun d => d.parameters.length) = some 4) := by decide +kernel
set_option maxHeartbeats 4000000 in
theorem mm_copies {l : Launch} {X : (Nat → Nat) × (Nat → Nat) × Nat} {D : va_G} {dA : Nat → ClassId} {o : Nat} {ad : Nat → Nat} {A : Nat → Prop} (hD : tw_D o ad A) (a0 : Nat) (a1 : Int32) (a2 : Nat) (a3 : Int32) (t0 tZ : TS) (r : Unit) (hf : fm_copies a0 a1 a2 a3 t0 = some (r, tZ)) : Met l yX6_copies (ws_ yX6_copies cX6_copies 5 (none)) ({ frames := 1, cells := 0, slots := 0, locals := 12 }) (va_Pc [.ref (ad a0), .int a1, .ref (ad a2), .int a3] (tw_W X A D dA o ad t0)) (tw_Qv D dA o ad A tZ) 0 0 A := by
  refine Met.ofW (cc := cX6_copies) (maxL := 5) (ret := none) (by decide) rfl ?_
  intro p e s m args below meth c s₁ B hml hv
  obtain ⟨rfl, hP, hK, hX⟩ := hv
  have hx := B.exec
  have hb := B.bytes
  have hr := B.returns
  have hts := atoms_spec (ws := (ws_ yX6_copies cX6_copies 5 (none))) B.pre
  have hts : ∀ w ∈ lw_all, w.before _ s = true := fun w h => hts w (List.mem_cons_of_mem _ h)
  have hown : s.vm.findClass "LosslessFabricModel" = some m.cls := findClass_of_methodNamed B.named
  have hlk := B.notSynchronized
  have C : tw_C X p s m _ c cX6_copies D dA o ad A := ⟨hx, hb, hts, hown, hK, hD, hX⟩
  have hS : va_S A s.heap s.heap [] := va_S.rf
  have hl := lv_entry ([.ref (ad a0), .int a1, .ref (ad a2), .int a3]) (n := 5) (Nat.le_of_ble_eq_true rfl)
  rw [lg_entry_eq]
  generalize (lg_sl ([.ref (ad a0), .int a1, .ref (ad a2), .int a3]) ++ List.replicate (5 - (lg_sl ([.ref (ad a0), .int a1, .ref (ad a2), .int a3])).length) Slot.unset).toArray = ls at hl ⊢
  have hl : lv_has ls 5 [(0, .ref (ad a0)), (1, .int a1), (2, .ref (ad a2)), (3, .int a3)] := hl
  unfold fm_copies at hf
  refine lv_iconst (v := (0 : Int32)) hx hb dX6_copies_0 (by decide) ?_
  refine lv_istore (lv' := [(4, .int (0 : Int32)), (0, .ref (ad a0)), (1, .int a1), (2, .ref (ad a2)), (3, .int a3)]) hx hb dX6_copies_1 hl (by decide) rfl (fun ls hl => ?_)
  have k3 : ∀ (n : Nat) (v3_4 : Int32) (t1 : TS) (H : Heap) (locs : List Loc) (ls : Array Slot), tw_P D dA o ad t1 H → va_S A s.heap H locs → lv_has ls 5 [(0, .ref (ad a0)), (1, .int a1), (2, .ref (ad a2)), (3, .int a3), (4, .int v3_4)] → tw_lp (fm_copies_L3 a0 a1 a2 a3) (fun _ _ => none) n v3_4 t1 = some (r, tZ) → W p l e (headSpec (ws_ yX6_copies cX6_copies 5 (none)) ({ frames := 1, cells := 0, slots := 0, locals := 12 })).room s m ([.ref (ad a0), .int a1, .ref (ad a2), .int a3] : List Value).toArray below meth c H locs 0 0 (MQ below (tw_Qv D dA o ad A tZ) ([.ref (ad a0), .int a1, .ref (ad a2), .int a3] : List Value).toArray s 0 0 A) (F0 m 3 ls []) := by
    intro n
    induction n with
    | zero => intro v3_4 t1 H locs ls hP hS hl hf; exact (tw_no hf).elim
    | succ n ih3 =>
      intro v3_4 t1 H locs ls hP hS hl hf
      obtain ⟨sf3, hs3⟩ : ∃ f, f = tw_lp (fm_copies_L3 a0 a1 a2 a3) (fun _ _ => none) n := ⟨_, rfl⟩
      rw [← hs3] at ih3
      have hf : fm_copies_L3 a0 a1 a2 a3 sf3 v3_4 t1 = some (r, tZ) := by rw [hs3]; exact hf
      clear hs3
      unfold fm_copies_L3 at hf
      refine lv_iload hx hb dX6_copies_3 (lv_at hl 4 rfl) ?_
      refine lv_sipush (v := (337 : Int32)) hx hb dX6_copies_5 (by decide) ?_
      refine lv_icmp_ge (tgt := 29) hx hb dX6_copies_8 (by decide) (fun hc => ?_) (fun hc => ?_)
      · have hf := tw_ifT hc hf
        exact tw_iretv (tw_rtE hf).2 C hr hP hS hlk dX6_copies_29
      · have hf := tw_ifF hc hf
        refine lv_aload_n hx hb dX6_copies_11 rfl (lv_at hl 2 rfl) ?_
        refine lv_iload_n hx hb dX6_copies_12 rfl (lv_at hl 3 rfl) ?_
        refine lv_iload hx hb dX6_copies_13 (lv_at hl 4 rfl) ?_
        refine lv_iadd hx hb dX6_copies_15 ?_
        refine lv_aload_n hx hb dX6_copies_16 rfl (lv_at hl 0 rfl) ?_
        refine lv_iload_n hx hb dX6_copies_17 rfl (lv_at hl 1 rfl) ?_
        refine lv_iload hx hb dX6_copies_18 (lv_at hl 4 rfl) ?_
        refine lv_iadd hx hb dX6_copies_20 ?_
        obtain ⟨x2, t3, e4, hf⟩ := tw_bdE hf
        refine tw_iald C hP e4 dX6_copies_21 (fun hP => ?_)
        obtain ⟨x5, t6, e7, hf⟩ := tw_bdE hf
        refine tw_iast C hP hS e7 dX6_copies_22 (fun H locs hP hS => ?_)
        refine lv_iinc (v := (v3_4 + (1 : Int32))) (lv' := [(4, .int (v3_4 + (1 : Int32))), (0, .ref (ad a0)), (1, .int a1), (2, .ref (ad a2)), (3, .int a3)]) hx hb dX6_copies_23 hl (k := 4) rfl rfl (by decide) rfl (fun ls hl => ?_)
        refine lv_goto (tgt := 3) hx hb dX6_copies_26 (by decide) ?_
        exact ih3 _ _ _ _ _ hP hS (lv_sub hl [1, 2, 3, 4, 0] rfl) hf
  exact k3 _ _ _ _ _ _ hP hS (lv_sub hl [1, 2, 3, 4, 0] rfl) hf
def fm_undo  : TM Int32 :=
  tw_bd (tw_pi 0 (0 : Int32)) fun _ =>
  tw_bd (tw_gi 31) fun x4 =>
  if x4 = 0 then (tw_rt (-1 : Int32))
  else (tw_bd (tw_gi 31) fun x7 =>
  tw_bd (tw_pi 31 (x7 - (1 : Int32))) fun _ =>
   tw_bd (tw_gi 31) fun x13 =>
   tw_bd (fm_copies 30 ((337 : Int32) * x13) 26 (0 : Int32)) fun _ =>
  tw_bd (tw_gi 31) fun x19 =>
  tw_rt x19)
theorem hdX6_undo : yX6_undo.cls = "LosslessFabricModel" ∧ (yX6_undo.cls ≠ "java/lang/invoke/MethodHandle" ∧ yX6_undo.cls ≠ "java/lang/invoke/VarHandle" ∧ (parseMethodDescriptor yX6_undo.desc).map (fun d => d.parameters.length) = some 0) := by decide +kernel
set_option maxHeartbeats 4000000 in
theorem mm_undo {l : Launch} {X : (Nat → Nat) × (Nat → Nat) × Nat} {D : va_G} {dA : Nat → ClassId} {o : Nat} {ad : Nat → Nat} {A : Nat → Prop} (hD : tw_D o ad A)  (t0 tZ : TS) (r : Int32) (hf : fm_undo  t0 = some (r, tZ)) : Met l yX6_undo (ws_ yX6_undo cX6_undo 1 (some .int)) ({ frames := 2, cells := 0, slots := 0, locals := 36 }) (va_Pc [.ref o] (tw_W X A D dA o ad t0)) (tw_Qi D dA o ad A r tZ) 0 0 A := by
  refine Met.ofW (cc := cX6_undo) (maxL := 1) (ret := some .int) (by decide) rfl ?_
  intro p e s m args below meth c s₁ B hml hv
  obtain ⟨rfl, hP, hK, hX⟩ := hv
  have hx := B.exec
  have hb := B.bytes
  have hr := B.returns
  have hts := atoms_spec (ws := (ws_ yX6_undo cX6_undo 1 (some .int))) B.pre
  have hts : ∀ w ∈ lw_all, w.before _ s = true := fun w h => hts w (List.mem_cons_of_mem _ h)
  have hown : s.vm.findClass "LosslessFabricModel" = some m.cls := findClass_of_methodNamed B.named
  have hlk := B.notSynchronized
  have C : tw_C X p s m _ c cX6_undo D dA o ad A := ⟨hx, hb, hts, hown, hK, hD, hX⟩
  have hS : va_S A s.heap s.heap [] := va_S.rf
  have hl := lv_entry ([.ref o]) (n := 1) (Nat.le_of_ble_eq_true rfl)
  rw [lg_entry_eq]
  generalize (lg_sl ([.ref o]) ++ List.replicate (1 - (lg_sl ([.ref o])).length) Slot.unset).toArray = ls at hl ⊢
  have hl : lv_has ls 1 [(0, .ref o)] := hl
  unfold fm_undo at hf
  refine lv_aload_n hx hb dX6_undo_0 rfl (lv_at hl 0 rfl) ?_
  refine lv_iconst (v := (0 : Int32)) hx hb dX6_undo_1 (by decide) ?_
  obtain ⟨x1, t2, e3, hf⟩ := tw_bdE hf
  refine tw_iput (k := 0) C hP hS (by decide) rfl e3 q1376 dX6_undo_2 (fun H locs hP hS => ?_)
  refine lv_aload_n hx hb dX6_undo_5 rfl (lv_at hl 0 rfl) ?_
  obtain ⟨x4, t5, e6, hf⟩ := tw_bdE hf
  refine tw_iget (k := 31) C hP (by decide) (Or.inl rfl) e6 q1407 dX6_undo_6 (fun hP => ?_)
  refine lv_if_ne (tgt := 14) hx hb dX6_undo_9 (by decide) (fun hc => ?_) (fun hc => ?_)
  · have hf := tw_ifF hc hf
    refine lv_aload_n hx hb dX6_undo_14 rfl (lv_at hl 0 rfl) ?_
    refine lv_dup hx hb dX6_undo_15 rfl ?_
    obtain ⟨x7, t8, e9, hf⟩ := tw_bdE hf
    refine tw_iget (k := 31) C hP (by decide) (Or.inl rfl) e9 q1407 dX6_undo_16 (fun hP => ?_)
    refine lv_iconst (v := (1 : Int32)) hx hb dX6_undo_19 (by decide) ?_
    refine lv_isub hx hb dX6_undo_20 ?_
    obtain ⟨x10, t11, e12, hf⟩ := tw_bdE hf
    refine tw_iput (k := 31) C hP hS (by decide) rfl e12 q1407 dX6_undo_21 (fun H locs hP hS => ?_)
    refine lv_aload_n hx hb dX6_undo_24 rfl (lv_at hl 0 rfl) ?_
    refine tw_aget (k := 30) C hP (by decide) (by decide) q1406 dX6_undo_25 ?_
    refine lv_sipush (v := (337 : Int32)) hx hb dX6_undo_28 (by decide) ?_
    refine lv_aload_n hx hb dX6_undo_31 rfl (lv_at hl 0 rfl) ?_
    obtain ⟨x13, t14, e15, hf⟩ := tw_bdE hf
    refine tw_iget (k := 31) C hP (by decide) (Or.inl rfl) e15 q1407 dX6_undo_32 (fun hP => ?_)
    refine lv_imul hx hb dX6_undo_35 ?_
    refine lv_aload_n hx hb dX6_undo_36 rfl (lv_at hl 0 rfl) ?_
    refine tw_aget (k := 26) C hP (by decide) (by decide) q1402 dX6_undo_37 ?_
    refine lv_iconst (v := (0 : Int32)) hx hb dX6_undo_40 (by decide) ?_
    obtain ⟨x16, t17, e18, hf⟩ := tw_bdE hf
    refine tw_cSv (As := [.ref (ad 30), .int ((337 : Int32) * x13), .ref (ad 26), .int (0 : Int32)]) (rest := []) C hml hP hS (mm_copies (l := l) (X := X) (D := D) (dA := dA) hD _ _ _ _ _ _ _ e18) (va_cwS 4 hts (lw_S q1638 q1639 q106 q1640) rfl rfl rfl hdX6_copies ⟨Nat.le_of_ble_eq_true rfl, Nat.le_of_ble_eq_true rfl⟩) rfl hl.1 rfl (Nat.le_of_ble_eq_true rfl) dX6_undo_41 (fun H locs hP hS => ?_)
    refine lv_aload_n hx hb dX6_undo_44 rfl (lv_at hl 0 rfl) ?_
    obtain ⟨x19, t20, e21, hf⟩ := tw_bdE hf
    refine tw_iget (k := 31) C hP (by decide) (Or.inl rfl) e21 q1407 dX6_undo_45 (fun hP => ?_)
    exact tw_ireti (tw_rtE hf).1 (tw_rtE hf).2 C hr hP hS hlk dX6_undo_48
  · have hf := tw_ifT hc hf
    refine lv_iconst (v := (-1 : Int32)) hx hb dX6_undo_12 (by decide) ?_
    exact tw_ireti (tw_rtE hf).1 (tw_rtE hf).2 C hr hP hS hlk dX6_undo_13
def fm_keep  : TM Int32 :=
  tw_bd (tw_pi 0 (0 : Int32)) fun _ =>
    tw_bd (fm_copies 26 (0 : Int32) 29 (0 : Int32)) fun _ =>
  tw_bd (tw_pz 32 (1 : Int32)) fun _ =>
   tw_bd (tw_ld 26 (336 : Int32)) fun x10 =>
  tw_rt x10
theorem hdX6_keep : yX6_keep.cls = "LosslessFabricModel" ∧ (yX6_keep.cls ≠ "java/lang/invoke/MethodHandle" ∧ yX6_keep.cls ≠ "java/lang/invoke/VarHandle" ∧ (parseMethodDescriptor yX6_keep.desc).map (fun d => d.parameters.length) = some 0) := by decide +kernel
set_option maxHeartbeats 4000000 in
theorem mm_keep {l : Launch} {X : (Nat → Nat) × (Nat → Nat) × Nat} {D : va_G} {dA : Nat → ClassId} {o : Nat} {ad : Nat → Nat} {A : Nat → Prop} (hD : tw_D o ad A)  (t0 tZ : TS) (r : Int32) (hf : fm_keep  t0 = some (r, tZ)) : Met l yX6_keep (ws_ yX6_keep cX6_keep 1 (some .int)) ({ frames := 2, cells := 0, slots := 0, locals := 36 }) (va_Pc [.ref o] (tw_W X A D dA o ad t0)) (tw_Qi D dA o ad A r tZ) 0 0 A := by
  refine Met.ofW (cc := cX6_keep) (maxL := 1) (ret := some .int) (by decide) rfl ?_
  intro p e s m args below meth c s₁ B hml hv
  obtain ⟨rfl, hP, hK, hX⟩ := hv
  have hx := B.exec
  have hb := B.bytes
  have hr := B.returns
  have hts := atoms_spec (ws := (ws_ yX6_keep cX6_keep 1 (some .int))) B.pre
  have hts : ∀ w ∈ lw_all, w.before _ s = true := fun w h => hts w (List.mem_cons_of_mem _ h)
  have hown : s.vm.findClass "LosslessFabricModel" = some m.cls := findClass_of_methodNamed B.named
  have hlk := B.notSynchronized
  have C : tw_C X p s m _ c cX6_keep D dA o ad A := ⟨hx, hb, hts, hown, hK, hD, hX⟩
  have hS : va_S A s.heap s.heap [] := va_S.rf
  have hl := lv_entry ([.ref o]) (n := 1) (Nat.le_of_ble_eq_true rfl)
  rw [lg_entry_eq]
  generalize (lg_sl ([.ref o]) ++ List.replicate (1 - (lg_sl ([.ref o])).length) Slot.unset).toArray = ls at hl ⊢
  have hl : lv_has ls 1 [(0, .ref o)] := hl
  unfold fm_keep at hf
  refine lv_aload_n hx hb dX6_keep_0 rfl (lv_at hl 0 rfl) ?_
  refine lv_iconst (v := (0 : Int32)) hx hb dX6_keep_1 (by decide) ?_
  obtain ⟨x1, t2, e3, hf⟩ := tw_bdE hf
  refine tw_iput (k := 0) C hP hS (by decide) rfl e3 q1376 dX6_keep_2 (fun H locs hP hS => ?_)
  refine lv_aload_n hx hb dX6_keep_5 rfl (lv_at hl 0 rfl) ?_
  refine tw_aget (k := 26) C hP (by decide) (by decide) q1402 dX6_keep_6 ?_
  refine lv_iconst (v := (0 : Int32)) hx hb dX6_keep_9 (by decide) ?_
  refine lv_aload_n hx hb dX6_keep_10 rfl (lv_at hl 0 rfl) ?_
  refine tw_aget (k := 29) C hP (by decide) (by decide) q1405 dX6_keep_11 ?_
  refine lv_iconst (v := (0 : Int32)) hx hb dX6_keep_14 (by decide) ?_
  obtain ⟨x4, t5, e6, hf⟩ := tw_bdE hf
  refine tw_cSv (As := [.ref (ad 26), .int (0 : Int32), .ref (ad 29), .int (0 : Int32)]) (rest := []) C hml hP hS (mm_copies (l := l) (X := X) (D := D) (dA := dA) hD _ _ _ _ _ _ _ e6) (va_cwS 4 hts (lw_S q1638 q1639 q106 q1640) rfl rfl rfl hdX6_copies ⟨Nat.le_of_ble_eq_true rfl, Nat.le_of_ble_eq_true rfl⟩) rfl hl.1 rfl (Nat.le_of_ble_eq_true rfl) dX6_keep_15 (fun H locs hP hS => ?_)
  refine lv_aload_n hx hb dX6_keep_18 rfl (lv_at hl 0 rfl) ?_
  refine lv_iconst (v := (1 : Int32)) hx hb dX6_keep_19 (by decide) ?_
  obtain ⟨x7, t8, e9, hf⟩ := tw_bdE hf
  refine tw_zput (k := 32) C hP hS (by decide) rfl e9 q1408 dX6_keep_20 (fun H locs hP hS => ?_)
  refine lv_aload_n hx hb dX6_keep_23 rfl (lv_at hl 0 rfl) ?_
  refine tw_aget (k := 26) C hP (by decide) (by decide) q1402 dX6_keep_24 ?_
  refine lv_sipush (v := (336 : Int32)) hx hb dX6_keep_27 (by decide) ?_
  obtain ⟨x10, t11, e12, hf⟩ := tw_bdE hf
  refine tw_iald C hP e12 dX6_keep_30 (fun hP => ?_)
  exact tw_ireti (tw_rtE hf).1 (tw_rtE hf).2 C hr hP hS hlk dX6_keep_31