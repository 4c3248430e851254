def fm_newName_J47 (a1 : Nat) (a2 : Int32) (a3 : Int32)  : TM Unit :=
  tw_bd (tw_gi 22) fun x11 =>
  if x11 = 0 then (tw_bd (tw_gi 21) fun x14 =>
  tw_bd (tw_st a1 (a2 + a3) x14) fun _ =>
  tw_bd (fm_token) fun _ =>
  tw_rt ())
  else (tw_rt ())
def fm_newName (a1 : Nat) (a2 : Int32) (a3 : Int32) : TM Unit :=
  tw_bd (fm_goOn) fun _ =>
  tw_bd (tw_gi 22) fun x4 =>
  if x4 = 0 then (tw_bd (tw_gi 20) fun x7 =>
  if x7 = (1 : Int32) then (tw_bd (tw_gi 21) fun x23 =>
  tw_bd (fm_foundIn a1 a2 a3 x23) fun x26 =>
  if x26 = (-1 : Int32) then (fm_newName_J47 a1 a2 a3)
  else (tw_bd (fm_wrong (3 : Int32)) fun _ =>
 
  fm_newName_J47 a1 a2 a3))
  else (tw_bd (fm_wrong (1 : Int32)) fun _ =>
 
  fm_newName_J47 a1 a2 a3))
  else (tw_rt ())
theorem hdX6_newName : yX6_newName.cls = "LosslessFabricModel" ∧ (yX6_newName.cls ≠ "java/lang/invoke/MethodHandle" ∧ yX6_newName.cls ≠ "java/lang/invoke/VarHandle" ∧ (parseMethodDescriptor yX6_newName.desc).map (fun d => d.parameters.length) = some 3) := by decide +kernel
set_option maxHeartbeats 4000000 in
theorem mm_newName {l : Launch} {X : (Nat → Nat) × (Nat → Nat) × Nat} {D : va_G} {dA : Nat → ClassId} {o : Nat} {ad : Nat → Nat} {A : Nat → Prop} (hD : tw_D o ad A) (a1 : Nat) (a2 : Int32) (a3 : Int32) (t0 tZ : TS) (r : Unit) (hf : fm_newName a1 a2 a3 t0 = some (r, tZ)) : Met l yX6_newName (ws_ yX6_newName cX6_newName 4 (none)) ({ frames := 8, cells := 0, slots := 0, locals := 189 }) (va_Pc [.ref o, .ref (ad a1), .int a2, .int a3] (tw_W X A D dA o ad t0)) (tw_Qv D dA o ad A tZ) 0 0 A := by
  refine Met.ofW (cc := cX6_newName) (maxL := 4) (ret := none) (by decide) rfl ?_
  intro p e s m args below meth c s₁ B hml hv
  obtain ⟨rfl, hP, hK, hX⟩ := hv
  have hx := B.exec
  have hb := B.bytes
  have hr := B.returns
  have hts := atoms_spec (ws := (ws_ yX6_newName cX6_newName 4 (none))) B.pre
  have hts : ∀ w ∈ lw_all, w.before _ s = true := fun w h => hts w (List.mem_cons_of_mem _ h)
  have hown : s.vm.findClass "LosslessFabricModel" = some m.cls := findClass_of_methodNamed B.named
  have hlk := B.notSynchronized
  have C : tw_C X p s m _ c cX6_newName D dA o ad A := ⟨hx, hb, hts, hown, hK, hD, hX⟩
  have hS : va_S A s.heap s.heap [] := va_S.rf
  have hl := lv_entry ([.ref o, .ref (ad a1), .int a2, .int a3]) (n := 4) (Nat.le_of_ble_eq_true rfl)
  rw [lg_entry_eq]
  generalize (lg_sl ([.ref o, .ref (ad a1), .int a2, .int a3]) ++ List.replicate (4 - (lg_sl ([.ref o, .ref (ad a1), .int a2, .int a3])).length) Slot.unset).toArray = ls at hl ⊢
  have hl : lv_has ls 4 [(0, .ref o), (1, .ref (ad a1)), (2, .int a2), (3, .int a3)] := hl
  unfold fm_newName at hf
  refine lv_aload_n hx hb dX6_newName_0 rfl (lv_at hl 0 rfl) ?_
  obtain ⟨x1, t2, e3, hf⟩ := tw_bdE hf
  refine tw_cVv (As := []) (rest := []) C hml hP hS (mm_goOn (l := l) (X := X) (D := D) (dA := dA) hD _ _ _ e3) (cwV 0 hts (lw_V q1583 q1585 qs54 q106 q1586) rfl rfl rfl hdX6_goOn ⟨Nat.le_of_ble_eq_true rfl, Nat.le_of_ble_eq_true rfl⟩) rfl hl.1 rfl (Nat.le_of_ble_eq_true rfl) dX6_newName_1 (fun H locs hP hS => ?_)
  refine lv_aload_n hx hb dX6_newName_4 rfl (lv_at hl 0 rfl) ?_
  obtain ⟨x4, t5, e6, hf⟩ := tw_bdE hf
  refine tw_iget (k := 22) C hP (by decide) (Or.inl rfl) e6 q1398 dX6_newName_5 (fun hP => ?_)
  refine lv_if_eq (tgt := 12) hx hb dX6_newName_8 (by decide) (fun hc => ?_) (fun hc => ?_)
  · have hf := tw_ifT hc hf
    refine lv_aload_n hx hb dX6_newName_12 rfl (lv_at hl 0 rfl) ?_
    obtain ⟨x7, t8, e9, hf⟩ := tw_bdE hf
    refine tw_iget (k := 20) C hP (by decide) (Or.inl rfl) e9 q1396 dX6_newName_13 (fun hP => ?_)
    refine lv_iconst (v := (1 : Int32)) hx hb dX6_newName_16 (by decide) ?_
    have k47 : ∀  (t10 : TS) (H : Heap) (locs : List Loc) (ls : Array Slot), tw_P D dA o ad t10 H → va_S A s.heap H locs → lv_has ls 4 [(0, .ref o), (1, .ref (ad a1)), (2, .int a2), (3, .int a3)] → fm_newName_J47 a1 a2 a3  t10 = some (r, tZ) → W p l e (headSpec (ws_ yX6_newName cX6_newName 4 (none)) ({ frames := 8, cells := 0, slots := 0, locals := 189 })).room s m ([.ref o, .ref (ad a1), .int a2, .int a3] : List Value).toArray below meth c H locs 0 0 (MQ below (tw_Qv D dA o ad A tZ) ([.ref o, .ref (ad a1), .int a2, .int a3] : List Value).toArray s 0 0 A) (F0 m 47 ls []) := by
      intro t10 H locs ls hP hS hl hf
      unfold fm_newName_J47 at hf
      refine lv_aload_n hx hb dX6_newName_47 rfl (lv_at hl 0 rfl) ?_
      obtain ⟨x11, t12, e13, hf⟩ := tw_bdE hf
      refine tw_iget (k := 22) C hP (by decide) (Or.inl rfl) e13 q1398 dX6_newName_48 (fun hP => ?_)
      refine lv_if_eq (tgt := 55) hx hb dX6_newName_51 (by decide) (fun hc => ?_) (fun hc => ?_)
      · have hf := tw_ifT hc hf
        refine lv_aload_n hx hb dX6_newName_55 rfl (lv_at hl 1 rfl) ?_
        refine lv_iload_n hx hb dX6_newName_56 rfl (lv_at hl 2 rfl) ?_
        refine lv_iload_n hx hb dX6_newName_57 rfl (lv_at hl 3 rfl) ?_
        refine lv_iadd hx hb dX6_newName_58 ?_
        refine lv_aload_n hx hb dX6_newName_59 rfl (lv_at hl 0 rfl) ?_
        obtain ⟨x14, t15, e16, hf⟩ := tw_bdE hf
        refine tw_iget (k := 21) C hP (by decide) (Or.inl rfl) e16 q1397 dX6_newName_60 (fun hP => ?_)
        obtain ⟨x17, t18, e19, hf⟩ := tw_bdE hf
        refine tw_iast C hP hS e19 dX6_newName_63 (fun H locs hP hS => ?_)
        refine lv_aload_n hx hb dX6_newName_64 rfl (lv_at hl 0 rfl) ?_
        obtain ⟨x20, t21, e22, hf⟩ := tw_bdE hf
        refine tw_cVv (As := []) (rest := []) C hml hP hS (mm_token (l := l) (X := X) (D := D) (dA := dA) hD _ _ _ e22) (cwV 0 hts (lw_V q1541 q1543 qs46 q106 q1544) rfl rfl rfl hdX6_token ⟨Nat.le_of_ble_eq_true rfl, Nat.le_of_ble_eq_true rfl⟩) rfl hl.1 rfl (Nat.le_of_ble_eq_true rfl) dX6_newName_65 (fun H locs hP hS => ?_)
        exact tw_iretv (tw_rtE hf).2 C hr hP hS hlk dX6_newName_68
      · have hf := tw_ifF hc hf
        exact tw_iretv (tw_rtE hf).2 C hr hP hS hlk dX6_newName_54
    refine lv_icmp_eq (tgt := 28) hx hb dX6_newName_17 (by decide) (fun hc => ?_) (fun hc => ?_)
    · have hf := tw_ifT hc hf
      refine lv_aload_n hx hb dX6_newName_28 rfl (lv_at hl 1 rfl) ?_
      refine lv_iload_n hx hb dX6_newName_29 rfl (lv_at hl 2 rfl) ?_
      refine lv_iload_n hx hb dX6_newName_30 rfl (lv_at hl 3 rfl) ?_
      refine lv_aload_n hx hb dX6_newName_31 rfl (lv_at hl 0 rfl) ?_
      obtain ⟨x23, t24, e25, hf⟩ := tw_bdE hf
      refine tw_iget (k := 21) C hP (by decide) (Or.inl rfl) e25 q1397 dX6_newName_32 (fun hP => ?_)
      obtain ⟨x26, t27, e28, hf⟩ := tw_bdE hf
      refine tw_cSi (As := [.ref (ad a1), .int a2, .int a3, .int x23]) (rest := []) C hml hP hS (mm_foundIn (l := l) (X := X) (D := D) (dA := dA) hD _ _ _ _ _ _ _ e28) (va_cwS 4 hts (lw_S q1587 q1588 q106 q1589) rfl rfl rfl hdX6_foundIn ⟨Nat.le_of_ble_eq_true rfl, Nat.le_of_ble_eq_true rfl⟩) rfl hl.1 rfl (Nat.le_of_ble_eq_true rfl) dX6_newName_35 (fun H locs hP hS => ?_)
      refine lv_iconst (v := (-1 : Int32)) hx hb dX6_newName_38 (by decide) ?_
      refine lv_icmp_eq (tgt := 47) hx hb dX6_newName_39 (by decide) (fun hc => ?_) (fun hc => ?_)
      · have hf := tw_ifT hc hf
        exact k47 _ _ _ _ hP hS (lv_sub hl [0, 1, 2, 3] rfl) hf
      · have hf := tw_ifF hc hf
        refine lv_aload_n hx hb dX6_newName_42 rfl (lv_at hl 0 rfl) ?_
        refine lv_iconst (v := (3 : Int32)) hx hb dX6_newName_43 (by decide) ?_
        obtain ⟨x29, t30, e31, hf⟩ := tw_bdE hf
        refine tw_cVv (As := [.int (3 : Int32)]) (rest := []) C hml hP hS (mm_wrong (l := l) (X := X) (D := D) (dA := dA) hD _ _ _ _ e31) (cwV 1 hts (lw_V q1571 q1573 qs51 q106 q1574) rfl rfl rfl hdX6_wrong ⟨Nat.le_of_ble_eq_true rfl, Nat.le_of_ble_eq_true rfl⟩) rfl hl.1 rfl (Nat.le_of_ble_eq_true rfl) dX6_newName_44 (fun H locs hP hS => ?_)
        exact k47 _ _ _ _ hP hS (lv_sub hl [0, 1, 2, 3] rfl) hf
    · have hf := tw_ifF hc hf
      refine lv_aload_n hx hb dX6_newName_20 rfl (lv_at hl 0 rfl) ?_
      refine lv_iconst (v := (1 : Int32)) hx hb dX6_newName_21 (by decide) ?_
      obtain ⟨x32, t33, e34, hf⟩ := tw_bdE hf
      refine tw_cVv (As := [.int (1 : Int32)]) (rest := []) C hml hP hS (mm_wrong (l := l) (X := X) (D := D) (dA := dA) hD _ _ _ _ e34) (cwV 1 hts (lw_V q1571 q1573 qs51 q106 q1574) rfl rfl rfl hdX6_wrong ⟨Nat.le_of_ble_eq_true rfl, Nat.le_of_ble_eq_true rfl⟩) rfl hl.1 rfl (Nat.le_of_ble_eq_true rfl) dX6_newName_22 (fun H locs hP hS => ?_)
      refine lv_goto (tgt := 47) hx hb dX6_newName_25 (by decide) ?_
      exact k47 _ _ _ _ hP hS (lv_sub hl [0, 1, 2, 3] rfl) hf
  · have hf := tw_ifF hc hf
    exact tw_iretv (tw_rtE hf).2 C hr hP hS hlk dX6_newName_11
def fm_numeral_J61  (w61_0 : Int32) : TM Int32 :=
  tw_bd (fm_goOn) fun _ =>
  tw_rt w61_0
def fm_numeral_J46 (a1 : Int32)  : TM Int32 :=
  tw_bd (tw_gi 22) fun x8 =>
  if x8 = 0 then (tw_bd (tw_gi 21) fun x15 =>
 
  fm_numeral_J61 x15)
  else (fm_numeral_J61 a1)
def fm_numeral_J41 (a1 : Int32)  : TM Int32 :=
  tw_bd (fm_wrong (2 : Int32)) fun _ =>
 
  fm_numeral_J46 a1
def fm_numeral (a1 : Int32) (a2 : Int32) : TM Int32 :=
  tw_bd (tw_gi 22) fun x1 =>
  if x1 = 0 then (tw_bd (tw_gi 20) fun x4 =>
  if x4 = (2 : Int32) then (tw_bd (tw_gi 21) fun x18 =>
  if x18 < a1 then (fm_numeral_J41 a1)
  else (tw_bd (tw_gi 21) fun x25 =>
  if x25 ≤ a2 then (fm_numeral_J46 a1)
  else (fm_numeral_J41 a1)))
  else (tw_bd (fm_wrong (1 : Int32)) fun _ =>
 
  fm_numeral_J46 a1))
  else (tw_rt a1)
theorem hdX6_numeral : yX6_numeral.cls = "LosslessFabricModel" ∧ (yX6_numeral.cls ≠ "java/lang/invoke/MethodHandle" ∧ yX6_numeral.cls ≠ "java/lang/invoke/VarHandle" ∧ (parseMethodDescriptor yX6_numeral.desc).map (fun d => d.parameters.length) = some 2) := by decide +kernel
set_option maxHeartbeats 4000000 in
theorem mm_numeral {l : Launch} {X : (Nat → Nat) × (Nat → Nat) × Nat} {D : va_G} {dA : Nat → ClassId} {o : Nat} {ad : Nat → Nat} {A : Nat → Prop} (hD : tw_D o ad A) (a1 : Int32) (a2 : Int32) (t0 tZ : TS) (r : Int32) (hf : fm_numeral a1 a2 t0 = some (r, tZ)) : Met l yX6_numeral (ws_ yX6_numeral cX6_numeral 4 (some .int)) ({ frames := 8, cells := 0, slots := 0, locals := 189 }) (va_Pc [.ref o, .int a1, .int a2] (tw_W X A D dA o ad t0)) (tw_Qi D dA o ad A r tZ) 0 0 A := by
  refine Met.ofW (cc := cX6_numeral) (maxL := 4) (ret := some .int) (by decide) rfl ?_
  intro p e s m args below meth c s₁ B hml hv
  obtain ⟨rfl, hP, hK, hX⟩ := hv
  have hx := B.exec
  have hb := B.bytes
  have hr := B.returns
  have hts := atoms_spec (ws := (ws_ yX6_numeral cX6_numeral 4 (some .int))) B.pre
  have hts : ∀ w ∈ lw_all, w.before _ s = true := fun w h => hts w (List.mem_cons_of_mem _ h)
  have hown : s.vm.findClass "LosslessFabricModel" = some m.cls := findClass_of_methodNamed B.named
  have hlk := B.notSynchronized
  have C : tw_C X p s m _ c cX6_numeral D dA o ad A := ⟨hx, hb, hts, hown, hK, hD, hX⟩
  have hS : va_S A s.heap s.heap [] := va_S.rf
  have hl := lv_entry ([.ref o, .int a1, .int a2]) (n := 4) (Nat.le_of_ble_eq_true rfl)
  rw [lg_entry_eq]
  generalize (lg_sl ([.ref o, .int a1, .int a2]) ++ List.replicate (4 - (lg_sl ([.ref o, .int a1, .int a2])).length) Slot.unset).toArray = ls at hl ⊢
  have hl : lv_has ls 4 [(0, .ref o), (1, .int a1), (2, .int a2)] := hl
  unfold fm_numeral at hf
  refine lv_aload_n hx hb dX6_numeral_0 rfl (lv_at hl 0 rfl) ?_
  obtain ⟨x1, t2, e3, hf⟩ := tw_bdE hf
  refine tw_iget (k := 22) C hP (by decide) (Or.inl rfl) e3 q1398 dX6_numeral_1 (fun hP => ?_)
  refine lv_if_eq (tgt := 9) hx hb dX6_numeral_4 (by decide) (fun hc => ?_) (fun hc => ?_)
  · have hf := tw_ifT hc hf
    refine lv_aload_n hx hb dX6_numeral_9 rfl (lv_at hl 0 rfl) ?_
    obtain ⟨x4, t5, e6, hf⟩ := tw_bdE hf
    refine tw_iget (k := 20) C hP (by decide) (Or.inl rfl) e6 q1396 dX6_numeral_10 (fun hP => ?_)
    refine lv_iconst (v := (2 : Int32)) hx hb dX6_numeral_13 (by decide) ?_
    have k46 : ∀  (t7 : TS) (H : Heap) (locs : List Loc) (ls : Array Slot), tw_P D dA o ad t7 H → va_S A s.heap H locs → lv_has ls 4 [(0, .ref o), (1, .int a1)] → fm_numeral_J46 a1  t7 = some (r, tZ) → W p l e (headSpec (ws_ yX6_numeral cX6_numeral 4 (some .int)) ({ frames := 8, cells := 0, slots := 0, locals := 189 })).room s m ([.ref o, .int a1, .int a2] : List Value).toArray below meth c H locs 0 0 (MQ below (tw_Qi D dA o ad A r tZ) ([.ref o, .int a1, .int a2] : List Value).toArray s 0 0 A) (F0 m 46 ls []) := by
      intro t7 H locs ls hP hS hl hf
      unfold fm_numeral_J46 at hf
      refine lv_aload_n hx hb dX6_numeral_46 rfl (lv_at hl 0 rfl) ?_
      obtain ⟨x8, t9, e10, hf⟩ := tw_bdE hf
      refine tw_iget (k := 22) C hP (by decide) (Or.inl rfl) e10 q1398 dX6_numeral_47 (fun hP => ?_)
      have k61 : ∀ (w61_0 : Int32) (t11 : TS) (H : Heap) (locs : List Loc) (ls : Array Slot), tw_P D dA o ad t11 H → va_S A s.heap H locs → lv_has ls 4 [(0, .ref o)] → fm_numeral_J61 w61_0 t11 = some (r, tZ) → W p l e (headSpec (ws_ yX6_numeral cX6_numeral 4 (some .int)) ({ frames := 8, cells := 0, slots := 0, locals := 189 })).room s m ([.ref o, .int a1, .int a2] : List Value).toArray below meth c H locs 0 0 (MQ below (tw_Qi D dA o ad A r tZ) ([.ref o, .int a1, .int a2] : List Value).toArray s 0 0 A) (F0 m 61 ls [.int w61_0]) := by
        intro w61_0 t11 H locs ls hP hS hl hf
        unfold fm_numeral_J61 at hf
        refine lv_istore_n (lv' := [(3, .int w61_0), (0, .ref o)]) hx hb dX6_numeral_61 rfl hl (by decide) rfl (fun ls hl => ?_)
        refine lv_aload_n hx hb dX6_numeral_62 rfl (lv_at hl 1 rfl) ?_
        obtain ⟨x12, t13, e14, hf⟩ := tw_bdE hf
        refine tw_cVv (As := []) (rest := []) C hml hP hS (mm_goOn (l := l) (X := X) (D := D) (dA := dA) hD _ _ _ e14) (cwV 0 hts (lw_V q1583 q1585 qs54 q106 q1586) rfl rfl rfl hdX6_goOn ⟨Nat.le_of_ble_eq_true rfl, Nat.le_of_ble_eq_true rfl⟩) rfl hl.1 rfl (Nat.le_of_ble_eq_true rfl) dX6_numeral_63 (fun H locs hP hS => ?_)
        refine lv_iload_n hx hb dX6_numeral_66 rfl (lv_at hl 0 rfl) ?_
        exact tw_ireti (tw_rtE hf).1 (tw_rtE hf).2 C hr hP hS hlk dX6_numeral_67
      refine lv_if_ne (tgt := 60) hx hb dX6_numeral_50 (by decide) (fun hc => ?_) (fun hc => ?_)
      · have hf := tw_ifF hc hf
        refine lv_iload_n hx hb dX6_numeral_60 rfl (lv_at hl 1 rfl) ?_
        exact k61 _ _ _ _ _ hP hS (lv_sub hl [0] rfl) hf
      · have hf := tw_ifT hc hf
        refine lv_aload_n hx hb dX6_numeral_53 rfl (lv_at hl 0 rfl) ?_
        obtain ⟨x15, t16, e17, hf⟩ := tw_bdE hf
        refine tw_iget (k := 21) C hP (by decide) (Or.inl rfl) e17 q1397 dX6_numeral_54 (fun hP => ?_)
        refine lv_goto (tgt := 61) hx hb dX6_numeral_57 (by decide) ?_
        exact k61 _ _ _ _ _ hP hS (lv_sub hl [0] rfl) hf
    refine lv_icmp_eq (tgt := 25) hx hb dX6_numeral_14 (by decide) (fun hc => ?_) (fun hc => ?_)
    · have hf := tw_ifT hc hf
      refine lv_aload_n hx hb dX6_numeral_25 rfl (lv_at hl 0 rfl) ?_
      obtain ⟨x18, t19, e20, hf⟩ := tw_bdE hf
      refine tw_iget (k := 21) C hP (by decide) (Or.inl rfl) e20 q1397 dX6_numeral_26 (fun hP => ?_)
      refine lv_iload_n hx hb dX6_numeral_29 rfl (lv_at hl 1 rfl) ?_
      have k41 : ∀  (t21 : TS) (H : Heap) (locs : List Loc) (ls : Array Slot), tw_P D dA o ad t21 H → va_S A s.heap H locs → lv_has ls 4 [(0, .ref o), (1, .int a1)] → fm_numeral_J41 a1  t21 = some (r, tZ) → W p l e (headSpec (ws_ yX6_numeral cX6_numeral 4 (some .int)) ({ frames := 8, cells := 0, slots := 0, locals := 189 })).room s m ([.ref o, .int a1, .int a2] : List Value).toArray below meth c H locs 0 0 (MQ below (tw_Qi D dA o ad A r tZ) ([.ref o, .int a1, .int a2] : List Value).toArray s 0 0 A) (F0 m 41 ls []) := by
        intro t21 H locs ls hP hS hl hf
        unfold fm_numeral_J41 at hf
        refine lv_aload_n hx hb dX6_numeral_41 rfl (lv_at hl 0 rfl) ?_
        refine lv_iconst (v := (2 : Int32)) hx hb dX6_numeral_42 (by decide) ?_
        obtain ⟨x22, t23, e24, hf⟩ := tw_bdE hf
        refine tw_cVv (As := [.int (2 : Int32)]) (rest := []) C hml hP hS (mm_wrong (l := l) (X := X) (D := D) (dA := dA) hD _ _ _ _ e24) (cwV 1 hts (lw_V q1571 q1573 qs51 q106 q1574) rfl rfl rfl hdX6_wrong ⟨Nat.le_of_ble_eq_true rfl, Nat.le_of_ble_eq_true rfl⟩) rfl hl.1 rfl (Nat.le_of_ble_eq_true rfl) dX6_numeral_43 (fun H locs hP hS => ?_)
        exact k46 _ _ _ _ hP hS (lv_sub hl [0, 1] rfl) hf
      refine lv_icmp_lt (tgt := 41) hx hb dX6_numeral_30 (by decide) (fun hc => ?_) (fun hc => ?_)
      · have hf := tw_ifT hc hf
        exact k41 _ _ _ _ hP hS (lv_sub hl [0, 1] rfl) hf
      · have hf := tw_ifF hc hf
        refine lv_aload_n hx hb dX6_numeral_33 rfl (lv_at hl 0 rfl) ?_
        obtain ⟨x25, t26, e27, hf⟩ := tw_bdE hf
        refine tw_iget (k := 21) C hP (by decide) (Or.inl rfl) e27 q1397 dX6_numeral_34 (fun hP => ?_)
        refine lv_iload_n hx hb dX6_numeral_37 rfl (lv_at hl 2 rfl) ?_
        refine lv_icmp_le (tgt := 46) hx hb dX6_numeral_38 (by decide) (fun hc => ?_) (fun hc => ?_)
        · have hf := tw_ifT hc hf
          exact k46 _ _ _ _ hP hS (lv_sub hl [0, 1] rfl) hf
        · have hf := tw_ifF hc hf
          exact k41 _ _ _ _ hP hS (lv_sub hl [0, 1] rfl) hf
    · have hf := tw_ifF hc hf
      refine lv_aload_n hx hb dX6_numeral_17 rfl (lv_at hl 0 rfl) ?_
      refine lv_iconst (v := (1 : Int32)) hx hb dX6_numeral_18 (by decide) ?_
      obtain ⟨x28, t29, e30, hf⟩ := tw_bdE hf
      refine tw_cVv (As := [.int (1 : Int32)]) (rest := []) C hml hP hS (mm_wrong (l := l) (X := X) (D := D) (dA := dA) hD _ _ _ _ e30) (cwV 1 hts (lw_V q1571 q1573 qs51 q106 q1574) rfl rfl rfl hdX6_wrong ⟨Nat.le_of_ble_eq_true rfl, Nat.le_of_ble_eq_true rfl⟩) rfl hl.1 rfl (Nat.le_of_ble_eq_true rfl) dX6_numeral_19 (fun H locs hP hS => ?_)
      refine lv_goto (tgt := 46) hx hb dX6_numeral_22 (by decide) ?_
      exact k46 _ _ _ _ hP hS (lv_sub hl [0, 1] rfl) hf
  · have hf := tw_ifF hc hf
    refine lv_iload_n hx hb dX6_numeral_7 rfl (lv_at hl 1 rfl) ?_
    exact tw_ireti (tw_rtE hf).1 (tw_rtE hf).2 C hr hP hS hlk dX6_numeral_8
def fm_isOnPath_L2 (a1 : Int32) (a2 : Int32) (sf2 : Int32 → TM Int32) (v2_3 : Int32) : TM Int32 :=
   tw_bd (tw_ld 14 a1) fun x2 =>
  if x2 ≤ v2_3 then (tw_rz (0 : Int32))
  else ( tw_bd (tw_ld 15 (((5 : Int32) * a1) + v2_3)) fun x5 =>
  if x5 = a2 then (tw_rz (1 : Int32))
  else (sf2 (v2_3 + (1 : Int32))))
def fm_isOnPath (a1 : Int32) (a2 : Int32) : TM Int32 :=
  tw_lp (fm_isOnPath_L2 a1 a2) (fun _ _ => none) tw_fu (0 : Int32)
theorem hdX6_isOnPath : yX6_isOnPath.cls = "LosslessFabricModel" ∧ (yX6_isOnPath.cls ≠ "java/lang/invoke/MethodHandle" ∧ yX6_isOnPath.cls ≠ "java/lang/invoke/VarHandle" ∧ (parseMethodDescriptor yX6_isOnPath.desc).map (fun d => d.parameters.length) = some 2) := by decide +kernel
set_option maxHeartbeats 4000000 in
theorem mm_isOnPath {l : Launch} {X : (Nat → Nat) × (Nat → Nat) × Nat} {D : va_G} {dA : Nat → ClassId} {o : Nat} {ad : Nat → Nat} {A : Nat → Prop} (hD : tw_D o ad A) (a1 : Int32) (a2 : Int32) (t0 tZ : TS) (r : Int32) (hf : fm_isOnPath a1 a2 t0 = some (r, tZ)) : Met l yX6_isOnPath (ws_ yX6_isOnPath cX6_isOnPath 4 (some .boolean)) ({ frames := 1, cells := 0, slots := 0, locals := 12 }) (va_Pc [.ref o, .int a1, .int a2] (tw_W X A D dA o ad t0)) (tw_Qi D dA o ad A r tZ) 0 0 A := by
  refine Met.ofW (cc := cX6_isOnPath) (maxL := 4) (ret := some .boolean) (by decide) rfl ?_
  intro p e s m args below meth c s₁ B hml hv
  obtain ⟨rfl, hP, hK, hX⟩ := hv
  have hx := B.exec
  have hb := B.bytes
  have hr := B.returns
  have hts := atoms_spec (ws := (ws_ yX6_isOnPath cX6_isOnPath 4 (some .boolean))) B.pre
  have hts : ∀ w ∈ lw_all, w.before _ s = true := fun w h => hts w (List.mem_cons_of_mem _ h)
  have hown : s.vm.findClass "LosslessFabricModel" = some m.cls := findClass_of_methodNamed B.named
  have hlk := B.notSynchronized
  have C : tw_C X p s m _ c cX6_isOnPath D dA o ad A := ⟨hx, hb, hts, hown, hK, hD, hX⟩
  have hS : va_S A s.heap s.heap [] := va_S.rf
  have hl := lv_entry ([.ref o, .int a1, .int a2]) (n := 4) (Nat.le_of_ble_eq_true rfl)
  rw [lg_entry_eq]
  generalize (lg_sl ([.ref o, .int a1, .int a2]) ++ List.replicate (4 - (lg_sl ([.ref o, .int a1, .int a2])).length) Slot.unset).toArray = ls at hl ⊢
  have hl : lv_has ls 4 [(0, .ref o), (1, .int a1), (2, .int a2)] := hl
  unfold fm_isOnPath at hf
  refine lv_iconst (v := (0 : Int32)) hx hb dX6_isOnPath_0 (by decide) ?_
  refine lv_istore_n (lv' := [(3, .int (0 : Int32)), (0, .ref o), (1, .int a1), (2, .int a2)]) hx hb dX6_isOnPath_1 rfl hl (by decide) rfl (fun ls hl => ?_)
  have k2 : ∀ (n : Nat) (v2_3 : Int32) (t1 : TS) (H : Heap) (locs : List Loc) (ls : Array Slot), tw_P D dA o ad t1 H → va_S A s.heap H locs → lv_has ls 4 [(0, .ref o), (1, .int a1), (2, .int a2), (3, .int v2_3)] → tw_lp (fm_isOnPath_L2 a1 a2) (fun _ _ => none) n v2_3 t1 = some (r, tZ) → W p l e (headSpec (ws_ yX6_isOnPath cX6_isOnPath 4 (some .boolean)) ({ frames := 1, cells := 0, slots := 0, locals := 12 })).room s m ([.ref o, .int a1, .int a2] : List Value).toArray below meth c H locs 0 0 (MQ below (tw_Qi D dA o ad A r tZ) ([.ref o, .int a1, .int a2] : List Value).toArray s 0 0 A) (F0 m 2 ls []) := by
    intro n
    induction n with
    | zero => intro v2_3 t1 H locs ls hP hS hl hf; exact (tw_no hf).elim
    | succ n ih2 =>
      intro v2_3 t1 H locs ls hP hS hl hf
      obtain ⟨sf2, hs2⟩ : ∃ f, f = tw_lp (fm_isOnPath_L2 a1 a2) (fun _ _ => none) n := ⟨_, rfl⟩
      rw [← hs2] at ih2
      have hf : fm_isOnPath_L2 a1 a2 sf2 v2_3 t1 = some (r, tZ) := by rw [hs2]; exact hf
      clear hs2
      unfold fm_isOnPath_L2 at hf
      refine lv_iload_n hx hb dX6_isOnPath_2 rfl (lv_at hl 3 rfl) ?_
      refine lv_aload_n hx hb dX6_isOnPath_3 rfl (lv_at hl 0 rfl) ?_
      refine tw_aget (k := 14) C hP (by decide) (by decide) q1390 dX6_isOnPath_4 ?_
      refine lv_iload_n hx hb dX6_isOnPath_7 rfl (lv_at hl 1 rfl) ?_
      obtain ⟨x2, t3, e4, hf⟩ := tw_bdE hf
      refine tw_iald C hP e4 dX6_isOnPath_8 (fun hP => ?_)
      refine lv_icmp_ge (tgt := 34) hx hb dX6_isOnPath_9 (by decide) (fun hc => ?_) (fun hc => ?_)
      · have hf := tw_ifT hc hf
        refine lv_iconst (v := (0 : Int32)) hx hb dX6_isOnPath_34 (by decide) ?_
        exact tw_iretz hf C hr hP hS hlk dX6_isOnPath_35
      · have hf := tw_ifF hc hf
        refine lv_aload_n hx hb dX6_isOnPath_12 rfl (lv_at hl 0 rfl) ?_
        refine tw_aget (k := 15) C hP (by decide) (by decide) q1391 dX6_isOnPath_13 ?_
        refine lv_iconst (v := (5 : Int32)) hx hb dX6_isOnPath_16 (by decide) ?_
        refine lv_iload_n hx hb dX6_isOnPath_17 rfl (lv_at hl 1 rfl) ?_
        refine lv_imul hx hb dX6_isOnPath_18 ?_
        refine lv_iload_n hx hb dX6_isOnPath_19 rfl (lv_at hl 3 rfl) ?_
        refine lv_iadd hx hb dX6_isOnPath_20 ?_
        obtain ⟨x5, t6, e7, hf⟩ := tw_bdE hf
        refine tw_iald C hP e7 dX6_isOnPath_21 (fun hP => ?_)
        refine lv_iload_n hx hb dX6_isOnPath_22 rfl (lv_at hl 2 rfl) ?_
        refine lv_icmp_ne (tgt := 28) hx hb dX6_isOnPath_23 (by decide) (fun hc => ?_) (fun hc => ?_)
        · have hf := tw_ifF hc hf
          refine lv_iinc (v := (v2_3 + (1 : Int32))) (lv' := [(3, .int (v2_3 + (1 : Int32))), (0, .ref o), (1, .int a1), (2, .int a2)]) hx hb dX6_isOnPath_28 hl (k := 3) rfl rfl (by decide) rfl (fun ls hl => ?_)
          refine lv_goto (tgt := 2) hx hb dX6_isOnPath_31 (by decide) ?_
          exact ih2 _ _ _ _ _ hP hS (lv_sub hl [1, 2, 3, 0] rfl) hf
        · have hf := tw_ifT hc hf
          refine lv_iconst (v := (1 : Int32)) hx hb dX6_isOnPath_26 (by decide) ?_
          exact tw_iretz hf C hr hP hS hlk dX6_isOnPath_27
  exact k2 _ _ _ _ _ _ hP hS (lv_sub hl [1, 2, 3, 0] rfl) hf
def fm_readHop_J92 (a1 : Int32) (x14 : Int32)  : TM Unit :=
  tw_bd (tw_gi 22) fun x18 =>
  if x18 = 0 then (  tw_bd (tw_ld 14 a1) fun x21 =>
  tw_bd (tw_st 15 (((5 : Int32) * a1) + x21) x14) fun _ =>
   tw_bd (tw_ld 14 a1) fun x27 =>
  tw_bd (tw_st 14 a1 (x27 + (1 : Int32))) fun _ =>
  tw_bd (fm_token) fun _ =>
  tw_rt ())
  else (tw_rt ())
def fm_readHop_J38 (a1 : Int32)  : TM Unit :=
  tw_bd (tw_gi 22) fun x5 =>
  if x5 = 0 then ( tw_bd (fm_reading (0 : Int32)) fun x8 =>
  tw_bd (tw_gi 21) fun x11 =>
  tw_bd (fm_foundIn 5 (10 : Int32) x8 x11) fun x14 =>
  if x14 = (-1 : Int32) then (tw_bd (fm_wrong (4 : Int32)) fun _ =>
 
  fm_readHop_J92 a1 x14)
  else (tw_bd (fm_isOnPath a1 x14) fun x36 =>
  if x36 = 0 then (fm_readHop_J92 a1 x14)
  else (tw_bd (fm_wrong (3 : Int32)) fun _ =>
 
  fm_readHop_J92 a1 x14)))
  else (tw_rt ())
def fm_readHop_J15 (a1 : Int32)  : TM Unit :=
  tw_bd (fm_wrong (1 : Int32)) fun _ =>
 
  fm_readHop_J38 a1
def fm_readHop (a1 : Int32) : TM Unit :=
  tw_bd (tw_gi 20) fun x1 =>
  if x1 = 0 then (fm_readHop_J15 a1)
  else (tw_bd (tw_gi 20) fun x49 =>
  if x49 = (1 : Int32) then ( tw_bd (tw_ld 14 a1) fun x52 =>
  if x52 = (5 : Int32) then (tw_bd (fm_wrong (2 : Int32)) fun _ =>
 
  fm_readHop_J38 a1)
  else (fm_readHop_J38 a1))
  else (fm_readHop_J15 a1))
theorem hdX6_readHop : yX6_readHop.cls = "LosslessFabricModel" ∧ (yX6_readHop.cls ≠ "java/lang/invoke/MethodHandle" ∧ yX6_readHop.cls ≠ "java/lang/invoke/VarHandle" ∧ (parseMethodDescriptor yX6_readHop.desc).map (fun d => d.parameters.length) = some 1) := by decide +kernel
set_option maxHeartbeats 4000000 in
theorem mm_readHop {l : Launch} {X : (Nat → Nat) × (Nat → Nat) × Nat} {D : va_G} {dA : Nat → ClassId} {o : Nat} {ad : Nat → Nat} {A : Nat → Prop} (hD : tw_D o ad A) (a1 : Int32) (t0 tZ : TS) (r : Unit) (hf : fm_readHop a1 t0 = some (r, tZ)) : Met l yX6_readHop (ws_ yX6_readHop cX6_readHop 3 (none)) ({ frames := 7, cells := 0, slots := 0, locals := 169 }) (va_Pc [.ref o, .int a1] (tw_W X A D dA o ad t0)) (tw_Qv D dA o ad A tZ) 0 0 A := by
  refine Met.ofW (cc := cX6_readHop) (maxL := 3) (ret := none) (by decide) rfl ?_
  intro p e s m args below meth c s₁ B hml hv
  obtain ⟨rfl, hP, hK, hX⟩ := hv
  have hx := B.exec
  have hb := B.bytes
  have hr := B.returns
  have hts := atoms_spec (ws := (ws_ yX6_readHop cX6_readHop 3 (none))) B.pre
  have hts : ∀ w ∈ lw_all, w.before _ s = true := fun w h => hts w (List.mem_cons_of_mem _ h)
  have hown : s.vm.findClass "LosslessFabricModel" = some m.cls := findClass_of_methodNamed B.named
  have hlk := B.notSynchronized
  have C : tw_C X p s m _ c cX6_readHop D dA o ad A := ⟨hx, hb, hts, hown, hK, hD, hX⟩
  have hS : va_S A s.heap s.heap [] := va_S.rf
  have hl := lv_entry ([.ref o, .int a1]) (n := 3) (Nat.le_of_ble_eq_true rfl)
  rw [lg_entry_eq]
  generalize (lg_sl ([.ref o, .int a1]) ++ List.replicate (3 - (lg_sl ([.ref o, .int a1])).length) Slot.unset).toArray = ls at hl ⊢
  have hl : lv_has ls 3 [(0, .ref o), (1, .int a1)] := hl
  unfold fm_readHop at hf
  refine lv_aload_n hx hb dX6_readHop_0 rfl (lv_at hl 0 rfl) ?_
  obtain ⟨x1, t2, e3, hf⟩ := tw_bdE hf
  refine tw_iget (k := 20) C hP (by decide) (Or.inl rfl) e3 q1396 dX6_readHop_1 (fun hP => ?_)
  have k38 : ∀  (t4 : TS) (H : Heap) (locs : List Loc) (ls : Array Slot), tw_P D dA o ad t4 H → va_S A s.heap H locs → lv_has ls 3 [(0, .ref o), (1, .int a1)] → fm_readHop_J38 a1  t4 = some (r, tZ) → W p l e (headSpec (ws_ yX6_readHop cX6_readHop 3 (none)) ({ frames := 7, cells := 0, slots := 0, locals := 169 })).room s m ([.ref o, .int a1] : List Value).toArray below meth c H locs 0 0 (MQ below (tw_Qv D dA o ad A tZ) ([.ref o, .int a1] : List Value).toArray s 0 0 A) (F0 m 38 ls []) := by
    intro t4 H locs ls hP hS hl hf
    unfold fm_readHop_J38 at hf
    refine lv_aload_n hx hb dX6_readHop_38 rfl (lv_at hl 0 rfl) ?_
    obtain ⟨x5, t6, e7, hf⟩ := tw_bdE hf
    refine tw_iget (k := 22) C hP (by decide) (Or.inl rfl) e7 q1398 dX6_readHop_39 (fun hP => ?_)
    refine lv_if_eq (tgt := 46) hx hb dX6_readHop_42 (by decide) (fun hc => ?_) (fun hc => ?_)
    · have hf := tw_ifT hc hf
      refine lv_aload_n hx hb dX6_readHop_46 rfl (lv_at hl 0 rfl) ?_
      refine tw_aget (k := 5) C hP (by decide) (by decide) q1381 dX6_readHop_47 ?_
      refine lv_bipush (v := (10 : Int32)) hx hb dX6_readHop_50 (by decide) ?_
      refine lv_aload_n hx hb dX6_readHop_52 rfl (lv_at hl 0 rfl) ?_
      refine lv_iconst (v := (0 : Int32)) hx hb dX6_readHop_53 (by decide) ?_
      obtain ⟨x8, t9, e10, hf⟩ := tw_bdE hf
      refine tw_cVi (As := [.int (0 : Int32)]) (rest := [.int (10 : Int32), .ref (ad 5)]) C hml hP hS (mm_reading (l := l) (X := X) (D := D) (dA := dA) hD _ _ _ _ e10) (cwV 1 hts (lw_V q1360 q1362 qs41 q106 q1363) rfl rfl rfl hdX6_reading ⟨Nat.le_of_ble_eq_true rfl, Nat.le_of_ble_eq_true rfl⟩) rfl hl.1 rfl (Nat.le_of_ble_eq_true rfl) dX6_readHop_54 (fun H locs hP hS => ?_)
      refine lv_aload_n hx hb dX6_readHop_57 rfl (lv_at hl 0 rfl) ?_
      obtain ⟨x11, t12, e13, hf⟩ := tw_bdE hf
      refine tw_iget (k := 21) C hP (by decide) (Or.inl rfl) e13 q1397 dX6_readHop_58 (fun hP => ?_)
      obtain ⟨x14, t15, e16, hf⟩ := tw_bdE hf
      refine tw_cSi (As := [.ref (ad 5), .int (10 : Int32), .int x8, .int x11]) (rest := []) C hml hP hS (mm_foundIn (l := l) (X := X) (D := D) (dA := dA) hD _ _ _ _ _ _ _ e16) (va_cwS 4 hts (lw_S q1587 q1588 q106 q1589) rfl rfl rfl hdX6_foundIn ⟨Nat.le_of_ble_eq_true rfl, Nat.le_of_ble_eq_true rfl⟩) rfl hl.1 rfl (Nat.le_of_ble_eq_true rfl) dX6_readHop_61 (fun H locs hP hS => ?_)
      refine lv_istore_n (lv' := [(2, .int x14), (0, .ref o), (1, .int a1)]) hx hb dX6_readHop_64 rfl hl (by decide) rfl (fun ls hl => ?_)
      refine lv_iload_n hx hb dX6_readHop_65 rfl (lv_at hl 0 rfl) ?_
      refine lv_iconst (v := (-1 : Int32)) hx hb dX6_readHop_66 (by decide) ?_
      have k92 : ∀  (t17 : TS) (H : Heap) (locs : List Loc) (ls : Array Slot), tw_P D dA o ad t17 H → va_S A s.heap H locs → lv_has ls 3 [(0, .ref o), (1, .int a1), (2, .int x14)] → fm_readHop_J92 a1 x14  t17 = some (r, tZ) → W p l e (headSpec (ws_ yX6_readHop cX6_readHop 3 (none)) ({ frames := 7, cells := 0, slots := 0, locals := 169 })).room s m ([.ref o, .int a1] : List Value).toArray below meth c H locs 0 0 (MQ below (tw_Qv D dA o ad A tZ) ([.ref o, .int a1] : List Value).toArray s 0 0 A) (F0 m 92 ls []) := by
        intro t17 H locs ls hP hS hl hf
        unfold fm_readHop_J92 at hf
        refine lv_aload_n hx hb dX6_readHop_92 rfl (lv_at hl 0 rfl) ?_
        obtain ⟨x18, t19, e20, hf⟩ := tw_bdE hf
        refine tw_iget (k := 22) C hP (by decide) (Or.inl rfl) e20 q1398 dX6_readHop_93 (fun hP => ?_)
        refine lv_if_eq (tgt := 100) hx hb dX6_readHop_96 (by decide) (fun hc => ?_) (fun hc => ?_)
        · have hf := tw_ifT hc hf
          refine lv_aload_n hx hb dX6_readHop_100 rfl (lv_at hl 0 rfl) ?_
          refine tw_aget (k := 15) C hP (by decide) (by decide) q1391 dX6_readHop_101 ?_
          refine lv_iconst (v := (5 : Int32)) hx hb dX6_readHop_104 (by decide) ?_
          refine lv_iload_n hx hb dX6_readHop_105 rfl (lv_at hl 1 rfl) ?_
          refine lv_imul hx hb dX6_readHop_106 ?_
          refine lv_aload_n hx hb dX6_readHop_107 rfl (lv_at hl 0 rfl) ?_
          refine tw_aget (k := 14) C hP (by decide) (by decide) q1390 dX6_readHop_108 ?_
          refine lv_iload_n hx hb dX6_readHop_111 rfl (lv_at hl 1 rfl) ?_
          obtain ⟨x21, t22, e23, hf⟩ := tw_bdE hf
          refine tw_iald C hP e23 dX6_readHop_112 (fun hP => ?_)
          refine lv_iadd hx hb dX6_readHop_113 ?_
          refine lv_iload_n hx hb dX6_readHop_114 rfl (lv_at hl 2 rfl) ?_
          obtain ⟨x24, t25, e26, hf⟩ := tw_bdE hf
          refine tw_iast C hP hS e26 dX6_readHop_115 (fun H locs hP hS => ?_)
          refine lv_aload_n hx hb dX6_readHop_116 rfl (lv_at hl 0 rfl) ?_
          refine tw_aget (k := 14) C hP (by decide) (by decide) q1390 dX6_readHop_117 ?_
          refine lv_iload_n hx hb dX6_readHop_120 rfl (lv_at hl 1 rfl) ?_
          refine lv_dup2_11 hx hb dX6_readHop_121 rfl rfl ?_
          obtain ⟨x27, t28, e29, hf⟩ := tw_bdE hf
          refine tw_iald C hP e29 dX6_readHop_122 (fun hP => ?_)
          refine lv_iconst (v := (1 : Int32)) hx hb dX6_readHop_123 (by decide) ?_
          refine lv_iadd hx hb dX6_readHop_124 ?_
          obtain ⟨x30, t31, e32, hf⟩ := tw_bdE hf
          refine tw_iast C hP hS e32 dX6_readHop_125 (fun H locs hP hS => ?_)
          refine lv_aload_n hx hb dX6_readHop_126 rfl (lv_at hl 0 rfl) ?_
          obtain ⟨x33, t34, e35, hf⟩ := tw_bdE hf
          refine tw_cVv (As := []) (rest := []) C hml hP hS (mm_token (l := l) (X := X) (D := D) (dA := dA) hD _ _ _ e35) (cwV 0 hts (lw_V q1541 q1543 qs46 q106 q1544) rfl rfl rfl hdX6_token ⟨Nat.le_of_ble_eq_true rfl, Nat.le_of_ble_eq_true rfl⟩) rfl hl.1 rfl (Nat.le_of_ble_eq_true rfl) dX6_readHop_127 (fun H locs hP hS => ?_)
          exact tw_iretv (tw_rtE hf).2 C hr hP hS hlk dX6_readHop_130
        · have hf := tw_ifF hc hf
          exact tw_iretv (tw_rtE hf).2 C hr hP hS hlk dX6_readHop_99
      refine lv_icmp_ne (tgt := 78) hx hb dX6_readHop_67 (by decide) (fun hc => ?_) (fun hc => ?_)
      · have hf := tw_ifF hc hf
        refine lv_aload_n hx hb dX6_readHop_78 rfl (lv_at hl 1 rfl) ?_
        refine lv_iload_n hx hb dX6_readHop_79 rfl (lv_at hl 2 rfl) ?_
        refine lv_iload_n hx hb dX6_readHop_80 rfl (lv_at hl 0 rfl) ?_
        obtain ⟨x36, t37, e38, hf⟩ := tw_bdE hf
        refine tw_cVi (As := [.int a1, .int x14]) (rest := []) C hml hP hS (mm_isOnPath (l := l) (X := X) (D := D) (dA := dA) hD _ _ _ _ _ e38) (cwV 2 hts (lw_V q1602 q1604 qs58 q106 q1605) rfl rfl rfl hdX6_isOnPath ⟨Nat.le_of_ble_eq_true rfl, Nat.le_of_ble_eq_true rfl⟩) rfl hl.1 rfl (Nat.le_of_ble_eq_true rfl) dX6_readHop_81 (fun H locs hP hS => ?_)
        refine lv_if_eq (tgt := 92) hx hb dX6_readHop_84 (by decide) (fun hc => ?_) (fun hc => ?_)
        · have hf := tw_ifT hc hf
          exact k92 _ _ _ _ hP hS (lv_sub hl [1, 2, 0] rfl) hf
        · have hf := tw_ifF hc hf
          refine lv_aload_n hx hb dX6_readHop_87 rfl (lv_at hl 1 rfl) ?_
          refine lv_iconst (v := (3 : Int32)) hx hb dX6_readHop_88 (by decide) ?_
          obtain ⟨x39, t40, e41, hf⟩ := tw_bdE hf
          refine tw_cVv (As := [.int (3 : Int32)]) (rest := []) C hml hP hS (mm_wrong (l := l) (X := X) (D := D) (dA := dA) hD _ _ _ _ e41) (cwV 1 hts (lw_V q1571 q1573 qs51 q106 q1574) rfl rfl rfl hdX6_wrong ⟨Nat.le_of_ble_eq_true rfl, Nat.le_of_ble_eq_true rfl⟩) rfl hl.1 rfl (Nat.le_of_ble_eq_true rfl) dX6_readHop_89 (fun H locs hP hS => ?_)
          exact k92 _ _ _ _ hP hS (lv_sub hl [1, 2, 0] rfl) hf
      · have hf := tw_ifT hc hf
        refine lv_aload_n hx hb dX6_readHop_70 rfl (lv_at hl 1 rfl) ?_
        refine lv_iconst (v := (4 : Int32)) hx hb dX6_readHop_71 (by decide) ?_
        obtain ⟨x42, t43, e44, hf⟩ := tw_bdE hf
        refine tw_cVv (As := [.int (4 : Int32)]) (rest := []) C hml hP hS (mm_wrong (l := l) (X := X) (D := D) (dA := dA) hD _ _ _ _ e44) (cwV 1 hts (lw_V q1571 q1573 qs51 q106 q1574) rfl rfl rfl hdX6_wrong ⟨Nat.le_of_ble_eq_true rfl, Nat.le_of_ble_eq_true rfl⟩) rfl hl.1 rfl (Nat.le_of_ble_eq_true rfl) dX6_readHop_72 (fun H locs hP hS => ?_)
        refine lv_goto (tgt := 92) hx hb dX6_readHop_75 (by decide) ?_
        exact k92 _ _ _ _ hP hS (lv_sub hl [1, 2, 0] rfl) hf
    · have hf := tw_ifF hc hf
      exact tw_iretv (tw_rtE hf).2 C hr hP hS hlk dX6_readHop_45
  have k15 : ∀  (t45 : TS) (H : Heap) (locs : List Loc) (ls : Array Slot), tw_P D dA o ad t45 H → va_S A s.heap H locs → lv_has ls 3 [(0, .ref o), (1, .int a1)] → fm_readHop_J15 a1  t45 = some (r, tZ) → W p l e (headSpec (ws_ yX6_readHop cX6_readHop 3 (none)) ({ frames := 7, cells := 0, slots := 0, locals := 169 })).room s m ([.ref o, .int a1] : List Value).toArray below meth c H locs 0 0 (MQ below (tw_Qv D dA o ad A tZ) ([.ref o, .int a1] : List Value).toArray s 0 0 A) (F0 m 15 ls []) := by
    intro t45 H locs ls hP hS hl hf
    unfold fm_readHop_J15 at hf
    refine lv_aload_n hx hb dX6_readHop_15 rfl (lv_at hl 0 rfl) ?_
    refine lv_iconst (v := (1 : Int32)) hx hb dX6_readHop_16 (by decide) ?_
    obtain ⟨x46, t47, e48, hf⟩ := tw_bdE hf
    refine tw_cVv (As := [.int (1 : Int32)]) (rest := []) C hml hP hS (mm_wrong (l := l) (X := X) (D := D) (dA := dA) hD _ _ _ _ e48) (cwV 1 hts (lw_V q1571 q1573 qs51 q106 q1574) rfl rfl rfl hdX6_wrong ⟨Nat.le_of_ble_eq_true rfl, Nat.le_of_ble_eq_true rfl⟩) rfl hl.1 rfl (Nat.le_of_ble_eq_true rfl) dX6_readHop_17 (fun H locs hP hS => ?_)
    refine lv_goto (tgt := 38) hx hb dX6_readHop_20 (by decide) ?_
    exact k38 _ _ _ _ hP hS (lv_sub hl [0, 1] rfl) hf
  refine lv_if_eq (tgt := 15) hx hb dX6_readHop_4 (by decide) (fun hc => ?_) (fun hc => ?_)
  · have hf := tw_ifT hc hf
    exact k15 _ _ _ _ hP hS (lv_sub hl [0, 1] rfl) hf
  · have hf := tw_ifF hc hf
    refine lv_aload_n hx hb dX6_readHop_7 rfl (lv_at hl 0 rfl) ?_
    obtain ⟨x49, t50, e51, hf⟩ := tw_bdE hf
    refine tw_iget (k := 20) C hP (by decide) (Or.inl rfl) e51 q1396 dX6_readHop_8 (fun hP => ?_)
    refine lv_iconst (v := (1 : Int32)) hx hb dX6_readHop_11 (by decide) ?_
    refine lv_icmp_eq (tgt := 23) hx hb dX6_readHop_12 (by decide) (fun hc => ?_) (fun hc => ?_)
    · have hf := tw_ifT hc hf
      refine lv_aload_n hx hb dX6_readHop_23 rfl (lv_at hl 0 rfl) ?_
      refine tw_aget (k := 14) C hP (by decide) (by decide) q1390 dX6_readHop_24 ?_
      refine lv_iload_n hx hb dX6_readHop_27 rfl (lv_at hl 1 rfl) ?_
      obtain ⟨x52, t53, e54, hf⟩ := tw_bdE hf
      refine tw_iald C hP e54 dX6_readHop_28 (fun hP => ?_)
      refine lv_iconst (v := (5 : Int32)) hx hb dX6_readHop_29 (by decide) ?_
      refine lv_icmp_ne (tgt := 38) hx hb dX6_readHop_30 (by decide) (fun hc => ?_) (fun hc => ?_)
      · have hf := tw_ifF hc hf
        exact k38 _ _ _ _ hP hS (lv_sub hl [0, 1] rfl) hf
      · have hf := tw_ifT hc hf
        refine lv_aload_n hx hb dX6_readHop_33 rfl (lv_at hl 0 rfl) ?_
        refine lv_iconst (v := (2 : Int32)) hx hb dX6_readHop_34 (by decide) ?_
        obtain ⟨x55, t56, e57, hf⟩ := tw_bdE hf
        refine tw_cVv (As := [.int (2 : Int32)]) (rest := []) C hml hP hS (mm_wrong (l := l) (X := X) (D := D) (dA := dA) hD _ _ _ _ e57) (cwV 1 hts (lw_V q1571 q1573 qs51 q106 q1574) rfl rfl rfl hdX6_wrong ⟨Nat.le_of_ble_eq_true rfl, Nat.le_of_ble_eq_true rfl⟩) rfl hl.1 rfl (Nat.le_of_ble_eq_true rfl) dX6_readHop_35 (fun H locs hP hS => ?_)
        exact k38 _ _ _ _ hP hS (lv_sub hl [0, 1] rfl) hf
    · have hf := tw_ifF hc hf
      exact k15 _ _ _ _ hP hS (lv_sub hl [0, 1] rfl) hf
def fm_readFlow_J101   : TM Unit :=
  tw_bd (fm_reading (1 : Int32)) fun x34 =>
  tw_bd (fm_reads (1 : Int32) (x34 + (1 : Int32))) fun _ =>
  tw_rt ()
def fm_readFlow_L78 (x1 : Int32) (sf78 : TM Unit)  : TM Unit :=
  tw_bd (tw_gi 22) fun x30 =>
  if x30 = 0 then (tw_bd (tw_gi 20) fun x40 =>
  if x40 = (3 : Int32) then (fm_readFlow_J101)
  else (tw_bd (fm_readHop ((8 : Int32) + x1)) fun _ =>
 
  sf78))
  else (fm_readFlow_J101)
def fm_readFlow_J20 (x1 : Int32)  : TM Unit :=
   tw_bd (fm_reading (1 : Int32)) fun x5 =>
  tw_bd (fm_newName 11 (8 : Int32) x5) fun _ =>
  tw_bd (fm_numeral (1 : Int32) (1024 : Int32)) fun x11 =>
  tw_bd (tw_gi 22) fun x14 =>
  if x14 = 0 then ( tw_bd (tw_st 12 ((8 : Int32) + x1) x11) fun _ =>
   tw_bd (tw_sz 13 ((8 : Int32) + x1) (0 : Int32)) fun _ =>
   tw_bd (tw_st 14 ((8 : Int32) + x1) (0 : Int32)) fun _ =>
  tw_bd (fm_readHop ((8 : Int32) + x1)) fun _ =>
 
  tw_lp (fm_readFlow_L78 x1) (fun _ => none) tw_fu)
  else (tw_rt ())
def fm_readFlow  : TM Unit :=
  tw_bd (fm_reading (1 : Int32)) fun x1 =>
  if ((8 : Int32) + x1) = (16 : Int32) then (tw_bd (fm_wrong (2 : Int32)) fun _ =>
 
  fm_readFlow_J20 x1)
  else (fm_readFlow_J20 x1)
theorem hdX6_readFlow : yX6_readFlow.cls = "LosslessFabricModel" ∧ (yX6_readFlow.cls ≠ "java/lang/invoke/MethodHandle" ∧ yX6_readFlow.cls ≠ "java/lang/invoke/VarHandle" ∧ (parseMethodDescriptor yX6_readFlow.desc).map (fun d => d.parameters.length) = some 0) := by decide +kernel
set_option maxHeartbeats 4000000 in
theorem mm_readFlow {l : Launch} {X : (Nat → Nat) × (Nat → Nat) × Nat} {D : va_G} {dA : Nat → ClassId} {o : Nat} {ad : Nat → Nat} {A : Nat → Prop} (hD : tw_D o ad A)  (t0 tZ : TS) (r : Unit) (hf : fm_readFlow  t0 = some (r, tZ)) : Met l yX6_readFlow (ws_ yX6_readFlow cX6_readFlow 3 (none)) ({ frames := 9, cells := 0, slots := 0, locals := 212 }) (va_Pc [.ref o] (tw_W X A D dA o ad t0)) (tw_Qv D dA o ad A tZ) 0 0 A := by
  refine Met.ofW (cc := cX6_readFlow) (maxL := 3) (ret := none) (by decide) rfl ?_
  intro p e s m args below meth c s₁ B hml hv
  obtain ⟨rfl, hP, hK, hX⟩ := hv
  have hx := B.exec
  have hb := B.bytes
  have hr := B.returns
  have hts := atoms_spec (ws := (ws_ yX6_readFlow cX6_readFlow 3 (none))) B.pre
  have hts : ∀ w ∈ lw_all, w.before _ s = true := fun w h => hts w (List.mem_cons_of_mem _ h)
  have hown : s.vm.findClass "LosslessFabricModel" = some m.cls := findClass_of_methodNamed B.named
  have hlk := B.notSynchronized
  have C : tw_C X p s m _ c cX6_readFlow D dA o ad A := ⟨hx, hb, hts, hown, hK, hD, hX⟩
  have hS : va_S A s.heap s.heap [] := va_S.rf
  have hl := lv_entry ([.ref o]) (n := 3) (Nat.le_of_ble_eq_true rfl)
  rw [lg_entry_eq]
  generalize (lg_sl ([.ref o]) ++ List.replicate (3 - (lg_sl ([.ref o])).length) Slot.unset).toArray = ls at hl ⊢
  have hl : lv_has ls 3 [(0, .ref o)] := hl
  unfold fm_readFlow at hf
  refine lv_bipush (v := (8 : Int32)) hx hb dX6_readFlow_0 (by decide) ?_
  refine lv_aload_n hx hb dX6_readFlow_2 rfl (lv_at hl 0 rfl) ?_
  refine lv_iconst (v := (1 : Int32)) hx hb dX6_readFlow_3 (by decide) ?_
  obtain ⟨x1, t2, e3, hf⟩ := tw_bdE hf
  refine tw_cVi (As := [.int (1 : Int32)]) (rest := [.int (8 : Int32)]) C hml hP hS (mm_reading (l := l) (X := X) (D := D) (dA := dA) hD _ _ _ _ e3) (cwV 1 hts (lw_V q1360 q1362 qs41 q106 q1363) rfl rfl rfl hdX6_reading ⟨Nat.le_of_ble_eq_true rfl, Nat.le_of_ble_eq_true rfl⟩) rfl hl.1 rfl (Nat.le_of_ble_eq_true rfl) dX6_readFlow_4 (fun H locs hP hS => ?_)
  refine lv_iadd hx hb dX6_readFlow_7 ?_
  refine lv_istore_n (lv' := [(1, .int ((8 : Int32) + x1)), (0, .ref o)]) hx hb dX6_readFlow_8 rfl hl (by decide) rfl (fun ls hl => ?_)
  refine lv_iload_n hx hb dX6_readFlow_9 rfl (lv_at hl 0 rfl) ?_
  refine lv_bipush (v := (16 : Int32)) hx hb dX6_readFlow_10 (by decide) ?_
  have k20 : ∀  (t4 : TS) (H : Heap) (locs : List Loc) (ls : Array Slot), tw_P D dA o ad t4 H → va_S A s.heap H locs → lv_has ls 3 [(0, .ref o), (1, .int ((8 : Int32) + x1))] → fm_readFlow_J20 x1  t4 = some (r, tZ) → W p l e (headSpec (ws_ yX6_readFlow cX6_readFlow 3 (none)) ({ frames := 9, cells := 0, slots := 0, locals := 212 })).room s m ([.ref o] : List Value).toArray below meth c H locs 0 0 (MQ below (tw_Qv D dA o ad A tZ) ([.ref o] : List Value).toArray s 0 0 A) (F0 m 20 ls []) := by
    intro t4 H locs ls hP hS hl hf
    unfold fm_readFlow_J20 at hf
    refine lv_aload_n hx hb dX6_readFlow_20 rfl (lv_at hl 0 rfl) ?_
    refine lv_aload_n hx hb dX6_readFlow_21 rfl (lv_at hl 0 rfl) ?_
    refine tw_aget (k := 11) C hP (by decide) (by decide) q1387 dX6_readFlow_22 ?_
    refine lv_bipush (v := (8 : Int32)) hx hb dX6_readFlow_25 (by decide) ?_
    refine lv_aload_n hx hb dX6_readFlow_27 rfl (lv_at hl 0 rfl) ?_
    refine lv_iconst (v := (1 : Int32)) hx hb dX6_readFlow_28 (by decide) ?_
    obtain ⟨x5, t6, e7, hf⟩ := tw_bdE hf
    refine tw_cVi (As := [.int (1 : Int32)]) (rest := [.int (8 : Int32), .ref (ad 11), .ref o]) C hml hP hS (mm_reading (l := l) (X := X) (D := D) (dA := dA) hD _ _ _ _ e7) (cwV 1 hts (lw_V q1360 q1362 qs41 q106 q1363) rfl rfl rfl hdX6_reading ⟨Nat.le_of_ble_eq_true rfl, Nat.le_of_ble_eq_true rfl⟩) rfl hl.1 rfl (Nat.le_of_ble_eq_true rfl) dX6_readFlow_29 (fun H locs hP hS => ?_)
    obtain ⟨x8, t9, e10, hf⟩ := tw_bdE hf
    refine tw_cVv (As := [.ref (ad 11), .int (8 : Int32), .int x5]) (rest := []) C hml hP hS (mm_newName (l := l) (X := X) (D := D) (dA := dA) hD _ _ _ _ _ _ e10) (cwV 3 hts (lw_V q1579 q1581 qs53 q106 q1582) rfl rfl rfl hdX6_newName ⟨Nat.le_of_ble_eq_true rfl, Nat.le_of_ble_eq_true rfl⟩) rfl hl.1 rfl (Nat.le_of_ble_eq_true rfl) dX6_readFlow_32 (fun H locs hP hS => ?_)
    refine lv_aload_n hx hb dX6_readFlow_35 rfl (lv_at hl 0 rfl) ?_
    refine lv_iconst (v := (1 : Int32)) hx hb dX6_readFlow_36 (by decide) ?_
    refine lv_sipush (v := (1024 : Int32)) hx hb dX6_readFlow_37 (by decide) ?_
    obtain ⟨x11, t12, e13, hf⟩ := tw_bdE hf
    refine tw_cVi (As := [.int (1 : Int32), .int (1024 : Int32)]) (rest := []) C hml hP hS (mm_numeral (l := l) (X := X) (D := D) (dA := dA) hD _ _ _ _ _ e13) (cwV 2 hts (lw_V q1590 q1592 qs55 q106 q1593) rfl rfl rfl hdX6_numeral ⟨Nat.le_of_ble_eq_true rfl, Nat.le_of_ble_eq_true rfl⟩) rfl hl.1 rfl (Nat.le_of_ble_eq_true rfl) dX6_readFlow_40 (fun H locs hP hS => ?_)
    refine lv_istore_n (lv' := [(2, .int x11), (0, .ref o), (1, .int ((8 : Int32) + x1))]) hx hb dX6_readFlow_43 rfl hl (by decide) rfl (fun ls hl => ?_)
    refine lv_aload_n hx hb dX6_readFlow_44 rfl (lv_at hl 1 rfl) ?_
    obtain ⟨x14, t15, e16, hf⟩ := tw_bdE hf
    refine tw_iget (k := 22) C hP (by decide) (Or.inl rfl) e16 q1398 dX6_readFlow_45 (fun hP => ?_)
    refine lv_if_eq (tgt := 52) hx hb dX6_readFlow_48 (by decide) (fun hc => ?_) (fun hc => ?_)
    · have hf := tw_ifT hc hf
      refine lv_aload_n hx hb dX6_readFlow_52 rfl (lv_at hl 1 rfl) ?_
      refine tw_aget (k := 12) C hP (by decide) (by decide) q1388 dX6_readFlow_53 ?_
      refine lv_iload_n hx hb dX6_readFlow_56 rfl (lv_at hl 2 rfl) ?_
      refine lv_iload_n hx hb dX6_readFlow_57 rfl (lv_at hl 0 rfl) ?_
      obtain ⟨x17, t18, e19, hf⟩ := tw_bdE hf
      refine tw_iast C hP hS e19 dX6_readFlow_58 (fun H locs hP hS => ?_)
      refine lv_aload_n hx hb dX6_readFlow_59 rfl (lv_at hl 1 rfl) ?_
      refine tw_aget (k := 13) C hP (by decide) (by decide) q1389 dX6_readFlow_60 ?_
      refine lv_iload_n hx hb dX6_readFlow_63 rfl (lv_at hl 2 rfl) ?_
      refine lv_iconst (v := (0 : Int32)) hx hb dX6_readFlow_64 (by decide) ?_
      obtain ⟨x20, t21, e22, hf⟩ := tw_bdE hf
      refine tw_zast C hP hS e22 dX6_readFlow_65 (fun H locs hP hS => ?_)
      refine lv_aload_n hx hb dX6_readFlow_66 rfl (lv_at hl 1 rfl) ?_
      refine tw_aget (k := 14) C hP (by decide) (by decide) q1390 dX6_readFlow_67 ?_
      refine lv_iload_n hx hb dX6_readFlow_70 rfl (lv_at hl 2 rfl) ?_
      refine lv_iconst (v := (0 : Int32)) hx hb dX6_readFlow_71 (by decide) ?_
      obtain ⟨x23, t24, e25, hf⟩ := tw_bdE hf
      refine tw_iast C hP hS e25 dX6_readFlow_72 (fun H locs hP hS => ?_)
      refine lv_aload_n hx hb dX6_readFlow_73 rfl (lv_at hl 1 rfl) ?_
      refine lv_iload_n hx hb dX6_readFlow_74 rfl (lv_at hl 2 rfl) ?_
      obtain ⟨x26, t27, e28, hf⟩ := tw_bdE hf
      refine tw_cVv (As := [.int ((8 : Int32) + x1)]) (rest := []) C hml hP hS (mm_readHop (l := l) (X := X) (D := D) (dA := dA) hD _ _ _ _ e28) (cwV 1 hts (lw_V q1598 q1600 qs57 q106 q1601) rfl rfl rfl hdX6_readHop ⟨Nat.le_of_ble_eq_true rfl, Nat.le_of_ble_eq_true rfl⟩) rfl hl.1 rfl (Nat.le_of_ble_eq_true rfl) dX6_readFlow_75 (fun H locs hP hS => ?_)
      have k78 : ∀ (n : Nat)  (t29 : TS) (H : Heap) (locs : List Loc) (ls : Array Slot), tw_P D dA o ad t29 H → va_S A s.heap H locs → lv_has ls 3 [(0, .ref o), (1, .int ((8 : Int32) + x1))] → tw_lp (fm_readFlow_L78 x1) (fun _ => none) n  t29 = some (r, tZ) → W p l e (headSpec (ws_ yX6_readFlow cX6_readFlow 3 (none)) ({ frames := 9, cells := 0, slots := 0, locals := 212 })).room s m ([.ref o] : List Value).toArray below meth c H locs 0 0 (MQ below (tw_Qv D dA o ad A tZ) ([.ref o] : List Value).toArray s 0 0 A) (F0 m 78 ls []) := by
        intro n
        induction n with
        | zero => intro t29 H locs ls hP hS hl hf; exact (tw_no hf).elim
        | succ n ih78 =>
          intro t29 H locs ls hP hS hl hf
          obtain ⟨sf78, hs78⟩ : ∃ f, f = tw_lp (fm_readFlow_L78 x1) (fun _ => none) n := ⟨_, rfl⟩
          rw [← hs78] at ih78
          have hf : fm_readFlow_L78 x1 sf78  t29 = some (r, tZ) := by rw [hs78]; exact hf
          clear hs78
          unfold fm_readFlow_L78 at hf
          refine lv_aload_n hx hb dX6_readFlow_78 rfl (lv_at hl 0 rfl) ?_
          obtain ⟨x30, t31, e32, hf⟩ := tw_bdE hf
          refine tw_iget (k := 22) C hP (by decide) (Or.inl rfl) e32 q1398 dX6_readFlow_79 (fun hP => ?_)
          have k101 : ∀  (t33 : TS) (H : Heap) (locs : List Loc) (ls : Array Slot), tw_P D dA o ad t33 H → va_S A s.heap H locs → lv_has ls 3 [(0, .ref o)] → fm_readFlow_J101  t33 = some (r, tZ) → W p l e (headSpec (ws_ yX6_readFlow cX6_readFlow 3 (none)) ({ frames := 9, cells := 0, slots := 0, locals := 212 })).room s m ([.ref o] : List Value).toArray below meth c H locs 0 0 (MQ below (tw_Qv D dA o ad A tZ) ([.ref o] : List Value).toArray s 0 0 A) (F0 m 101 ls []) := by
            intro t33 H locs ls hP hS hl hf
            unfold fm_readFlow_J101 at hf
            refine lv_aload_n hx hb dX6_readFlow_101 rfl (lv_at hl 0 rfl) ?_
            refine lv_iconst (v := (1 : Int32)) hx hb dX6_readFlow_102 (by decide) ?_
            refine lv_aload_n hx hb dX6_readFlow_103 rfl (lv_at hl 0 rfl) ?_
            refine lv_iconst (v := (1 : Int32)) hx hb dX6_readFlow_104 (by decide) ?_
            obtain ⟨x34, t35, e36, hf⟩ := tw_bdE hf
            refine tw_cVi (As := [.int (1 : Int32)]) (rest := [.int (1 : Int32), .ref o]) C hml hP hS (mm_reading (l := l) (X := X) (D := D) (dA := dA) hD _ _ _ _ e36) (cwV 1 hts (lw_V q1360 q1362 qs41 q106 q1363) rfl rfl rfl hdX6_reading ⟨Nat.le_of_ble_eq_true rfl, Nat.le_of_ble_eq_true rfl⟩) rfl hl.1 rfl (Nat.le_of_ble_eq_true rfl) dX6_readFlow_105 (fun H locs hP hS => ?_)
            refine lv_iconst (v := (1 : Int32)) hx hb dX6_readFlow_108 (by decide) ?_
            refine lv_iadd hx hb dX6_readFlow_109 ?_
            obtain ⟨x37, t38, e39, hf⟩ := tw_bdE hf
            refine tw_cVv (As := [.int (1 : Int32), .int (x34 + (1 : Int32))]) (rest := []) C hml hP hS (mm_reads (l := l) (X := X) (D := D) (dA := dA) hD _ _ _ _ _ e39) (cwV 2 hts (lw_V q1352 q1354 qs39 q106 q1355) rfl rfl rfl hdX6_reads ⟨Nat.le_of_ble_eq_true rfl, Nat.le_of_ble_eq_true rfl⟩) rfl hl.1 rfl (Nat.le_of_ble_eq_true rfl) dX6_readFlow_110 (fun H locs hP hS => ?_)
            exact tw_iretv (tw_rtE hf).2 C hr hP hS hlk dX6_readFlow_113
          refine lv_if_ne (tgt := 101) hx hb dX6_readFlow_82 (by decide) (fun hc => ?_) (fun hc => ?_)
          · have hf := tw_ifF hc hf
            exact k101 _ _ _ _ hP hS (lv_sub hl [0] rfl) hf
          · have hf := tw_ifT hc hf
            refine lv_aload_n hx hb dX6_readFlow_85 rfl (lv_at hl 0 rfl) ?_
            obtain ⟨x40, t41, e42, hf⟩ := tw_bdE hf
            refine tw_iget (k := 20) C hP (by decide) (Or.inl rfl) e42 q1396 dX6_readFlow_86 (fun hP => ?_)
            refine lv_iconst (v := (3 : Int32)) hx hb dX6_readFlow_89 (by decide) ?_
            refine lv_icmp_eq (tgt := 101) hx hb dX6_readFlow_90 (by decide) (fun hc => ?_) (fun hc => ?_)
            · have hf := tw_ifT hc hf
              exact k101 _ _ _ _ hP hS (lv_sub hl [0] rfl) hf
            · have hf := tw_ifF hc hf
              refine lv_aload_n hx hb dX6_readFlow_93 rfl (lv_at hl 0 rfl) ?_
              refine lv_iload_n hx hb dX6_readFlow_94 rfl (lv_at hl 1 rfl) ?_
              obtain ⟨x43, t44, e45, hf⟩ := tw_bdE hf
              refine tw_cVv (As := [.int ((8 : Int32) + x1)]) (rest := []) C hml hP hS (mm_readHop (l := l) (X := X) (D := D) (dA := dA) hD _ _ _ _ e45) (cwV 1 hts (lw_V q1598 q1600 qs57 q106 q1601) rfl rfl rfl hdX6_readHop ⟨Nat.le_of_ble_eq_true rfl, Nat.le_of_ble_eq_true rfl⟩) rfl hl.1 rfl (Nat.le_of_ble_eq_true rfl) dX6_readFlow_95 (fun H locs hP hS => ?_)
              refine lv_goto (tgt := 78) hx hb dX6_readFlow_98 (by decide) ?_
              exact ih78 _ _ _ _ hP hS (lv_sub hl [0, 1] rfl) hf
      exact k78 _ _ _ _ _ hP hS (lv_sub hl [1, 2] rfl) hf
    · have hf := tw_ifF hc hf
      exact tw_iretv (tw_rtE hf).2 C hr hP hS hlk dX6_readFlow_51
  refine lv_icmp_ne (tgt := 20) hx hb dX6_readFlow_12 (by decide) (fun hc => ?_) (fun hc => ?_)
  · have hf := tw_ifF hc hf
    exact k20 _ _ _ _ hP hS (lv_sub hl [1, 0] rfl) hf
  · have hf := tw_ifT hc hf
    refine lv_aload_n hx hb dX6_readFlow_15 rfl (lv_at hl 1 rfl) ?_
    refine lv_iconst (v := (2 : Int32)) hx hb dX6_readFlow_16 (by decide) ?_
    obtain ⟨x46, t47, e48, hf⟩ := tw_bdE hf
    refine tw_cVv (As := [.int (2 : Int32)]) (rest := []) C hml hP hS (mm_wrong (l := l) (X := X) (D := D) (dA := dA) hD _ _ _ _ e48) (cwV 1 hts (lw_V q1571 q1573 qs51 q106 q1574) rfl rfl rfl hdX6_wrong ⟨Nat.le_of_ble_eq_true rfl, Nat.le_of_ble_eq_true rfl⟩) rfl hl.1 rfl (Nat.le_of_ble_eq_true rfl) dX6_readFlow_17 (fun H locs hP hS => ?_)
    exact k20 _ _ _ _ hP hS (lv_sub hl [1, 0] rfl) hf
def fm_readLink_J82 (x1 : Int32) (x11 : Int32) (x14 : Int32) (x17 : Int32) (w82_0 : Int32) : TM Unit :=
  tw_bd (fm_numeral (0 : Int32) w82_0) fun x21 =>
  tw_bd (fm_numeral (1 : Int32) (1999 : Int32)) fun x24 =>
  tw_bd (tw_gi 22) fun x27 =>
  if x27 = 0 then ( tw_bd (tw_st 6 ((10 : Int32) + x1) x11) fun _ =>
   tw_bd (tw_st 7 ((10 : Int32) + x1) x14) fun _ =>
   tw_bd (tw_st 8 ((10 : Int32) + x1) x17) fun _ =>
   tw_bd (tw_st 9 ((10 : Int32) + x1) x21) fun _ =>
   tw_bd (tw_st 10 ((10 : Int32) + x1) x24) fun _ =>
  tw_bd (fm_reading (0 : Int32)) fun x45 =>
  tw_bd (fm_reads (0 : Int32) (x45 + (1 : Int32))) fun _ =>
  tw_rt ())
  else (tw_rt ())
def fm_readLink_J20 (x1 : Int32)  : TM Unit :=
   tw_bd (fm_reading (0 : Int32)) fun x5 =>
  tw_bd (fm_newName 5 (10 : Int32) x5) fun _ =>
  tw_bd (fm_numeral (1 : Int32) (64 : Int32)) fun x11 =>
  tw_bd (fm_numeral (0 : Int32) (4 : Int32)) fun x14 =>
  tw_bd (fm_numeral (1 : Int32) (999 : Int32)) fun x17 =>
  if (998 : Int32) ≤ (x17 - (1 : Int32)) then (fm_readLink_J82 x1 x11 x14 x17 (998 : Int32))
  else (fm_readLink_J82 x1 x11 x14 x17 (x17 - (1 : Int32)))
def fm_readLink  : TM Unit :=
  tw_bd (fm_reading (0 : Int32)) fun x1 =>
  if ((10 : Int32) + x1) = (20 : Int32) then (tw_bd (fm_wrong (2 : Int32)) fun _ =>
 
  fm_readLink_J20 x1)
  else (fm_readLink_J20 x1)
theorem hdX6_readLink : yX6_readLink.cls = "LosslessFabricModel" ∧ (yX6_readLink.cls ≠ "java/lang/invoke/MethodHandle" ∧ yX6_readLink.cls ≠ "java/lang/invoke/VarHandle" ∧ (parseMethodDescriptor yX6_readLink.desc).map (fun d => d.parameters.length) = some 0) := by decide +kernel
set_option maxHeartbeats 4000000 in
theorem mm_readLink {l : Launch} {X : (Nat → Nat) × (Nat → Nat) × Nat} {D : va_G} {dA : Nat → ClassId} {o : Nat} {ad : Nat → Nat} {A : Nat → Prop} (hD : tw_D o ad A)  (t0 tZ : TS) (r : Unit) (hf : fm_readLink  t0 = some (r, tZ)) : Met l yX6_readLink (ws_ yX6_readLink cX6_readLink 7 (none)) ({ frames := 9, cells := 0, slots := 0, locals := 212 }) (va_Pc [.ref o] (tw_W X A D dA o ad t0)) (tw_Qv D dA o ad A tZ) 0 0 A := by
  refine Met.ofW (cc := cX6_readLink) (maxL := 7) (ret := none) (by decide) rfl ?_
  intro p e s m args below meth c s₁ B hml hv
  obtain ⟨rfl, hP, hK, hX⟩ := hv
  have hx := B.exec
  have hb := B.bytes
  have hr := B.returns
  have hts := atoms_spec (ws := (ws_ yX6_readLink cX6_readLink 7 (none))) B.pre
  have hts : ∀ w ∈ lw_all, w.before _ s = true := fun w h => hts w (List.mem_cons_of_mem _ h)
  have hown : s.vm.findClass "LosslessFabricModel" = some m.cls := findClass_of_methodNamed B.named
  have hlk := B.notSynchronized
  have C : tw_C X p s m _ c cX6_readLink D dA o ad A := ⟨hx, hb, hts, hown, hK, hD, hX⟩
  have hS : va_S A s.heap s.heap [] := va_S.rf
  have hl := lv_entry ([.ref o]) (n := 7) (Nat.le_of_ble_eq_true rfl)
  rw [lg_entry_eq]
  generalize (lg_sl ([.ref o]) ++ List.replicate (7 - (lg_sl ([.ref o])).length) Slot.unset).toArray = ls at hl ⊢
  have hl : lv_has ls 7 [(0, .ref o)] := hl
  unfold fm_readLink at hf
  refine lv_bipush (v := (10 : Int32)) hx hb dX6_readLink_0 (by decide) ?_
  refine lv_aload_n hx hb dX6_readLink_2 rfl (lv_at hl 0 rfl) ?_
  refine lv_iconst (v := (0 : Int32)) hx hb dX6_readLink_3 (by decide) ?_
  obtain ⟨x1, t2, e3, hf⟩ := tw_bdE hf
  refine tw_cVi (As := [.int (0 : Int32)]) (rest := [.int (10 : Int32)]) C hml hP hS (mm_reading (l := l) (X := X) (D := D) (dA := dA) hD _ _ _ _ e3) (cwV 1 hts (lw_V q1360 q1362 qs41 q106 q1363) rfl rfl rfl hdX6_reading ⟨Nat.le_of_ble_eq_true rfl, Nat.le_of_ble_eq_true rfl⟩) rfl hl.1 rfl (Nat.le_of_ble_eq_true rfl) dX6_readLink_4 (fun H locs hP hS => ?_)
  refine lv_iadd hx hb dX6_readLink_7 ?_
  refine lv_istore_n (lv' := [(1, .int ((10 : Int32) + x1)), (0, .ref o)]) hx hb dX6_readLink_8 rfl hl (by decide) rfl (fun ls hl => ?_)
  refine lv_iload_n hx hb dX6_readLink_9 rfl (lv_at hl 0 rfl) ?_
  refine lv_bipush (v := (20 : Int32)) hx hb dX6_readLink_10 (by decide) ?_
  have k20 : ∀  (t4 : TS) (H : Heap) (locs : List Loc) (ls : Array Slot), tw_P D dA o ad t4 H → va_S A s.heap H locs → lv_has ls 7 [(0, .ref o), (1, .int ((10 : Int32) + x1))] → fm_readLink_J20 x1  t4 = some (r, tZ) → W p l e (headSpec (ws_ yX6_readLink cX6_readLink 7 (none)) ({ frames := 9, cells := 0, slots := 0, locals := 212 })).room s m ([.ref o] : List Value).toArray below meth c H locs 0 0 (MQ below (tw_Qv D dA o ad A tZ) ([.ref o] : List Value).toArray s 0 0 A) (F0 m 20 ls []) := by
    intro t4 H locs ls hP hS hl hf
    unfold fm_readLink_J20 at hf
    refine lv_aload_n hx hb dX6_readLink_20 rfl (lv_at hl 0 rfl) ?_
    refine lv_aload_n hx hb dX6_readLink_21 rfl (lv_at hl 0 rfl) ?_
    refine tw_aget (k := 5) C hP (by decide) (by decide) q1381 dX6_readLink_22 ?_
    refine lv_bipush (v := (10 : Int32)) hx hb dX6_readLink_25 (by decide) ?_
    refine lv_aload_n hx hb dX6_readLink_27 rfl (lv_at hl 0 rfl) ?_
    refine lv_iconst (v := (0 : Int32)) hx hb dX6_readLink_28 (by decide) ?_
    obtain ⟨x5, t6, e7, hf⟩ := tw_bdE hf
    refine tw_cVi (As := [.int (0 : Int32)]) (rest := [.int (10 : Int32), .ref (ad 5), .ref o]) C hml hP hS (mm_reading (l := l) (X := X) (D := D) (dA := dA) hD _ _ _ _ e7) (cwV 1 hts (lw_V q1360 q1362 qs41 q106 q1363) rfl rfl rfl hdX6_reading ⟨Nat.le_of_ble_eq_true rfl, Nat.le_of_ble_eq_true rfl⟩) rfl hl.1 rfl (Nat.le_of_ble_eq_true rfl) dX6_readLink_29 (fun H locs hP hS => ?_)
    obtain ⟨x8, t9, e10, hf⟩ := tw_bdE hf
    refine tw_cVv (As := [.ref (ad 5), .int (10 : Int32), .int x5]) (rest := []) C hml hP hS (mm_newName (l := l) (X := X) (D := D) (dA := dA) hD _ _ _ _ _ _ e10) (cwV 3 hts (lw_V q1579 q1581 qs53 q106 q1582) rfl rfl rfl hdX6_newName ⟨Nat.le_of_ble_eq_true rfl, Nat.le_of_ble_eq_true rfl⟩) rfl hl.1 rfl (Nat.le_of_ble_eq_true rfl) dX6_readLink_32 (fun H locs hP hS => ?_)
    refine lv_aload_n hx hb dX6_readLink_35 rfl (lv_at hl 0 rfl) ?_
    refine lv_iconst (v := (1 : Int32)) hx hb dX6_readLink_36 (by decide) ?_
    refine lv_bipush (v := (64 : Int32)) hx hb dX6_readLink_37 (by decide) ?_
    obtain ⟨x11, t12, e13, hf⟩ := tw_bdE hf
    refine tw_cVi (As := [.int (1 : Int32), .int (64 : Int32)]) (rest := []) C hml hP hS (mm_numeral (l := l) (X := X) (D := D) (dA := dA) hD _ _ _ _ _ e13) (cwV 2 hts (lw_V q1590 q1592 qs55 q106 q1593) rfl rfl rfl hdX6_numeral ⟨Nat.le_of_ble_eq_true rfl, Nat.le_of_ble_eq_true rfl⟩) rfl hl.1 rfl (Nat.le_of_ble_eq_true rfl) dX6_readLink_39 (fun H locs hP hS => ?_)
    refine lv_istore_n (lv' := [(2, .int x11), (0, .ref o), (1, .int ((10 : Int32) + x1))]) hx hb dX6_readLink_42 rfl hl (by decide) rfl (fun ls hl => ?_)
    refine lv_aload_n hx hb dX6_readLink_43 rfl (lv_at hl 1 rfl) ?_
    refine lv_iconst (v := (0 : Int32)) hx hb dX6_readLink_44 (by decide) ?_
    refine lv_iconst (v := (4 : Int32)) hx hb dX6_readLink_45 (by decide) ?_
    obtain ⟨x14, t15, e16, hf⟩ := tw_bdE hf
    refine tw_cVi (As := [.int (0 : Int32), .int (4 : Int32)]) (rest := []) C hml hP hS (mm_numeral (l := l) (X := X) (D := D) (dA := dA) hD _ _ _ _ _ e16) (cwV 2 hts (lw_V q1590 q1592 qs55 q106 q1593) rfl rfl rfl hdX6_numeral ⟨Nat.le_of_ble_eq_true rfl, Nat.le_of_ble_eq_true rfl⟩) rfl hl.1 rfl (Nat.le_of_ble_eq_true rfl) dX6_readLink_46 (fun H locs hP hS => ?_)
    refine lv_istore_n (lv' := [(3, .int x14), (2, .int x11), (0, .ref o), (1, .int ((10 : Int32) + x1))]) hx hb dX6_readLink_49 rfl hl (by decide) rfl (fun ls hl => ?_)
    refine lv_aload_n hx hb dX6_readLink_50 rfl (lv_at hl 2 rfl) ?_
    refine lv_iconst (v := (1 : Int32)) hx hb dX6_readLink_51 (by decide) ?_
    refine lv_sipush (v := (999 : Int32)) hx hb dX6_readLink_52 (by decide) ?_
    obtain ⟨x17, t18, e19, hf⟩ := tw_bdE hf
    refine tw_cVi (As := [.int (1 : Int32), .int (999 : Int32)]) (rest := []) C hml hP hS (mm_numeral (l := l) (X := X) (D := D) (dA := dA) hD _ _ _ _ _ e19) (cwV 2 hts (lw_V q1590 q1592 qs55 q106 q1593) rfl rfl rfl hdX6_numeral ⟨Nat.le_of_ble_eq_true rfl, Nat.le_of_ble_eq_true rfl⟩) rfl hl.1 rfl (Nat.le_of_ble_eq_true rfl) dX6_readLink_55 (fun H locs hP hS => ?_)
    refine lv_istore (lv' := [(4, .int x17), (3, .int x14), (2, .int x11), (0, .ref o), (1, .int ((10 : Int32) + x1))]) hx hb dX6_readLink_58 hl (by decide) rfl (fun ls hl => ?_)
    refine lv_aload_n hx hb dX6_readLink_60 rfl (lv_at hl 3 rfl) ?_
    refine lv_iconst (v := (0 : Int32)) hx hb dX6_readLink_61 (by decide) ?_
    refine lv_iload hx hb dX6_readLink_62 (lv_at hl 0 rfl) ?_
    refine lv_iconst (v := (1 : Int32)) hx hb dX6_readLink_64 (by decide) ?_
    refine lv_isub hx hb dX6_readLink_65 ?_
    refine lv_sipush (v := (998 : Int32)) hx hb dX6_readLink_66 (by decide) ?_
    have k82 : ∀ (w82_0 : Int32) (t20 : TS) (H : Heap) (locs : List Loc) (ls : Array Slot), tw_P D dA o ad t20 H → va_S A s.heap H locs → lv_has ls 7 [(0, .ref o), (1, .int ((10 : Int32) + x1)), (2, .int x11), (3, .int x14), (4, .int x17)] → fm_readLink_J82 x1 x11 x14 x17 w82_0 t20 = some (r, tZ) → W p l e (headSpec (ws_ yX6_readLink cX6_readLink 7 (none)) ({ frames := 9, cells := 0, slots := 0, locals := 212 })).room s m ([.ref o] : List Value).toArray below meth c H locs 0 0 (MQ below (tw_Qv D dA o ad A tZ) ([.ref o] : List Value).toArray s 0 0 A) (F0 m 82 ls [.int w82_0, .int (0 : Int32), .ref o]) := by
      intro w82_0 t20 H locs ls hP hS hl hf
      unfold fm_readLink_J82 at hf
      obtain ⟨x21, t22, e23, hf⟩ := tw_bdE hf
      refine tw_cVi (As := [.int (0 : Int32), .int w82_0]) (rest := []) C hml hP hS (mm_numeral (l := l) (X := X) (D := D) (dA := dA) hD _ _ _ _ _ e23) (cwV 2 hts (lw_V q1590 q1592 qs55 q106 q1593) rfl rfl rfl hdX6_numeral ⟨Nat.le_of_ble_eq_true rfl, Nat.le_of_ble_eq_true rfl⟩) rfl hl.1 rfl (Nat.le_of_ble_eq_true rfl) dX6_readLink_82 (fun H locs hP hS => ?_)
      refine lv_istore (lv' := [(5, .int x21), (0, .ref o), (1, .int ((10 : Int32) + x1)), (2, .int x11), (3, .int x14), (4, .int x17)]) hx hb dX6_readLink_85 hl (by decide) rfl (fun ls hl => ?_)
      refine lv_aload_n hx hb dX6_readLink_87 rfl (lv_at hl 1 rfl) ?_
      refine lv_iconst (v := (1 : Int32)) hx hb dX6_readLink_88 (by decide) ?_
      refine lv_sipush (v := (1999 : Int32)) hx hb dX6_readLink_89 (by decide) ?_
      obtain ⟨x24, t25, e26, hf⟩ := tw_bdE hf
      refine tw_cVi (As := [.int (1 : Int32), .int (1999 : Int32)]) (rest := []) C hml hP hS (mm_numeral (l := l) (X := X) (D := D) (dA := dA) hD _ _ _ _ _ e26) (cwV 2 hts (lw_V q1590 q1592 qs55 q106 q1593) rfl rfl rfl hdX6_numeral ⟨Nat.le_of_ble_eq_true rfl, Nat.le_of_ble_eq_true rfl⟩) rfl hl.1 rfl (Nat.le_of_ble_eq_true rfl) dX6_readLink_92 (fun H locs hP hS => ?_)
      refine lv_istore (lv' := [(6, .int x24), (5, .int x21), (0, .ref o), (1, .int ((10 : Int32) + x1)), (2, .int x11), (3, .int x14), (4, .int x17)]) hx hb dX6_readLink_95 hl (by decide) rfl (fun ls hl => ?_)
      refine lv_aload_n hx hb dX6_readLink_97 rfl (lv_at hl 2 rfl) ?_
      obtain ⟨x27, t28, e29, hf⟩ := tw_bdE hf
      refine tw_iget (k := 22) C hP (by decide) (Or.inl rfl) e29 q1398 dX6_readLink_98 (fun hP => ?_)
      refine lv_if_eq (tgt := 105) hx hb dX6_readLink_101 (by decide) (fun hc => ?_) (fun hc => ?_)
      · have hf := tw_ifT hc hf
        refine lv_aload_n hx hb dX6_readLink_105 rfl (lv_at hl 2 rfl) ?_
        refine tw_aget (k := 6) C hP (by decide) (by decide) q1382 dX6_readLink_106 ?_
        refine lv_iload_n hx hb dX6_readLink_109 rfl (lv_at hl 3 rfl) ?_
        refine lv_iload_n hx hb dX6_readLink_110 rfl (lv_at hl 4 rfl) ?_
        obtain ⟨x30, t31, e32, hf⟩ := tw_bdE hf
        refine tw_iast C hP hS e32 dX6_readLink_111 (fun H locs hP hS => ?_)
        refine lv_aload_n hx hb dX6_readLink_112 rfl (lv_at hl 2 rfl) ?_
        refine tw_aget (k := 7) C hP (by decide) (by decide) q1383 dX6_readLink_113 ?_
        refine lv_iload_n hx hb dX6_readLink_116 rfl (lv_at hl 3 rfl) ?_
        refine lv_iload_n hx hb dX6_readLink_117 rfl (lv_at hl 5 rfl) ?_
        obtain ⟨x33, t34, e35, hf⟩ := tw_bdE hf
        refine tw_iast C hP hS e35 dX6_readLink_118 (fun H locs hP hS => ?_)
        refine lv_aload_n hx hb dX6_readLink_119 rfl (lv_at hl 2 rfl) ?_
        refine tw_aget (k := 8) C hP (by decide) (by decide) q1384 dX6_readLink_120 ?_
        refine lv_iload_n hx hb dX6_readLink_123 rfl (lv_at hl 3 rfl) ?_
        refine lv_iload hx hb dX6_readLink_124 (lv_at hl 6 rfl) ?_
        obtain ⟨x36, t37, e38, hf⟩ := tw_bdE hf
        refine tw_iast C hP hS e38 dX6_readLink_126 (fun H locs hP hS => ?_)
        refine lv_aload_n hx hb dX6_readLink_127 rfl (lv_at hl 2 rfl) ?_
        refine tw_aget (k := 9) C hP (by decide) (by decide) q1385 dX6_readLink_128 ?_
        refine lv_iload_n hx hb dX6_readLink_131 rfl (lv_at hl 3 rfl) ?_
        refine lv_iload hx hb dX6_readLink_132 (lv_at hl 1 rfl) ?_
        obtain ⟨x39, t40, e41, hf⟩ := tw_bdE hf
        refine tw_iast C hP hS e41 dX6_readLink_134 (fun H locs hP hS => ?_)
        refine lv_aload_n hx hb dX6_readLink_135 rfl (lv_at hl 2 rfl) ?_
        refine tw_aget (k := 10) C hP (by decide) (by decide) q1386 dX6_readLink_136 ?_
        refine lv_iload_n hx hb dX6_readLink_139 rfl (lv_at hl 3 rfl) ?_
        refine lv_iload hx hb dX6_readLink_140 (lv_at hl 0 rfl) ?_
        obtain ⟨x42, t43, e44, hf⟩ := tw_bdE hf
        refine tw_iast C hP hS e44 dX6_readLink_142 (fun H locs hP hS => ?_)
        refine lv_aload_n hx hb dX6_readLink_143 rfl (lv_at hl 2 rfl) ?_
        refine lv_iconst (v := (0 : Int32)) hx hb dX6_readLink_144 (by decide) ?_
        refine lv_aload_n hx hb dX6_readLink_145 rfl (lv_at hl 2 rfl) ?_
        refine lv_iconst (v := (0 : Int32)) hx hb dX6_readLink_146 (by decide) ?_
        obtain ⟨x45, t46, e47, hf⟩ := tw_bdE hf
        refine tw_cVi (As := [.int (0 : Int32)]) (rest := [.int (0 : Int32), .ref o]) C hml hP hS (mm_reading (l := l) (X := X) (D := D) (dA := dA) hD _ _ _ _ e47) (cwV 1 hts (lw_V q1360 q1362 qs41 q106 q1363) rfl rfl rfl hdX6_reading ⟨Nat.le_of_ble_eq_true rfl, Nat.le_of_ble_eq_true rfl⟩) rfl hl.1 rfl (Nat.le_of_ble_eq_true rfl) dX6_readLink_147 (fun H locs hP hS => ?_)
        refine lv_iconst (v := (1 : Int32)) hx hb dX6_readLink_150 (by decide) ?_
        refine lv_iadd hx hb dX6_readLink_151 ?_
        obtain ⟨x48, t49, e50, hf⟩ := tw_bdE hf
        refine tw_cVv (As := [.int (0 : Int32), .int (x45 + (1 : Int32))]) (rest := []) C hml hP hS (mm_reads (l := l) (X := X) (D := D) (dA := dA) hD _ _ _ _ _ e50) (cwV 2 hts (lw_V q1352 q1354 qs39 q106 q1355) rfl rfl rfl hdX6_reads ⟨Nat.le_of_ble_eq_true rfl, Nat.le_of_ble_eq_true rfl⟩) rfl hl.1 rfl (Nat.le_of_ble_eq_true rfl) dX6_readLink_152 (fun H locs hP hS => ?_)
        exact tw_iretv (tw_rtE hf).2 C hr hP hS hlk dX6_readLink_155
      · have hf := tw_ifF hc hf
        exact tw_iretv (tw_rtE hf).2 C hr hP hS hlk dX6_readLink_104
    refine lv_icmp_ge (tgt := 79) hx hb dX6_readLink_69 (by decide) (fun hc => ?_) (fun hc => ?_)
    · have hf := tw_ifT hc hf
      refine lv_sipush (v := (998 : Int32)) hx hb dX6_readLink_79 (by decide) ?_
      exact k82 _ _ _ _ _ hP hS (lv_sub hl [3, 4, 2, 1, 0] rfl) hf
    · have hf := tw_ifF hc hf
      refine lv_iload hx hb dX6_readLink_72 (lv_at hl 0 rfl) ?_
      refine lv_iconst (v := (1 : Int32)) hx hb dX6_readLink_74 (by decide) ?_
      refine lv_isub hx hb dX6_readLink_75 ?_
      refine lv_goto (tgt := 82) hx hb dX6_readLink_76 (by decide) ?_
      exact k82 _ _ _ _ _ hP hS (lv_sub hl [3, 4, 2, 1, 0] rfl) hf
  refine lv_icmp_ne (tgt := 20) hx hb dX6_readLink_12 (by decide) (fun hc => ?_) (fun hc => ?_)
  · have hf := tw_ifF hc hf
    exact k20 _ _ _ _ hP hS (lv_sub hl [1, 0] rfl) hf
  · have hf := tw_ifT hc hf
    refine lv_aload_n hx hb dX6_readLink_15 rfl (lv_at hl 1 rfl) ?_
    refine lv_iconst (v := (2 : Int32)) hx hb dX6_readLink_16 (by decide) ?_
    obtain ⟨x51, t52, e53, hf⟩ := tw_bdE hf
    refine tw_cVv (As := [.int (2 : Int32)]) (rest := []) C hml hP hS (mm_wrong (l := l) (X := X) (D := D) (dA := dA) hD _ _ _ _ e53) (cwV 1 hts (lw_V q1571 q1573 qs51 q106 q1574) rfl rfl rfl hdX6_wrong ⟨Nat.le_of_ble_eq_true rfl, Nat.le_of_ble_eq_true rfl⟩) rfl hl.1 rfl (Nat.le_of_ble_eq_true rfl) dX6_readLink_17 (fun H locs hP hS => ?_)
    exact k20 _ _ _ _ hP hS (lv_sub hl [1, 0] rfl) hf
def fm_readOff_J92 (w54_0 : Int32)  : TM Unit :=
  tw_bd (tw_gi 22) fun x16 =>
  if x16 = 0 then ( tw_bd (tw_sz 13 ((8 : Int32) + w54_0) (1 : Int32)) fun _ =>
  tw_bd (fm_token) fun _ =>
  tw_rt ())
  else (tw_rt ())
def fm_readOff_J54  (w54_0 : Int32) : TM Unit :=
  if w54_0 = (-1 : Int32) then (tw_bd (fm_wrong (4 : Int32)) fun _ =>
 
  fm_readOff_J92 w54_0)
  else (tw_bd (tw_gi 22) fun x25 =>
  if x25 = 0 then ( tw_bd (tw_lz 13 ((8 : Int32) + w54_0)) fun x28 =>
  if x28 = 0 then (fm_readOff_J92 w54_0)
  else (tw_bd (fm_wrong (3 : Int32)) fun _ =>
 
  fm_readOff_J92 w54_0))
  else (fm_readOff_J92 w54_0))
def fm_readOff_J25   : TM Unit :=
  tw_bd (tw_gi 22) fun x11 =>
  if x11 = 0 then ( tw_bd (fm_reading (1 : Int32)) fun x37 =>
  tw_bd (tw_gi 21) fun x40 =>
  tw_bd (fm_foundIn 11 (8 : Int32) x37 x40) fun x43 =>
 
  fm_readOff_J54 x43)
  else (fm_readOff_J54 (0 : Int32))
def fm_readOff  : TM Unit :=
  tw_bd (fm_goOn) fun _ =>
  tw_bd (tw_gi 22) fun x4 =>
  if x4 = 0 then (tw_bd (tw_gi 20) fun x7 =>
  if x7 = (1 : Int32) then (fm_readOff_J25)
  else (tw_bd (fm_wrong (1 : Int32)) fun _ =>
 
  fm_readOff_J25))
  else (tw_rt ())
theorem hdX6_readOff : yX6_readOff.cls = "LosslessFabricModel" ∧ (yX6_readOff.cls ≠ "java/lang/invoke/MethodHandle" ∧ yX6_readOff.cls ≠ "java/lang/invoke/VarHandle" ∧ (parseMethodDescriptor yX6_readOff.desc).map (fun d => d.parameters.length) = some 0) := by decide +kernel
set_option maxHeartbeats 4000000 in
theorem mm_readOff {l : Launch} {X : (Nat → Nat) × (Nat → Nat) × Nat} {D : va_G} {dA : Nat → ClassId} {o : Nat} {ad : Nat → Nat} {A : Nat → Prop} (hD : tw_D o ad A)  (t0 tZ : TS) (r : Unit) (hf : fm_readOff  t0 = some (r, tZ)) : Met l yX6_readOff (ws_ yX6_readOff cX6_readOff 2 (none)) ({ frames := 8, cells := 0, slots := 0, locals := 189 }) (va_Pc [.ref o] (tw_W X A D dA o ad t0)) (tw_Qv D dA o ad A tZ) 0 0 A := by
  refine Met.ofW (cc := cX6_readOff) (maxL := 2) (ret := none) (by decide) rfl ?_
  intro p e s m args below meth c s₁ B hml hv
  obtain ⟨rfl, hP, hK, hX⟩ := hv
  have hx := B.exec
  have hb := B.bytes
  have hr := B.returns
  have hts := atoms_spec (ws := (ws_ yX6_readOff cX6_readOff 2 (none))) B.pre
  have hts : ∀ w ∈ lw_all, w.before _ s = true := fun w h => hts w (List.mem_cons_of_mem _ h)
  have hown : s.vm.findClass "LosslessFabricModel" = some m.cls := findClass_of_methodNamed B.named
  have hlk := B.notSynchronized
  have C : tw_C X p s m _ c cX6_readOff D dA o ad A := ⟨hx, hb, hts, hown, hK, hD, hX⟩
  have hS : va_S A s.heap s.heap [] := va_S.rf
  have hl := lv_entry ([.ref o]) (n := 2) (Nat.le_of_ble_eq_true rfl)
  rw [lg_entry_eq]
  generalize (lg_sl ([.ref o]) ++ List.replicate (2 - (lg_sl ([.ref o])).length) Slot.unset).toArray = ls at hl ⊢
  have hl : lv_has ls 2 [(0, .ref o)] := hl
  unfold fm_readOff at hf
  refine lv_aload_n hx hb dX6_readOff_0 rfl (lv_at hl 0 rfl) ?_
  obtain ⟨x1, t2, e3, hf⟩ := tw_bdE hf
  refine tw_cVv (As := []) (rest := []) C hml hP hS (mm_goOn (l := l) (X := X) (D := D) (dA := dA) hD _ _ _ e3) (cwV 0 hts (lw_V q1583 q1585 qs54 q106 q1586) rfl rfl rfl hdX6_goOn ⟨Nat.le_of_ble_eq_true rfl, Nat.le_of_ble_eq_true rfl⟩) rfl hl.1 rfl (Nat.le_of_ble_eq_true rfl) dX6_readOff_1 (fun H locs hP hS => ?_)
  refine lv_aload_n hx hb dX6_readOff_4 rfl (lv_at hl 0 rfl) ?_
  obtain ⟨x4, t5, e6, hf⟩ := tw_bdE hf
  refine tw_iget (k := 22) C hP (by decide) (Or.inl rfl) e6 q1398 dX6_readOff_5 (fun hP => ?_)
  refine lv_if_eq (tgt := 12) hx hb dX6_readOff_8 (by decide) (fun hc => ?_) (fun hc => ?_)
  · have hf := tw_ifT hc hf
    refine lv_aload_n hx hb dX6_readOff_12 rfl (lv_at hl 0 rfl) ?_
    obtain ⟨x7, t8, e9, hf⟩ := tw_bdE hf
    refine tw_iget (k := 20) C hP (by decide) (Or.inl rfl) e9 q1396 dX6_readOff_13 (fun hP => ?_)
    refine lv_iconst (v := (1 : Int32)) hx hb dX6_readOff_16 (by decide) ?_
    have k25 : ∀  (t10 : TS) (H : Heap) (locs : List Loc) (ls : Array Slot), tw_P D dA o ad t10 H → va_S A s.heap H locs → lv_has ls 2 [(0, .ref o)] → fm_readOff_J25  t10 = some (r, tZ) → W p l e (headSpec (ws_ yX6_readOff cX6_readOff 2 (none)) ({ frames := 8, cells := 0, slots := 0, locals := 189 })).room s m ([.ref o] : List Value).toArray below meth c H locs 0 0 (MQ below (tw_Qv D dA o ad A tZ) ([.ref o] : List Value).toArray s 0 0 A) (F0 m 25 ls []) := by
      intro t10 H locs ls hP hS hl hf
      unfold fm_readOff_J25 at hf
      refine lv_aload_n hx hb dX6_readOff_25 rfl (lv_at hl 0 rfl) ?_
      obtain ⟨x11, t12, e13, hf⟩ := tw_bdE hf
      refine tw_iget (k := 22) C hP (by decide) (Or.inl rfl) e13 q1398 dX6_readOff_26 (fun hP => ?_)
      have k54 : ∀ (w54_0 : Int32) (t14 : TS) (H : Heap) (locs : List Loc) (ls : Array Slot), tw_P D dA o ad t14 H → va_S A s.heap H locs → lv_has ls 2 [(0, .ref o)] → fm_readOff_J54 w54_0 t14 = some (r, tZ) → W p l e (headSpec (ws_ yX6_readOff cX6_readOff 2 (none)) ({ frames := 8, cells := 0, slots := 0, locals := 189 })).room s m ([.ref o] : List Value).toArray below meth c H locs 0 0 (MQ below (tw_Qv D dA o ad A tZ) ([.ref o] : List Value).toArray s 0 0 A) (F0 m 54 ls [.int w54_0]) := by
        intro w54_0 t14 H locs ls hP hS hl hf
        unfold fm_readOff_J54 at hf
        refine lv_istore_n (lv' := [(1, .int w54_0), (0, .ref o)]) hx hb dX6_readOff_54 rfl hl (by decide) rfl (fun ls hl => ?_)
        refine lv_iload_n hx hb dX6_readOff_55 rfl (lv_at hl 0 rfl) ?_
        refine lv_iconst (v := (-1 : Int32)) hx hb dX6_readOff_56 (by decide) ?_
        have k92 : ∀  (t15 : TS) (H : Heap) (locs : List Loc) (ls : Array Slot), tw_P D dA o ad t15 H → va_S A s.heap H locs → lv_has ls 2 [(0, .ref o), (1, .int w54_0)] → fm_readOff_J92 w54_0  t15 = some (r, tZ) → W p l e (headSpec (ws_ yX6_readOff cX6_readOff 2 (none)) ({ frames := 8, cells := 0, slots := 0, locals := 189 })).room s m ([.ref o] : List Value).toArray below meth c H locs 0 0 (MQ below (tw_Qv D dA o ad A tZ) ([.ref o] : List Value).toArray s 0 0 A) (F0 m 92 ls []) := by
          intro t15 H locs ls hP hS hl hf
          unfold fm_readOff_J92 at hf
          refine lv_aload_n hx hb dX6_readOff_92 rfl (lv_at hl 0 rfl) ?_
          obtain ⟨x16, t17, e18, hf⟩ := tw_bdE hf
          refine tw_iget (k := 22) C hP (by decide) (Or.inl rfl) e18 q1398 dX6_readOff_93 (fun hP => ?_)
          refine lv_if_eq (tgt := 100) hx hb dX6_readOff_96 (by decide) (fun hc => ?_) (fun hc => ?_)
          · have hf := tw_ifT hc hf
            refine lv_aload_n hx hb dX6_readOff_100 rfl (lv_at hl 0 rfl) ?_
            refine tw_aget (k := 13) C hP (by decide) (by decide) q1389 dX6_readOff_101 ?_
            refine lv_bipush (v := (8 : Int32)) hx hb dX6_readOff_104 (by decide) ?_
            refine lv_iload_n hx hb dX6_readOff_106 rfl (lv_at hl 1 rfl) ?_
            refine lv_iadd hx hb dX6_readOff_107 ?_
            refine lv_iconst (v := (1 : Int32)) hx hb dX6_readOff_108 (by decide) ?_
            obtain ⟨x19, t20, e21, hf⟩ := tw_bdE hf
            refine tw_zast C hP hS e21 dX6_readOff_109 (fun H locs hP hS => ?_)
            refine lv_aload_n hx hb dX6_readOff_110 rfl (lv_at hl 0 rfl) ?_
            obtain ⟨x22, t23, e24, hf⟩ := tw_bdE hf
            refine tw_cVv (As := []) (rest := []) C hml hP hS (mm_token (l := l) (X := X) (D := D) (dA := dA) hD _ _ _ e24) (cwV 0 hts (lw_V q1541 q1543 qs46 q106 q1544) rfl rfl rfl hdX6_token ⟨Nat.le_of_ble_eq_true rfl, Nat.le_of_ble_eq_true rfl⟩) rfl hl.1 rfl (Nat.le_of_ble_eq_true rfl) dX6_readOff_111 (fun H locs hP hS => ?_)
            exact tw_iretv (tw_rtE hf).2 C hr hP hS hlk dX6_readOff_114
          · have hf := tw_ifF hc hf
            exact tw_iretv (tw_rtE hf).2 C hr hP hS hlk dX6_readOff_99
        refine lv_icmp_ne (tgt := 68) hx hb dX6_readOff_57 (by decide) (fun hc => ?_) (fun hc => ?_)
        · have hf := tw_ifF hc hf
          refine lv_aload_n hx hb dX6_readOff_68 rfl (lv_at hl 1 rfl) ?_
          obtain ⟨x25, t26, e27, hf⟩ := tw_bdE hf
          refine tw_iget (k := 22) C hP (by decide) (Or.inl rfl) e27 q1398 dX6_readOff_69 (fun hP => ?_)
          refine lv_if_ne (tgt := 92) hx hb dX6_readOff_72 (by decide) (fun hc => ?_) (fun hc => ?_)
          · have hf := tw_ifF hc hf
            exact k92 _ _ _ _ hP hS (lv_sub hl [1, 0] rfl) hf
          · have hf := tw_ifT hc hf
            refine lv_aload_n hx hb dX6_readOff_75 rfl (lv_at hl 1 rfl) ?_
            refine tw_aget (k := 13) C hP (by decide) (by decide) q1389 dX6_readOff_76 ?_
            refine lv_bipush (v := (8 : Int32)) hx hb dX6_readOff_79 (by decide) ?_
            refine lv_iload_n hx hb dX6_readOff_81 rfl (lv_at hl 0 rfl) ?_
            refine lv_iadd hx hb dX6_readOff_82 ?_
            obtain ⟨x28, t29, e30, hf⟩ := tw_bdE hf
            refine tw_zald C hP e30 dX6_readOff_83 (fun hP => ?_)
            refine lv_if_eq (tgt := 92) hx hb dX6_readOff_84 (by decide) (fun hc => ?_) (fun hc => ?_)
            · have hf := tw_ifT hc hf
              exact k92 _ _ _ _ hP hS (lv_sub hl [1, 0] rfl) hf
            · have hf := tw_ifF hc hf
              refine lv_aload_n hx hb dX6_readOff_87 rfl (lv_at hl 1 rfl) ?_
              refine lv_iconst (v := (3 : Int32)) hx hb dX6_readOff_88 (by decide) ?_
              obtain ⟨x31, t32, e33, hf⟩ := tw_bdE hf
              refine tw_cVv (As := [.int (3 : Int32)]) (rest := []) C hml hP hS (mm_wrong (l := l) (X := X) (D := D) (dA := dA) hD _ _ _ _ e33) (cwV 1 hts (lw_V q1571 q1573 qs51 q106 q1574) rfl rfl rfl hdX6_wrong ⟨Nat.le_of_ble_eq_true rfl, Nat.le_of_ble_eq_true rfl⟩) rfl hl.1 rfl (Nat.le_of_ble_eq_true rfl) dX6_readOff_89 (fun H locs hP hS => ?_)
              exact k92 _ _ _ _ hP hS (lv_sub hl [1, 0] rfl) hf
        · have hf := tw_ifT hc hf
          refine lv_aload_n hx hb dX6_readOff_60 rfl (lv_at hl 1 rfl) ?_
          refine lv_iconst (v := (4 : Int32)) hx hb dX6_readOff_61 (by decide) ?_
          obtain ⟨x34, t35, e36, hf⟩ := tw_bdE hf
          refine tw_cVv (As := [.int (4 : Int32)]) (rest := []) C hml hP hS (mm_wrong (l := l) (X := X) (D := D) (dA := dA) hD _ _ _ _ e36) (cwV 1 hts (lw_V q1571 q1573 qs51 q106 q1574) rfl rfl rfl hdX6_wrong ⟨Nat.le_of_ble_eq_true rfl, Nat.le_of_ble_eq_true rfl⟩) rfl hl.1 rfl (Nat.le_of_ble_eq_true rfl) dX6_readOff_62 (fun H locs hP hS => ?_)
          refine lv_goto (tgt := 92) hx hb dX6_readOff_65 (by decide) ?_
          exact k92 _ _ _ _ hP hS (lv_sub hl [1, 0] rfl) hf
      refine lv_if_ne (tgt := 53) hx hb dX6_readOff_29 (by decide) (fun hc => ?_) (fun hc => ?_)
      · have hf := tw_ifF hc hf
        refine lv_iconst (v := (0 : Int32)) hx hb dX6_readOff_53 (by decide) ?_
        exact k54 _ _ _ _ _ hP hS (lv_sub hl [0] rfl) hf
      · have hf := tw_ifT hc hf
        refine lv_aload_n hx hb dX6_readOff_32 rfl (lv_at hl 0 rfl) ?_
        refine tw_aget (k := 11) C hP (by decide) (by decide) q1387 dX6_readOff_33 ?_
        refine lv_bipush (v := (8 : Int32)) hx hb dX6_readOff_36 (by decide) ?_
        refine lv_aload_n hx hb dX6_readOff_38 rfl (lv_at hl 0 rfl) ?_
        refine lv_iconst (v := (1 : Int32)) hx hb dX6_readOff_39 (by decide) ?_
        obtain ⟨x37, t38, e39, hf⟩ := tw_bdE hf
        refine tw_cVi (As := [.int (1 : Int32)]) (rest := [.int (8 : Int32), .ref (ad 11)]) C hml hP hS (mm_reading (l := l) (X := X) (D := D) (dA := dA) hD _ _ _ _ e39) (cwV 1 hts (lw_V q1360 q1362 qs41 q106 q1363) rfl rfl rfl hdX6_reading ⟨Nat.le_of_ble_eq_true rfl, Nat.le_of_ble_eq_true rfl⟩) rfl hl.1 rfl (Nat.le_of_ble_eq_true rfl) dX6_readOff_40 (fun H locs hP hS => ?_)
        refine lv_aload_n hx hb dX6_readOff_43 rfl (lv_at hl 0 rfl) ?_
        obtain ⟨x40, t41, e42, hf⟩ := tw_bdE hf
        refine tw_iget (k := 21) C hP (by decide) (Or.inl rfl) e42 q1397 dX6_readOff_44 (fun hP => ?_)
        obtain ⟨x43, t44, e45, hf⟩ := tw_bdE hf
        refine tw_cSi (As := [.ref (ad 11), .int (8 : Int32), .int x37, .int x40]) (rest := []) C hml hP hS (mm_foundIn (l := l) (X := X) (D := D) (dA := dA) hD _ _ _ _ _ _ _ e45) (va_cwS 4 hts (lw_S q1587 q1588 q106 q1589) rfl rfl rfl hdX6_foundIn ⟨Nat.le_of_ble_eq_true rfl, Nat.le_of_ble_eq_true rfl⟩) rfl hl.1 rfl (Nat.le_of_ble_eq_true rfl) dX6_readOff_47 (fun H locs hP hS => ?_)
        refine lv_goto (tgt := 54) hx hb dX6_readOff_50 (by decide) ?_
        exact k54 _ _ _ _ _ hP hS (lv_sub hl [0] rfl) hf
    refine lv_icmp_eq (tgt := 25) hx hb dX6_readOff_17 (by decide) (fun hc => ?_) (fun hc => ?_)
    · have hf := tw_ifT hc hf
      exact k25 _ _ _ _ hP hS (lv_sub hl [0] rfl) hf
    · have hf := tw_ifF hc hf
      refine lv_aload_n hx hb dX6_readOff_20 rfl (lv_at hl 0 rfl) ?_
      refine lv_iconst (v := (1 : Int32)) hx hb dX6_readOff_21 (by decide) ?_
      obtain ⟨x46, t47, e48, hf⟩ := tw_bdE hf
      refine tw_cVv (As := [.int (1 : Int32)]) (rest := []) C hml hP hS (mm_wrong (l := l) (X := X) (D := D) (dA := dA) hD _ _ _ _ e48) (cwV 1 hts (lw_V q1571 q1573 qs51 q106 q1574) rfl rfl rfl hdX6_wrong ⟨Nat.le_of_ble_eq_true rfl, Nat.le_of_ble_eq_true rfl⟩) rfl hl.1 rfl (Nat.le_of_ble_eq_true rfl) dX6_readOff_22 (fun H locs hP hS => ?_)
      exact k25 _ _ _ _ hP hS (lv_sub hl [0] rfl) hf
  · have hf := tw_ifF hc hf
    exact tw_iretv (tw_rtE hf).2 C hr hP hS hlk dX6_readOff_11