def fm_turn (a1 : Int32) : TM Int32 :=
  tw_bd (tw_pi 0 (0 : Int32)) fun _ =>
  tw_bd (fm_isFlow a1) fun x4 =>
  if x4 = 0 then (tw_rt (-1 : Int32))
  else (tw_bd (fm_remembers) fun _ =>
   tw_bd (fm_flowAt a1) fun x10 =>
   tw_bd (fm_flowAt a1) fun x13 =>
  tw_bd (tw_ld 26 (x13 + (7 : Int32))) fun x16 =>
  tw_bd (tw_st 26 (x10 + (7 : Int32)) ((1 : Int32) - x16)) fun _ =>
   tw_bd (fm_flowAt a1) fun x22 =>
  tw_bd (tw_ld 26 (x22 + (7 : Int32))) fun x25 =>
  tw_rt x25)
theorem hdX6_turn : yX6_turn.cls = "LosslessFabricModel" ∧ (yX6_turn.cls ≠ "java/lang/invoke/MethodHandle" ∧ yX6_turn.cls ≠ "java/lang/invoke/VarHandle" ∧ (parseMethodDescriptor yX6_turn.desc).map (fun d => d.parameters.length) = some 1) := by decide +kernel
set_option maxHeartbeats 4000000 in
theorem mm_turn {l : Launch} {X : (Nat → Nat) × (Nat → Nat) × Nat} {D : va_G} {dA : Nat → ClassId} {o : Nat} {ad : Nat → Nat} {A : Nat → Prop} (hD : tw_D o ad A) (a1 : Int32) (t0 tZ : TS) (r : Int32) (hf : fm_turn a1 t0 = some (r, tZ)) : Met l yX6_turn (ws_ yX6_turn cX6_turn 2 (some .int)) ({ frames := 3, cells := 0, slots := 0, locals := 57 }) (va_Pc [.ref o, .int a1] (tw_W X A D dA o ad t0)) (tw_Qi D dA o ad A r tZ) 0 0 A := by
  refine Met.ofW (cc := cX6_turn) (maxL := 2) (ret := some .int) (by decide) rfl ?_
  intro p e s m args below meth c s₁ B hml hv
  obtain ⟨rfl, hP, hK, hX⟩ := hv
  have hx := B.exec
  have hb := B.bytes
  have hr := B.returns
  have hts := atoms_spec (ws := (ws_ yX6_turn cX6_turn 2 (some .int))) B.pre
  have hts : ∀ w ∈ lw_all, w.before _ s = true := fun w h => hts w (List.mem_cons_of_mem _ h)
  have hown : s.vm.findClass "LosslessFabricModel" = some m.cls := findClass_of_methodNamed B.named
  have hlk := B.notSynchronized
  have C : tw_C X p s m _ c cX6_turn D dA o ad A := ⟨hx, hb, hts, hown, hK, hD, hX⟩
  have hS : va_S A s.heap s.heap [] := va_S.rf
  have hl := lv_entry ([.ref o, .int a1]) (n := 2) (Nat.le_of_ble_eq_true rfl)
  rw [lg_entry_eq]
  generalize (lg_sl ([.ref o, .int a1]) ++ List.replicate (2 - (lg_sl ([.ref o, .int a1])).length) Slot.unset).toArray = ls at hl ⊢
  have hl : lv_has ls 2 [(0, .ref o), (1, .int a1)] := hl
  unfold fm_turn at hf
  refine lv_aload_n hx hb dX6_turn_0 rfl (lv_at hl 0 rfl) ?_
  refine lv_iconst (v := (0 : Int32)) hx hb dX6_turn_1 (by decide) ?_
  obtain ⟨x1, t2, e3, hf⟩ := tw_bdE hf
  refine tw_iput (k := 0) C hP hS (by decide) rfl e3 q1376 dX6_turn_2 (fun H locs hP hS => ?_)
  refine lv_aload_n hx hb dX6_turn_5 rfl (lv_at hl 0 rfl) ?_
  refine lv_iload_n hx hb dX6_turn_6 rfl (lv_at hl 1 rfl) ?_
  obtain ⟨x4, t5, e6, hf⟩ := tw_bdE hf
  refine tw_cVi (As := [.int a1]) (rest := []) C hml hP hS (mm_isFlow (l := l) (X := X) (D := D) (dA := dA) hD _ _ _ _ e6) (cwV 1 hts (lw_V q1727 q1729 qs80 q106 q1730) rfl rfl rfl hdX6_isFlow ⟨Nat.le_of_ble_eq_true rfl, Nat.le_of_ble_eq_true rfl⟩) rfl hl.1 rfl (Nat.le_of_ble_eq_true rfl) dX6_turn_7 (fun H locs hP hS => ?_)
  refine lv_if_ne (tgt := 15) hx hb dX6_turn_10 (by decide) (fun hc => ?_) (fun hc => ?_)
  · have hf := tw_ifF hc hf
    refine lv_aload_n hx hb dX6_turn_15 rfl (lv_at hl 0 rfl) ?_
    obtain ⟨x7, t8, e9, hf⟩ := tw_bdE hf
    refine tw_cVv (As := []) (rest := []) C hml hP hS (mm_remembers (l := l) (X := X) (D := D) (dA := dA) hD _ _ _ e9) (cwV 0 hts (lw_V q1653 q1655 qs64 q106 q1656) rfl rfl rfl hdX6_remembers ⟨Nat.le_of_ble_eq_true rfl, Nat.le_of_ble_eq_true rfl⟩) rfl hl.1 rfl (Nat.le_of_ble_eq_true rfl) dX6_turn_16 (fun H locs hP hS => ?_)
    refine lv_aload_n hx hb dX6_turn_19 rfl (lv_at hl 0 rfl) ?_
    refine tw_aget (k := 26) C hP (by decide) (by decide) q1402 dX6_turn_20 ?_
    refine lv_iload_n hx hb dX6_turn_23 rfl (lv_at hl 1 rfl) ?_
    obtain ⟨x10, t11, e12, hf⟩ := tw_bdE hf
    refine tw_cSi (As := [.int a1]) (rest := [.ref (ad 26)]) C hml hP hS (mm_flowAt (l := l) (X := X) (D := D) (dA := dA) hD _ _ _ _ e12) (va_cwS 1 hts (lw_S q1661 q1662 q106 q1663) rfl rfl rfl hdX6_flowAt ⟨Nat.le_of_ble_eq_true rfl, Nat.le_of_ble_eq_true rfl⟩) rfl hl.1 rfl (Nat.le_of_ble_eq_true rfl) dX6_turn_24 (fun H locs hP hS => ?_)
    refine lv_bipush (v := (7 : Int32)) hx hb dX6_turn_27 (by decide) ?_
    refine lv_iadd hx hb dX6_turn_29 ?_
    refine lv_iconst (v := (1 : Int32)) hx hb dX6_turn_30 (by decide) ?_
    refine lv_aload_n hx hb dX6_turn_31 rfl (lv_at hl 0 rfl) ?_
    refine tw_aget (k := 26) C hP (by decide) (by decide) q1402 dX6_turn_32 ?_
    refine lv_iload_n hx hb dX6_turn_35 rfl (lv_at hl 1 rfl) ?_
    obtain ⟨x13, t14, e15, hf⟩ := tw_bdE hf
    refine tw_cSi (As := [.int a1]) (rest := [.ref (ad 26), .int (1 : Int32), .int (x10 + (7 : Int32)), .ref (ad 26)]) C hml hP hS (mm_flowAt (l := l) (X := X) (D := D) (dA := dA) hD _ _ _ _ e15) (va_cwS 1 hts (lw_S q1661 q1662 q106 q1663) rfl rfl rfl hdX6_flowAt ⟨Nat.le_of_ble_eq_true rfl, Nat.le_of_ble_eq_true rfl⟩) rfl hl.1 rfl (Nat.le_of_ble_eq_true rfl) dX6_turn_36 (fun H locs hP hS => ?_)
    refine lv_bipush (v := (7 : Int32)) hx hb dX6_turn_39 (by decide) ?_
    refine lv_iadd hx hb dX6_turn_41 ?_
    obtain ⟨x16, t17, e18, hf⟩ := tw_bdE hf
    refine tw_iald C hP e18 dX6_turn_42 (fun hP => ?_)
    refine lv_isub hx hb dX6_turn_43 ?_
    obtain ⟨x19, t20, e21, hf⟩ := tw_bdE hf
    refine tw_iast C hP hS e21 dX6_turn_44 (fun H locs hP hS => ?_)
    refine lv_aload_n hx hb dX6_turn_45 rfl (lv_at hl 0 rfl) ?_
    refine tw_aget (k := 26) C hP (by decide) (by decide) q1402 dX6_turn_46 ?_
    refine lv_iload_n hx hb dX6_turn_49 rfl (lv_at hl 1 rfl) ?_
    obtain ⟨x22, t23, e24, hf⟩ := tw_bdE hf
    refine tw_cSi (As := [.int a1]) (rest := [.ref (ad 26)]) C hml hP hS (mm_flowAt (l := l) (X := X) (D := D) (dA := dA) hD _ _ _ _ e24) (va_cwS 1 hts (lw_S q1661 q1662 q106 q1663) rfl rfl rfl hdX6_flowAt ⟨Nat.le_of_ble_eq_true rfl, Nat.le_of_ble_eq_true rfl⟩) rfl hl.1 rfl (Nat.le_of_ble_eq_true rfl) dX6_turn_50 (fun H locs hP hS => ?_)
    refine lv_bipush (v := (7 : Int32)) hx hb dX6_turn_53 (by decide) ?_
    refine lv_iadd hx hb dX6_turn_55 ?_
    obtain ⟨x25, t26, e27, hf⟩ := tw_bdE hf
    refine tw_iald C hP e27 dX6_turn_56 (fun hP => ?_)
    exact tw_ireti (tw_rtE hf).1 (tw_rtE hf).2 C hr hP hS hlk dX6_turn_57
  · have hf := tw_ifT hc hf
    refine lv_iconst (v := (-1 : Int32)) hx hb dX6_turn_13 (by decide) ?_
    exact tw_ireti (tw_rtE hf).1 (tw_rtE hf).2 C hr hP hS hlk dX6_turn_14
def fm_isLink_J17  (w17_0 : Int32) : TM Int32 :=
  tw_rz w17_0
def fm_isLink_J16   : TM Int32 :=
  fm_isLink_J17 (0 : Int32)
def fm_isLink (a1 : Int32) : TM Int32 :=
  if a1 < 0 then (fm_isLink_J16)
  else (tw_bd (fm_links) fun x3 =>
  if x3 ≤ a1 then (fm_isLink_J16)
  else (fm_isLink_J17 (1 : Int32)))
theorem hdX6_isLink : yX6_isLink.cls = "LosslessFabricModel" ∧ (yX6_isLink.cls ≠ "java/lang/invoke/MethodHandle" ∧ yX6_isLink.cls ≠ "java/lang/invoke/VarHandle" ∧ (parseMethodDescriptor yX6_isLink.desc).map (fun d => d.parameters.length) = some 1) := by decide +kernel
set_option maxHeartbeats 4000000 in
theorem mm_isLink {l : Launch} {X : (Nat → Nat) × (Nat → Nat) × Nat} {D : va_G} {dA : Nat → ClassId} {o : Nat} {ad : Nat → Nat} {A : Nat → Prop} (hD : tw_D o ad A) (a1 : Int32) (t0 tZ : TS) (r : Int32) (hf : fm_isLink a1 t0 = some (r, tZ)) : Met l yX6_isLink (ws_ yX6_isLink cX6_isLink 2 (some .boolean)) ({ frames := 2, cells := 0, slots := 0, locals := 32 }) (va_Pc [.ref o, .int a1] (tw_W X A D dA o ad t0)) (tw_Qi D dA o ad A r tZ) 0 0 A := by
  refine Met.ofW (cc := cX6_isLink) (maxL := 2) (ret := some .boolean) (by decide) rfl ?_
  intro p e s m args below meth c s₁ B hml hv
  obtain ⟨rfl, hP, hK, hX⟩ := hv
  have hx := B.exec
  have hb := B.bytes
  have hr := B.returns
  have hts := atoms_spec (ws := (ws_ yX6_isLink cX6_isLink 2 (some .boolean))) B.pre
  have hts : ∀ w ∈ lw_all, w.before _ s = true := fun w h => hts w (List.mem_cons_of_mem _ h)
  have hown : s.vm.findClass "LosslessFabricModel" = some m.cls := findClass_of_methodNamed B.named
  have hlk := B.notSynchronized
  have C : tw_C X p s m _ c cX6_isLink D dA o ad A := ⟨hx, hb, hts, hown, hK, hD, hX⟩
  have hS : va_S A s.heap s.heap [] := va_S.rf
  have hl := lv_entry ([.ref o, .int a1]) (n := 2) (Nat.le_of_ble_eq_true rfl)
  rw [lg_entry_eq]
  generalize (lg_sl ([.ref o, .int a1]) ++ List.replicate (2 - (lg_sl ([.ref o, .int a1])).length) Slot.unset).toArray = ls at hl ⊢
  have hl : lv_has ls 2 [(0, .ref o), (1, .int a1)] := hl
  unfold fm_isLink at hf
  refine lv_iload_n hx hb dX6_isLink_0 rfl (lv_at hl 1 rfl) ?_
  have k17 : ∀ (w17_0 : Int32) (t1 : TS) (H : Heap) (locs : List Loc) (ls : Array Slot), tw_P D dA o ad t1 H → va_S A s.heap H locs → lv_has ls 2 [] → fm_isLink_J17 w17_0 t1 = some (r, tZ) → W p l e (headSpec (ws_ yX6_isLink cX6_isLink 2 (some .boolean)) ({ frames := 2, cells := 0, slots := 0, locals := 32 })).room s m ([.ref o, .int a1] : List Value).toArray below meth c H locs 0 0 (MQ below (tw_Qi D dA o ad A r tZ) ([.ref o, .int a1] : List Value).toArray s 0 0 A) (F0 m 17 ls [.int w17_0]) := by
    intro w17_0 t1 H locs ls hP hS hl hf
    unfold fm_isLink_J17 at hf
    exact tw_iretz hf C hr hP hS hlk dX6_isLink_17
  have k16 : ∀  (t2 : TS) (H : Heap) (locs : List Loc) (ls : Array Slot), tw_P D dA o ad t2 H → va_S A s.heap H locs → lv_has ls 2 [] → fm_isLink_J16  t2 = some (r, tZ) → W p l e (headSpec (ws_ yX6_isLink cX6_isLink 2 (some .boolean)) ({ frames := 2, cells := 0, slots := 0, locals := 32 })).room s m ([.ref o, .int a1] : List Value).toArray below meth c H locs 0 0 (MQ below (tw_Qi D dA o ad A r tZ) ([.ref o, .int a1] : List Value).toArray s 0 0 A) (F0 m 16 ls []) := by
    intro t2 H locs ls hP hS hl hf
    unfold fm_isLink_J16 at hf
    refine lv_iconst (v := (0 : Int32)) hx hb dX6_isLink_16 (by decide) ?_
    exact k17 _ _ _ _ _ hP hS (lv_sub hl [] rfl) hf
  refine lv_if_lt (tgt := 16) hx hb dX6_isLink_1 (by decide) (fun hc => ?_) (fun hc => ?_)
  · have hf := tw_ifT hc hf
    exact k16 _ _ _ _ hP hS (lv_sub hl [] rfl) hf
  · have hf := tw_ifF hc hf
    refine lv_iload_n hx hb dX6_isLink_4 rfl (lv_at hl 1 rfl) ?_
    refine lv_aload_n hx hb dX6_isLink_5 rfl (lv_at hl 0 rfl) ?_
    obtain ⟨x3, t4, e5, hf⟩ := tw_bdE hf
    refine tw_cVi (As := []) (rest := [.int a1]) C hml hP hS (mm_links (l := l) (X := X) (D := D) (dA := dA) hD _ _ _ e5) (cwV 0 hts (lw_V q1368 q1370 qs43 q106 q1371) rfl rfl rfl hdX6_links ⟨Nat.le_of_ble_eq_true rfl, Nat.le_of_ble_eq_true rfl⟩) rfl hl.1 rfl (Nat.le_of_ble_eq_true rfl) dX6_isLink_6 (fun H locs hP hS => ?_)
    refine lv_icmp_ge (tgt := 16) hx hb dX6_isLink_9 (by decide) (fun hc => ?_) (fun hc => ?_)
    · have hf := tw_ifT hc hf
      exact k16 _ _ _ _ hP hS (lv_sub hl [] rfl) hf
    · have hf := tw_ifF hc hf
      refine lv_iconst (v := (1 : Int32)) hx hb dX6_isLink_12 (by decide) ?_
      refine lv_goto (tgt := 17) hx hb dX6_isLink_13 (by decide) ?_
      exact k17 _ _ _ _ _ hP hS (lv_sub hl [] rfl) hf
def fm_bounds_J34   : TM Int32 :=
  tw_rz (0 : Int32)
def fm_bounds (a1 : Int32) (a2 : Int32) (a3 : Int32) : TM Int32 :=
  tw_bd (tw_pi 0 (0 : Int32)) fun _ =>
  tw_bd (fm_isLink a1) fun x4 =>
  if x4 = 0 then (fm_bounds_J34)
  else (if a2 < (1 : Int32) then (fm_bounds_J34)
  else (if (999 : Int32) < a2 then (fm_bounds_J34)
  else (if a3 < 0 then (fm_bounds_J34)
  else (if a3 < a2 then (tw_bd (fm_remembers) fun _ =>
   tw_bd (tw_st 26 (((24 : Int32) * a1) + (0 : Int32)) a2) fun _ =>
   tw_bd (tw_st 26 (((24 : Int32) * a1) + (1 : Int32)) a3) fun _ =>
  tw_rz (1 : Int32))
  else (fm_bounds_J34)))))
theorem hdX6_bounds : yX6_bounds.cls = "LosslessFabricModel" ∧ (yX6_bounds.cls ≠ "java/lang/invoke/MethodHandle" ∧ yX6_bounds.cls ≠ "java/lang/invoke/VarHandle" ∧ (parseMethodDescriptor yX6_bounds.desc).map (fun d => d.parameters.length) = some 3) := by decide +kernel
set_option maxHeartbeats 4000000 in
theorem mm_bounds {l : Launch} {X : (Nat → Nat) × (Nat → Nat) × Nat} {D : va_G} {dA : Nat → ClassId} {o : Nat} {ad : Nat → Nat} {A : Nat → Prop} (hD : tw_D o ad A) (a1 : Int32) (a2 : Int32) (a3 : Int32) (t0 tZ : TS) (r : Int32) (hf : fm_bounds a1 a2 a3 t0 = some (r, tZ)) : Met l yX6_bounds (ws_ yX6_bounds cX6_bounds 4 (some .boolean)) ({ frames := 3, cells := 0, slots := 0, locals := 57 }) (va_Pc [.ref o, .int a1, .int a2, .int a3] (tw_W X A D dA o ad t0)) (tw_Qi D dA o ad A r tZ) 0 0 A := by
  refine Met.ofW (cc := cX6_bounds) (maxL := 4) (ret := some .boolean) (by decide) rfl ?_
  intro p e s m args below meth c s₁ B hml hv
  obtain ⟨rfl, hP, hK, hX⟩ := hv
  have hx := B.exec
  have hb := B.bytes
  have hr := B.returns
  have hts := atoms_spec (ws := (ws_ yX6_bounds cX6_bounds 4 (some .boolean))) B.pre
  have hts : ∀ w ∈ lw_all, w.before _ s = true := fun w h => hts w (List.mem_cons_of_mem _ h)
  have hown : s.vm.findClass "LosslessFabricModel" = some m.cls := findClass_of_methodNamed B.named
  have hlk := B.notSynchronized
  have C : tw_C X p s m _ c cX6_bounds D dA o ad A := ⟨hx, hb, hts, hown, hK, hD, hX⟩
  have hS : va_S A s.heap s.heap [] := va_S.rf
  have hl := lv_entry ([.ref o, .int a1, .int a2, .int a3]) (n := 4) (Nat.le_of_ble_eq_true rfl)
  rw [lg_entry_eq]
  generalize (lg_sl ([.ref o, .int a1, .int a2, .int a3]) ++ List.replicate (4 - (lg_sl ([.ref o, .int a1, .int a2, .int a3])).length) Slot.unset).toArray = ls at hl ⊢
  have hl : lv_has ls 4 [(0, .ref o), (1, .int a1), (2, .int a2), (3, .int a3)] := hl
  unfold fm_bounds at hf
  refine lv_aload_n hx hb dX6_bounds_0 rfl (lv_at hl 0 rfl) ?_
  refine lv_iconst (v := (0 : Int32)) hx hb dX6_bounds_1 (by decide) ?_
  obtain ⟨x1, t2, e3, hf⟩ := tw_bdE hf
  refine tw_iput (k := 0) C hP hS (by decide) rfl e3 q1376 dX6_bounds_2 (fun H locs hP hS => ?_)
  refine lv_aload_n hx hb dX6_bounds_5 rfl (lv_at hl 0 rfl) ?_
  refine lv_iload_n hx hb dX6_bounds_6 rfl (lv_at hl 1 rfl) ?_
  obtain ⟨x4, t5, e6, hf⟩ := tw_bdE hf
  refine tw_cVi (As := [.int a1]) (rest := []) C hml hP hS (mm_isLink (l := l) (X := X) (D := D) (dA := dA) hD _ _ _ _ e6) (cwV 1 hts (lw_V q1739 q1741 qs81 q106 q1742) rfl rfl rfl hdX6_isLink ⟨Nat.le_of_ble_eq_true rfl, Nat.le_of_ble_eq_true rfl⟩) rfl hl.1 rfl (Nat.le_of_ble_eq_true rfl) dX6_bounds_7 (fun H locs hP hS => ?_)
  have k34 : ∀  (t7 : TS) (H : Heap) (locs : List Loc) (ls : Array Slot), tw_P D dA o ad t7 H → va_S A s.heap H locs → lv_has ls 4 [] → fm_bounds_J34  t7 = some (r, tZ) → W p l e (headSpec (ws_ yX6_bounds cX6_bounds 4 (some .boolean)) ({ frames := 3, cells := 0, slots := 0, locals := 57 })).room s m ([.ref o, .int a1, .int a2, .int a3] : List Value).toArray below meth c H locs 0 0 (MQ below (tw_Qi D dA o ad A r tZ) ([.ref o, .int a1, .int a2, .int a3] : List Value).toArray s 0 0 A) (F0 m 34 ls []) := by
    intro t7 H locs ls hP hS hl hf
    unfold fm_bounds_J34 at hf
    refine lv_iconst (v := (0 : Int32)) hx hb dX6_bounds_34 (by decide) ?_
    exact tw_iretz hf C hr hP hS hlk dX6_bounds_35
  refine lv_if_eq (tgt := 34) hx hb dX6_bounds_10 (by decide) (fun hc => ?_) (fun hc => ?_)
  · have hf := tw_ifT hc hf
    exact k34 _ _ _ _ hP hS (lv_sub hl [] rfl) hf
  · have hf := tw_ifF hc hf
    refine lv_iload_n hx hb dX6_bounds_13 rfl (lv_at hl 2 rfl) ?_
    refine lv_iconst (v := (1 : Int32)) hx hb dX6_bounds_14 (by decide) ?_
    refine lv_icmp_lt (tgt := 34) hx hb dX6_bounds_15 (by decide) (fun hc => ?_) (fun hc => ?_)
    · have hf := tw_ifT hc hf
      exact k34 _ _ _ _ hP hS (lv_sub hl [] rfl) hf
    · have hf := tw_ifF hc hf
      refine lv_iload_n hx hb dX6_bounds_18 rfl (lv_at hl 2 rfl) ?_
      refine lv_sipush (v := (999 : Int32)) hx hb dX6_bounds_19 (by decide) ?_
      refine lv_icmp_gt (tgt := 34) hx hb dX6_bounds_22 (by decide) (fun hc => ?_) (fun hc => ?_)
      · have hf := tw_ifT hc hf
        exact k34 _ _ _ _ hP hS (lv_sub hl [] rfl) hf
      · have hf := tw_ifF hc hf
        refine lv_iload_n hx hb dX6_bounds_25 rfl (lv_at hl 3 rfl) ?_
        refine lv_if_lt (tgt := 34) hx hb dX6_bounds_26 (by decide) (fun hc => ?_) (fun hc => ?_)
        · have hf := tw_ifT hc hf
          exact k34 _ _ _ _ hP hS (lv_sub hl [] rfl) hf
        · have hf := tw_ifF hc hf
          refine lv_iload_n hx hb dX6_bounds_29 rfl (lv_at hl 3 rfl) ?_
          refine lv_iload_n hx hb dX6_bounds_30 rfl (lv_at hl 2 rfl) ?_
          refine lv_icmp_lt (tgt := 36) hx hb dX6_bounds_31 (by decide) (fun hc => ?_) (fun hc => ?_)
          · have hf := tw_ifT hc hf
            refine lv_aload_n hx hb dX6_bounds_36 rfl (lv_at hl 0 rfl) ?_
            obtain ⟨x8, t9, e10, hf⟩ := tw_bdE hf
            refine tw_cVv (As := []) (rest := []) C hml hP hS (mm_remembers (l := l) (X := X) (D := D) (dA := dA) hD _ _ _ e10) (cwV 0 hts (lw_V q1653 q1655 qs64 q106 q1656) rfl rfl rfl hdX6_remembers ⟨Nat.le_of_ble_eq_true rfl, Nat.le_of_ble_eq_true rfl⟩) rfl hl.1 rfl (Nat.le_of_ble_eq_true rfl) dX6_bounds_37 (fun H locs hP hS => ?_)
            refine lv_aload_n hx hb dX6_bounds_40 rfl (lv_at hl 0 rfl) ?_
            refine tw_aget (k := 26) C hP (by decide) (by decide) q1402 dX6_bounds_41 ?_
            refine lv_bipush (v := (24 : Int32)) hx hb dX6_bounds_44 (by decide) ?_
            refine lv_iload_n hx hb dX6_bounds_46 rfl (lv_at hl 1 rfl) ?_
            refine lv_imul hx hb dX6_bounds_47 ?_
            refine lv_iconst (v := (0 : Int32)) hx hb dX6_bounds_48 (by decide) ?_
            refine lv_iadd hx hb dX6_bounds_49 ?_
            refine lv_iload_n hx hb dX6_bounds_50 rfl (lv_at hl 2 rfl) ?_
            obtain ⟨x11, t12, e13, hf⟩ := tw_bdE hf
            refine tw_iast C hP hS e13 dX6_bounds_51 (fun H locs hP hS => ?_)
            refine lv_aload_n hx hb dX6_bounds_52 rfl (lv_at hl 0 rfl) ?_
            refine tw_aget (k := 26) C hP (by decide) (by decide) q1402 dX6_bounds_53 ?_
            refine lv_bipush (v := (24 : Int32)) hx hb dX6_bounds_56 (by decide) ?_
            refine lv_iload_n hx hb dX6_bounds_58 rfl (lv_at hl 1 rfl) ?_
            refine lv_imul hx hb dX6_bounds_59 ?_
            refine lv_iconst (v := (1 : Int32)) hx hb dX6_bounds_60 (by decide) ?_
            refine lv_iadd hx hb dX6_bounds_61 ?_
            refine lv_iload_n hx hb dX6_bounds_62 rfl (lv_at hl 3 rfl) ?_
            obtain ⟨x14, t15, e16, hf⟩ := tw_bdE hf
            refine tw_iast C hP hS e16 dX6_bounds_63 (fun H locs hP hS => ?_)
            refine lv_iconst (v := (1 : Int32)) hx hb dX6_bounds_64 (by decide) ?_
            exact tw_iretz hf C hr hP hS hlk dX6_bounds_65
          · have hf := tw_ifF hc hf
            exact k34 _ _ _ _ hP hS (lv_sub hl [] rfl) hf
def fm_size_J25   : TM Int32 :=
  tw_rt (-1 : Int32)
def fm_size (a1 : Int32) (a2 : Int32) : TM Int32 :=
  tw_bd (tw_pi 0 (0 : Int32)) fun _ =>
  tw_bd (fm_isLink a1) fun x4 =>
  if x4 = 0 then (fm_size_J25)
  else (if a2 < (1 : Int32) then (fm_size_J25)
  else (if a2 ≤ (1999 : Int32) then (tw_bd (fm_remembers) fun _ =>
   tw_bd (tw_ld 26 (((24 : Int32) * a1) + (2 : Int32))) fun x11 =>
   tw_bd (tw_st 26 (((24 : Int32) * a1) + (2 : Int32)) a2) fun _ =>
  tw_rt x11)
  else (fm_size_J25)))
theorem hdX6_size : yX6_size.cls = "LosslessFabricModel" ∧ (yX6_size.cls ≠ "java/lang/invoke/MethodHandle" ∧ yX6_size.cls ≠ "java/lang/invoke/VarHandle" ∧ (parseMethodDescriptor yX6_size.desc).map (fun d => d.parameters.length) = some 2) := by decide +kernel
set_option maxHeartbeats 4000000 in
theorem mm_size {l : Launch} {X : (Nat → Nat) × (Nat → Nat) × Nat} {D : va_G} {dA : Nat → ClassId} {o : Nat} {ad : Nat → Nat} {A : Nat → Prop} (hD : tw_D o ad A) (a1 : Int32) (a2 : Int32) (t0 tZ : TS) (r : Int32) (hf : fm_size a1 a2 t0 = some (r, tZ)) : Met l yX6_size (ws_ yX6_size cX6_size 4 (some .int)) ({ frames := 3, cells := 0, slots := 0, locals := 57 }) (va_Pc [.ref o, .int a1, .int a2] (tw_W X A D dA o ad t0)) (tw_Qi D dA o ad A r tZ) 0 0 A := by
  refine Met.ofW (cc := cX6_size) (maxL := 4) (ret := some .int) (by decide) rfl ?_
  intro p e s m args below meth c s₁ B hml hv
  obtain ⟨rfl, hP, hK, hX⟩ := hv
  have hx := B.exec
  have hb := B.bytes
  have hr := B.returns
  have hts := atoms_spec (ws := (ws_ yX6_size cX6_size 4 (some .int))) B.pre
  have hts : ∀ w ∈ lw_all, w.before _ s = true := fun w h => hts w (List.mem_cons_of_mem _ h)
  have hown : s.vm.findClass "LosslessFabricModel" = some m.cls := findClass_of_methodNamed B.named
  have hlk := B.notSynchronized
  have C : tw_C X p s m _ c cX6_size D dA o ad A := ⟨hx, hb, hts, hown, hK, hD, hX⟩
  have hS : va_S A s.heap s.heap [] := va_S.rf
  have hl := lv_entry ([.ref o, .int a1, .int a2]) (n := 4) (Nat.le_of_ble_eq_true rfl)
  rw [lg_entry_eq]
  generalize (lg_sl ([.ref o, .int a1, .int a2]) ++ List.replicate (4 - (lg_sl ([.ref o, .int a1, .int a2])).length) Slot.unset).toArray = ls at hl ⊢
  have hl : lv_has ls 4 [(0, .ref o), (1, .int a1), (2, .int a2)] := hl
  unfold fm_size at hf
  refine lv_aload_n hx hb dX6_size_0 rfl (lv_at hl 0 rfl) ?_
  refine lv_iconst (v := (0 : Int32)) hx hb dX6_size_1 (by decide) ?_
  obtain ⟨x1, t2, e3, hf⟩ := tw_bdE hf
  refine tw_iput (k := 0) C hP hS (by decide) rfl e3 q1376 dX6_size_2 (fun H locs hP hS => ?_)
  refine lv_aload_n hx hb dX6_size_5 rfl (lv_at hl 0 rfl) ?_
  refine lv_iload_n hx hb dX6_size_6 rfl (lv_at hl 1 rfl) ?_
  obtain ⟨x4, t5, e6, hf⟩ := tw_bdE hf
  refine tw_cVi (As := [.int a1]) (rest := []) C hml hP hS (mm_isLink (l := l) (X := X) (D := D) (dA := dA) hD _ _ _ _ e6) (cwV 1 hts (lw_V q1739 q1741 qs81 q106 q1742) rfl rfl rfl hdX6_isLink ⟨Nat.le_of_ble_eq_true rfl, Nat.le_of_ble_eq_true rfl⟩) rfl hl.1 rfl (Nat.le_of_ble_eq_true rfl) dX6_size_7 (fun H locs hP hS => ?_)
  have k25 : ∀  (t7 : TS) (H : Heap) (locs : List Loc) (ls : Array Slot), tw_P D dA o ad t7 H → va_S A s.heap H locs → lv_has ls 4 [] → fm_size_J25  t7 = some (r, tZ) → W p l e (headSpec (ws_ yX6_size cX6_size 4 (some .int)) ({ frames := 3, cells := 0, slots := 0, locals := 57 })).room s m ([.ref o, .int a1, .int a2] : List Value).toArray below meth c H locs 0 0 (MQ below (tw_Qi D dA o ad A r tZ) ([.ref o, .int a1, .int a2] : List Value).toArray s 0 0 A) (F0 m 25 ls []) := by
    intro t7 H locs ls hP hS hl hf
    unfold fm_size_J25 at hf
    refine lv_iconst (v := (-1 : Int32)) hx hb dX6_size_25 (by decide) ?_
    exact tw_ireti (tw_rtE hf).1 (tw_rtE hf).2 C hr hP hS hlk dX6_size_26
  refine lv_if_eq (tgt := 25) hx hb dX6_size_10 (by decide) (fun hc => ?_) (fun hc => ?_)
  · have hf := tw_ifT hc hf
    exact k25 _ _ _ _ hP hS (lv_sub hl [] rfl) hf
  · have hf := tw_ifF hc hf
    refine lv_iload_n hx hb dX6_size_13 rfl (lv_at hl 2 rfl) ?_
    refine lv_iconst (v := (1 : Int32)) hx hb dX6_size_14 (by decide) ?_
    refine lv_icmp_lt (tgt := 25) hx hb dX6_size_15 (by decide) (fun hc => ?_) (fun hc => ?_)
    · have hf := tw_ifT hc hf
      exact k25 _ _ _ _ hP hS (lv_sub hl [] rfl) hf
    · have hf := tw_ifF hc hf
      refine lv_iload_n hx hb dX6_size_18 rfl (lv_at hl 2 rfl) ?_
      refine lv_sipush (v := (1999 : Int32)) hx hb dX6_size_19 (by decide) ?_
      refine lv_icmp_le (tgt := 27) hx hb dX6_size_22 (by decide) (fun hc => ?_) (fun hc => ?_)
      · have hf := tw_ifT hc hf
        refine lv_aload_n hx hb dX6_size_27 rfl (lv_at hl 0 rfl) ?_
        obtain ⟨x8, t9, e10, hf⟩ := tw_bdE hf
        refine tw_cVv (As := []) (rest := []) C hml hP hS (mm_remembers (l := l) (X := X) (D := D) (dA := dA) hD _ _ _ e10) (cwV 0 hts (lw_V q1653 q1655 qs64 q106 q1656) rfl rfl rfl hdX6_remembers ⟨Nat.le_of_ble_eq_true rfl, Nat.le_of_ble_eq_true rfl⟩) rfl hl.1 rfl (Nat.le_of_ble_eq_true rfl) dX6_size_28 (fun H locs hP hS => ?_)
        refine lv_aload_n hx hb dX6_size_31 rfl (lv_at hl 0 rfl) ?_
        refine tw_aget (k := 26) C hP (by decide) (by decide) q1402 dX6_size_32 ?_
        refine lv_bipush (v := (24 : Int32)) hx hb dX6_size_35 (by decide) ?_
        refine lv_iload_n hx hb dX6_size_37 rfl (lv_at hl 1 rfl) ?_
        refine lv_imul hx hb dX6_size_38 ?_
        refine lv_iconst (v := (2 : Int32)) hx hb dX6_size_39 (by decide) ?_
        refine lv_iadd hx hb dX6_size_40 ?_
        obtain ⟨x11, t12, e13, hf⟩ := tw_bdE hf
        refine tw_iald C hP e13 dX6_size_41 (fun hP => ?_)
        refine lv_istore_n (lv' := [(3, .int x11), (0, .ref o), (1, .int a1), (2, .int a2)]) hx hb dX6_size_42 rfl hl (by decide) rfl (fun ls hl => ?_)
        refine lv_aload_n hx hb dX6_size_43 rfl (lv_at hl 1 rfl) ?_
        refine tw_aget (k := 26) C hP (by decide) (by decide) q1402 dX6_size_44 ?_
        refine lv_bipush (v := (24 : Int32)) hx hb dX6_size_47 (by decide) ?_
        refine lv_iload_n hx hb dX6_size_49 rfl (lv_at hl 2 rfl) ?_
        refine lv_imul hx hb dX6_size_50 ?_
        refine lv_iconst (v := (2 : Int32)) hx hb dX6_size_51 (by decide) ?_
        refine lv_iadd hx hb dX6_size_52 ?_
        refine lv_iload_n hx hb dX6_size_53 rfl (lv_at hl 3 rfl) ?_
        obtain ⟨x14, t15, e16, hf⟩ := tw_bdE hf
        refine tw_iast C hP hS e16 dX6_size_54 (fun H locs hP hS => ?_)
        refine lv_iload_n hx hb dX6_size_55 rfl (lv_at hl 0 rfl) ?_
        exact tw_ireti (tw_rtE hf).1 (tw_rtE hf).2 C hr hP hS hlk dX6_size_56
      · have hf := tw_ifF hc hf
        exact k25 _ _ _ _ hP hS (lv_sub hl [] rfl) hf
def fm_link (a1 : Int32) (a2 : Int32) : TM Int32 :=
  tw_bd (tw_pi 0 (0 : Int32)) fun _ =>
  tw_bd (fm_isLink a1) fun x4 =>
  if x4 = 0 then (tw_bd (tw_pi 0 (1 : Int32)) fun _ =>
  tw_rt (0 : Int32))
  else (if a2 = (0 : Int32) then ( tw_bd (tw_ld 6 a1) fun x8 =>
  tw_rt x8)
  else if a2 = (1 : Int32) then ( tw_bd (tw_ld 7 a1) fun x12 =>
  tw_rt x12)
  else if a2 = (2 : Int32) then ( tw_bd (tw_ld 26 (((24 : Int32) * a1) + (0 : Int32))) fun x16 =>
  tw_rt x16)
  else if a2 = (3 : Int32) then ( tw_bd (tw_ld 26 (((24 : Int32) * a1) + (1 : Int32))) fun x20 =>
  tw_rt x20)
  else if a2 = (4 : Int32) then ( tw_bd (tw_ld 26 (((24 : Int32) * a1) + (2 : Int32))) fun x24 =>
  tw_rt x24)
  else if a2 = (5 : Int32) then (tw_bd (fm_queueOf a1) fun x28 =>
  tw_rt x28)
  else if a2 = (6 : Int32) then ( tw_bd (tw_ld 26 (((24 : Int32) * a1) + (10 : Int32))) fun x32 =>
  tw_rt x32)
  else if a2 = (7 : Int32) then (  tw_bd (tw_ld 7 a1) fun x36 =>
  tw_bd (tw_ld 26 ((((24 : Int32) * a1) + (10 : Int32)) + x36)) fun x39 =>
  tw_rt x39)
  else if a2 = (8 : Int32) then ( tw_bd (tw_ld 26 (((24 : Int32) * a1) + (3 : Int32))) fun x43 =>
  tw_rt x43)
  else if a2 = (9 : Int32) then ( tw_bd (tw_ld 26 (((24 : Int32) * a1) + (4 : Int32))) fun x47 =>
  tw_rt x47)
  else if a2 = (10 : Int32) then ( tw_bd (tw_ld 26 (((24 : Int32) * a1) + (5 : Int32))) fun x51 =>
  tw_rt x51)
  else if a2 = (11 : Int32) then ( tw_bd (tw_ld 26 (((24 : Int32) * a1) + (6 : Int32))) fun x55 =>
  tw_rt x55)
  else if a2 = (12 : Int32) then ( tw_bd (tw_ld 26 (((24 : Int32) * a1) + (7 : Int32))) fun x59 =>
  tw_rt x59)
  else if a2 = (13 : Int32) then ( tw_bd (tw_ld 26 (((24 : Int32) * a1) + (8 : Int32))) fun x63 =>
  tw_rt x63)
  else (tw_bd (tw_pi 0 (2 : Int32)) fun _ =>
  tw_rt (0 : Int32)))
theorem hdX6_link : yX6_link.cls = "LosslessFabricModel" ∧ (yX6_link.cls ≠ "java/lang/invoke/MethodHandle" ∧ yX6_link.cls ≠ "java/lang/invoke/VarHandle" ∧ (parseMethodDescriptor yX6_link.desc).map (fun d => d.parameters.length) = some 2) := by decide +kernel
set_option maxHeartbeats 4000000 in
theorem mm_link {l : Launch} {X : (Nat → Nat) × (Nat → Nat) × Nat} {D : va_G} {dA : Nat → ClassId} {o : Nat} {ad : Nat → Nat} {A : Nat → Prop} (hD : tw_D o ad A) (a1 : Int32) (a2 : Int32) (t0 tZ : TS) (r : Int32) (hf : fm_link a1 a2 t0 = some (r, tZ)) : Met l yX6_link (ws_ yX6_link cX6_link 4 (some .int)) ({ frames := 3, cells := 0, slots := 0, locals := 53 }) (va_Pc [.ref o, .int a1, .int a2] (tw_W X A D dA o ad t0)) (tw_Qi D dA o ad A r tZ) 0 0 A := by
  refine Met.ofW (cc := cX6_link) (maxL := 4) (ret := some .int) (by decide) rfl ?_
  intro p e s m args below meth c s₁ B hml hv
  obtain ⟨rfl, hP, hK, hX⟩ := hv
  have hx := B.exec
  have hb := B.bytes
  have hr := B.returns
  have hts := atoms_spec (ws := (ws_ yX6_link cX6_link 4 (some .int))) B.pre
  have hts : ∀ w ∈ lw_all, w.before _ s = true := fun w h => hts w (List.mem_cons_of_mem _ h)
  have hown : s.vm.findClass "LosslessFabricModel" = some m.cls := findClass_of_methodNamed B.named
  have hlk := B.notSynchronized
  have C : tw_C X p s m _ c cX6_link D dA o ad A := ⟨hx, hb, hts, hown, hK, hD, hX⟩
  have hS : va_S A s.heap s.heap [] := va_S.rf
  have hl := lv_entry ([.ref o, .int a1, .int a2]) (n := 4) (Nat.le_of_ble_eq_true rfl)
  rw [lg_entry_eq]
  generalize (lg_sl ([.ref o, .int a1, .int a2]) ++ List.replicate (4 - (lg_sl ([.ref o, .int a1, .int a2])).length) Slot.unset).toArray = ls at hl ⊢
  have hl : lv_has ls 4 [(0, .ref o), (1, .int a1), (2, .int a2)] := hl
  unfold fm_link at hf
  refine lv_aload_n hx hb dX6_link_0 rfl (lv_at hl 0 rfl) ?_
  refine lv_iconst (v := (0 : Int32)) hx hb dX6_link_1 (by decide) ?_
  obtain ⟨x1, t2, e3, hf⟩ := tw_bdE hf
  refine tw_iput (k := 0) C hP hS (by decide) rfl e3 q1376 dX6_link_2 (fun H locs hP hS => ?_)
  refine lv_aload_n hx hb dX6_link_5 rfl (lv_at hl 0 rfl) ?_
  refine lv_iload_n hx hb dX6_link_6 rfl (lv_at hl 1 rfl) ?_
  obtain ⟨x4, t5, e6, hf⟩ := tw_bdE hf
  refine tw_cVi (As := [.int a1]) (rest := []) C hml hP hS (mm_isLink (l := l) (X := X) (D := D) (dA := dA) hD _ _ _ _ e6) (cwV 1 hts (lw_V q1739 q1741 qs81 q106 q1742) rfl rfl rfl hdX6_isLink ⟨Nat.le_of_ble_eq_true rfl, Nat.le_of_ble_eq_true rfl⟩) rfl hl.1 rfl (Nat.le_of_ble_eq_true rfl) dX6_link_7 (fun H locs hP hS => ?_)
  refine lv_if_ne (tgt := 20) hx hb dX6_link_10 (by decide) (fun hc => ?_) (fun hc => ?_)
  · have hf := tw_ifF hc hf
    refine lv_bipush (v := (24 : Int32)) hx hb dX6_link_20 (by decide) ?_
    refine lv_iload_n hx hb dX6_link_22 rfl (lv_at hl 1 rfl) ?_
    refine lv_imul hx hb dX6_link_23 ?_
    refine lv_istore_n (lv' := [(3, .int ((24 : Int32) * a1)), (0, .ref o), (1, .int a1), (2, .int a2)]) hx hb dX6_link_24 rfl hl (by decide) rfl (fun ls hl => ?_)
    refine lv_iload_n hx hb dX6_link_25 rfl (lv_at hl 3 rfl) ?_
    by_cases c7 : a2 = (0 : Int32)
    · have hf := tw_ifT c7 hf
      refine lv_tableIn (tgt := 96) hx hb dX6_link_26 (by rw [c7]; decide) (by rw [c7]; decide) (by rw [c7]; rfl) (by decide) ?_
      refine lv_aload_n hx hb dX6_link_96 rfl (lv_at hl 1 rfl) ?_
      refine tw_aget (k := 6) C hP (by decide) (by decide) q1382 dX6_link_97 ?_
      refine lv_iload_n hx hb dX6_link_100 rfl (lv_at hl 2 rfl) ?_
      obtain ⟨x8, t9, e10, hf⟩ := tw_bdE hf
      refine tw_iald C hP e10 dX6_link_101 (fun hP => ?_)
      exact tw_ireti (tw_rtE hf).1 (tw_rtE hf).2 C hr hP hS hlk dX6_link_102
    have hf := tw_ifF c7 hf
    by_cases c11 : a2 = (1 : Int32)
    · have hf := tw_ifT c11 hf
      refine lv_tableIn (tgt := 103) hx hb dX6_link_26 (by rw [c11]; decide) (by rw [c11]; decide) (by rw [c11]; rfl) (by decide) ?_
      refine lv_aload_n hx hb dX6_link_103 rfl (lv_at hl 1 rfl) ?_
      refine tw_aget (k := 7) C hP (by decide) (by decide) q1383 dX6_link_104 ?_
      refine lv_iload_n hx hb dX6_link_107 rfl (lv_at hl 2 rfl) ?_
      obtain ⟨x12, t13, e14, hf⟩ := tw_bdE hf
      refine tw_iald C hP e14 dX6_link_108 (fun hP => ?_)
      exact tw_ireti (tw_rtE hf).1 (tw_rtE hf).2 C hr hP hS hlk dX6_link_109
    have hf := tw_ifF c11 hf
    by_cases c15 : a2 = (2 : Int32)
    · have hf := tw_ifT c15 hf
      refine lv_tableIn (tgt := 110) hx hb dX6_link_26 (by rw [c15]; decide) (by rw [c15]; decide) (by rw [c15]; rfl) (by decide) ?_
      refine lv_aload_n hx hb dX6_link_110 rfl (lv_at hl 1 rfl) ?_
      refine tw_aget (k := 26) C hP (by decide) (by decide) q1402 dX6_link_111 ?_
      refine lv_iload_n hx hb dX6_link_114 rfl (lv_at hl 0 rfl) ?_
      refine lv_iconst (v := (0 : Int32)) hx hb dX6_link_115 (by decide) ?_
      refine lv_iadd hx hb dX6_link_116 ?_
      obtain ⟨x16, t17, e18, hf⟩ := tw_bdE hf
      refine tw_iald C hP e18 dX6_link_117 (fun hP => ?_)
      exact tw_ireti (tw_rtE hf).1 (tw_rtE hf).2 C hr hP hS hlk dX6_link_118
    have hf := tw_ifF c15 hf
    by_cases c19 : a2 = (3 : Int32)
    · have hf := tw_ifT c19 hf
      refine lv_tableIn (tgt := 119) hx hb dX6_link_26 (by rw [c19]; decide) (by rw [c19]; decide) (by rw [c19]; rfl) (by decide) ?_
      refine lv_aload_n hx hb dX6_link_119 rfl (lv_at hl 1 rfl) ?_
      refine tw_aget (k := 26) C hP (by decide) (by decide) q1402 dX6_link_120 ?_
      refine lv_iload_n hx hb dX6_link_123 rfl (lv_at hl 0 rfl) ?_
      refine lv_iconst (v := (1 : Int32)) hx hb dX6_link_124 (by decide) ?_
      refine lv_iadd hx hb dX6_link_125 ?_
      obtain ⟨x20, t21, e22, hf⟩ := tw_bdE hf
      refine tw_iald C hP e22 dX6_link_126 (fun hP => ?_)
      exact tw_ireti (tw_rtE hf).1 (tw_rtE hf).2 C hr hP hS hlk dX6_link_127
    have hf := tw_ifF c19 hf
    by_cases c23 : a2 = (4 : Int32)
    · have hf := tw_ifT c23 hf
      refine lv_tableIn (tgt := 128) hx hb dX6_link_26 (by rw [c23]; decide) (by rw [c23]; decide) (by rw [c23]; rfl) (by decide) ?_
      refine lv_aload_n hx hb dX6_link_128 rfl (lv_at hl 1 rfl) ?_
      refine tw_aget (k := 26) C hP (by decide) (by decide) q1402 dX6_link_129 ?_
      refine lv_iload_n hx hb dX6_link_132 rfl (lv_at hl 0 rfl) ?_
      refine lv_iconst (v := (2 : Int32)) hx hb dX6_link_133 (by decide) ?_
      refine lv_iadd hx hb dX6_link_134 ?_
      obtain ⟨x24, t25, e26, hf⟩ := tw_bdE hf
      refine tw_iald C hP e26 dX6_link_135 (fun hP => ?_)
      exact tw_ireti (tw_rtE hf).1 (tw_rtE hf).2 C hr hP hS hlk dX6_link_136
    have hf := tw_ifF c23 hf
    by_cases c27 : a2 = (5 : Int32)
    · have hf := tw_ifT c27 hf
      refine lv_tableIn (tgt := 137) hx hb dX6_link_26 (by rw [c27]; decide) (by rw [c27]; decide) (by rw [c27]; rfl) (by decide) ?_
      refine lv_aload_n hx hb dX6_link_137 rfl (lv_at hl 1 rfl) ?_
      refine lv_iload_n hx hb dX6_link_138 rfl (lv_at hl 2 rfl) ?_
      obtain ⟨x28, t29, e30, hf⟩ := tw_bdE hf
      refine tw_cVi (As := [.int a1]) (rest := []) C hml hP hS (mm_queueOf (l := l) (X := X) (D := D) (dA := dA) hD _ _ _ _ e30) (cwV 1 hts (lw_V q1691 q1693 qs72 q106 q1694) rfl rfl rfl hdX6_queueOf ⟨Nat.le_of_ble_eq_true rfl, Nat.le_of_ble_eq_true rfl⟩) rfl hl.1 rfl (Nat.le_of_ble_eq_true rfl) dX6_link_139 (fun H locs hP hS => ?_)
      exact tw_ireti (tw_rtE hf).1 (tw_rtE hf).2 C hr hP hS hlk dX6_link_142
    have hf := tw_ifF c27 hf
    by_cases c31 : a2 = (6 : Int32)
    · have hf := tw_ifT c31 hf
      refine lv_tableIn (tgt := 143) hx hb dX6_link_26 (by rw [c31]; decide) (by rw [c31]; decide) (by rw [c31]; rfl) (by decide) ?_
      refine lv_aload_n hx hb dX6_link_143 rfl (lv_at hl 1 rfl) ?_
      refine tw_aget (k := 26) C hP (by decide) (by decide) q1402 dX6_link_144 ?_
      refine lv_iload_n hx hb dX6_link_147 rfl (lv_at hl 0 rfl) ?_
      refine lv_bipush (v := (10 : Int32)) hx hb dX6_link_148 (by decide) ?_
      refine lv_iadd hx hb dX6_link_150 ?_
      obtain ⟨x32, t33, e34, hf⟩ := tw_bdE hf
      refine tw_iald C hP e34 dX6_link_151 (fun hP => ?_)
      exact tw_ireti (tw_rtE hf).1 (tw_rtE hf).2 C hr hP hS hlk dX6_link_152
    have hf := tw_ifF c31 hf
    by_cases c35 : a2 = (7 : Int32)
    · have hf := tw_ifT c35 hf
      refine lv_tableIn (tgt := 153) hx hb dX6_link_26 (by rw [c35]; decide) (by rw [c35]; decide) (by rw [c35]; rfl) (by decide) ?_
      refine lv_aload_n hx hb dX6_link_153 rfl (lv_at hl 1 rfl) ?_
      refine tw_aget (k := 26) C hP (by decide) (by decide) q1402 dX6_link_154 ?_
      refine lv_iload_n hx hb dX6_link_157 rfl (lv_at hl 0 rfl) ?_
      refine lv_bipush (v := (10 : Int32)) hx hb dX6_link_158 (by decide) ?_
      refine lv_iadd hx hb dX6_link_160 ?_
      refine lv_aload_n hx hb dX6_link_161 rfl (lv_at hl 1 rfl) ?_
      refine tw_aget (k := 7) C hP (by decide) (by decide) q1383 dX6_link_162 ?_
      refine lv_iload_n hx hb dX6_link_165 rfl (lv_at hl 2 rfl) ?_
      obtain ⟨x36, t37, e38, hf⟩ := tw_bdE hf
      refine tw_iald C hP e38 dX6_link_166 (fun hP => ?_)
      refine lv_iadd hx hb dX6_link_167 ?_
      obtain ⟨x39, t40, e41, hf⟩ := tw_bdE hf
      refine tw_iald C hP e41 dX6_link_168 (fun hP => ?_)
      exact tw_ireti (tw_rtE hf).1 (tw_rtE hf).2 C hr hP hS hlk dX6_link_169
    have hf := tw_ifF c35 hf
    by_cases c42 : a2 = (8 : Int32)
    · have hf := tw_ifT c42 hf
      refine lv_tableIn (tgt := 170) hx hb dX6_link_26 (by rw [c42]; decide) (by rw [c42]; decide) (by rw [c42]; rfl) (by decide) ?_
      refine lv_aload_n hx hb dX6_link_170 rfl (lv_at hl 1 rfl) ?_
      refine tw_aget (k := 26) C hP (by decide) (by decide) q1402 dX6_link_171 ?_
      refine lv_iload_n hx hb dX6_link_174 rfl (lv_at hl 0 rfl) ?_
      refine lv_iconst (v := (3 : Int32)) hx hb dX6_link_175 (by decide) ?_
      refine lv_iadd hx hb dX6_link_176 ?_
      obtain ⟨x43, t44, e45, hf⟩ := tw_bdE hf
      refine tw_iald C hP e45 dX6_link_177 (fun hP => ?_)
      exact tw_ireti (tw_rtE hf).1 (tw_rtE hf).2 C hr hP hS hlk dX6_link_178
    have hf := tw_ifF c42 hf
    by_cases c46 : a2 = (9 : Int32)
    · have hf := tw_ifT c46 hf
      refine lv_tableIn (tgt := 179) hx hb dX6_link_26 (by rw [c46]; decide) (by rw [c46]; decide) (by rw [c46]; rfl) (by decide) ?_
      refine lv_aload_n hx hb dX6_link_179 rfl (lv_at hl 1 rfl) ?_
      refine tw_aget (k := 26) C hP (by decide) (by decide) q1402 dX6_link_180 ?_
      refine lv_iload_n hx hb dX6_link_183 rfl (lv_at hl 0 rfl) ?_
      refine lv_iconst (v := (4 : Int32)) hx hb dX6_link_184 (by decide) ?_
      refine lv_iadd hx hb dX6_link_185 ?_
      obtain ⟨x47, t48, e49, hf⟩ := tw_bdE hf
      refine tw_iald C hP e49 dX6_link_186 (fun hP => ?_)
      exact tw_ireti (tw_rtE hf).1 (tw_rtE hf).2 C hr hP hS hlk dX6_link_187
    have hf := tw_ifF c46 hf
    by_cases c50 : a2 = (10 : Int32)
    · have hf := tw_ifT c50 hf
      refine lv_tableIn (tgt := 188) hx hb dX6_link_26 (by rw [c50]; decide) (by rw [c50]; decide) (by rw [c50]; rfl) (by decide) ?_
      refine lv_aload_n hx hb dX6_link_188 rfl (lv_at hl 1 rfl) ?_
      refine tw_aget (k := 26) C hP (by decide) (by decide) q1402 dX6_link_189 ?_
      refine lv_iload_n hx hb dX6_link_192 rfl (lv_at hl 0 rfl) ?_
      refine lv_iconst (v := (5 : Int32)) hx hb dX6_link_193 (by decide) ?_
      refine lv_iadd hx hb dX6_link_194 ?_
      obtain ⟨x51, t52, e53, hf⟩ := tw_bdE hf
      refine tw_iald C hP e53 dX6_link_195 (fun hP => ?_)
      exact tw_ireti (tw_rtE hf).1 (tw_rtE hf).2 C hr hP hS hlk dX6_link_196
    have hf := tw_ifF c50 hf
    by_cases c54 : a2 = (11 : Int32)
    · have hf := tw_ifT c54 hf
      refine lv_tableIn (tgt := 197) hx hb dX6_link_26 (by rw [c54]; decide) (by rw [c54]; decide) (by rw [c54]; rfl) (by decide) ?_
      refine lv_aload_n hx hb dX6_link_197 rfl (lv_at hl 1 rfl) ?_
      refine tw_aget (k := 26) C hP (by decide) (by decide) q1402 dX6_link_198 ?_
      refine lv_iload_n hx hb dX6_link_201 rfl (lv_at hl 0 rfl) ?_
      refine lv_bipush (v := (6 : Int32)) hx hb dX6_link_202 (by decide) ?_
      refine lv_iadd hx hb dX6_link_204 ?_
      obtain ⟨x55, t56, e57, hf⟩ := tw_bdE hf
      refine tw_iald C hP e57 dX6_link_205 (fun hP => ?_)
      exact tw_ireti (tw_rtE hf).1 (tw_rtE hf).2 C hr hP hS hlk dX6_link_206
    have hf := tw_ifF c54 hf
    by_cases c58 : a2 = (12 : Int32)
    · have hf := tw_ifT c58 hf
      refine lv_tableIn (tgt := 207) hx hb dX6_link_26 (by rw [c58]; decide) (by rw [c58]; decide) (by rw [c58]; rfl) (by decide) ?_
      refine lv_aload_n hx hb dX6_link_207 rfl (lv_at hl 1 rfl) ?_
      refine tw_aget (k := 26) C hP (by decide) (by decide) q1402 dX6_link_208 ?_
      refine lv_iload_n hx hb dX6_link_211 rfl (lv_at hl 0 rfl) ?_
      refine lv_bipush (v := (7 : Int32)) hx hb dX6_link_212 (by decide) ?_
      refine lv_iadd hx hb dX6_link_214 ?_
      obtain ⟨x59, t60, e61, hf⟩ := tw_bdE hf
      refine tw_iald C hP e61 dX6_link_215 (fun hP => ?_)
      exact tw_ireti (tw_rtE hf).1 (tw_rtE hf).2 C hr hP hS hlk dX6_link_216
    have hf := tw_ifF c58 hf
    by_cases c62 : a2 = (13 : Int32)
    · have hf := tw_ifT c62 hf
      refine lv_tableIn (tgt := 217) hx hb dX6_link_26 (by rw [c62]; decide) (by rw [c62]; decide) (by rw [c62]; rfl) (by decide) ?_
      refine lv_aload_n hx hb dX6_link_217 rfl (lv_at hl 1 rfl) ?_
      refine tw_aget (k := 26) C hP (by decide) (by decide) q1402 dX6_link_218 ?_
      refine lv_iload_n hx hb dX6_link_221 rfl (lv_at hl 0 rfl) ?_
      refine lv_bipush (v := (8 : Int32)) hx hb dX6_link_222 (by decide) ?_
      refine lv_iadd hx hb dX6_link_224 ?_
      obtain ⟨x63, t64, e65, hf⟩ := tw_bdE hf
      refine tw_iald C hP e65 dX6_link_225 (fun hP => ?_)
      exact tw_ireti (tw_rtE hf).1 (tw_rtE hf).2 C hr hP hS hlk dX6_link_226
    have hf := tw_ifF c62 hf
    refine lv_tableOut (tgt := 227) hx hb dX6_link_26 (tw_swo 13 (fun i hi => by match i, hi with | 0, _ => exact c7 | 1, _ => exact c11 | 2, _ => exact c15 | 3, _ => exact c19 | 4, _ => exact c23 | 5, _ => exact c27 | 6, _ => exact c31 | 7, _ => exact c35 | 8, _ => exact c42 | 9, _ => exact c46 | 10, _ => exact c50 | 11, _ => exact c54 | 12, _ => exact c58 | 13, _ => exact c62 | i + 14, h => exact absurd h (by omega))) (by decide) ?_
    refine lv_aload_n hx hb dX6_link_227 rfl (lv_at hl 1 rfl) ?_
    refine lv_iconst (v := (2 : Int32)) hx hb dX6_link_228 (by decide) ?_
    obtain ⟨x66, t67, e68, hf⟩ := tw_bdE hf
    refine tw_iput (k := 0) C hP hS (by decide) rfl e68 q1376 dX6_link_229 (fun H locs hP hS => ?_)
    refine lv_iconst (v := (0 : Int32)) hx hb dX6_link_232 (by decide) ?_
    exact tw_ireti (tw_rtE hf).1 (tw_rtE hf).2 C hr hP hS hlk dX6_link_233
  · have hf := tw_ifT hc hf
    refine lv_aload_n hx hb dX6_link_13 rfl (lv_at hl 0 rfl) ?_
    refine lv_iconst (v := (1 : Int32)) hx hb dX6_link_14 (by decide) ?_
    obtain ⟨x69, t70, e71, hf⟩ := tw_bdE hf
    refine tw_iput (k := 0) C hP hS (by decide) rfl e71 q1376 dX6_link_15 (fun H locs hP hS => ?_)
    refine lv_iconst (v := (0 : Int32)) hx hb dX6_link_18 (by decide) ?_
    exact tw_ireti (tw_rtE hf).1 (tw_rtE hf).2 C hr hP hS hlk dX6_link_19
def fm_queue_J39  (w39_0 : Int32) : TM Int32 :=
  tw_rt w39_0
def fm_queue_J38   : TM Int32 :=
  fm_queue_J39 (-1 : Int32)
def fm_queue (a1 : Int32) (a2 : Int32) : TM Int32 :=
  tw_bd (tw_pi 0 (0 : Int32)) fun _ =>
  tw_bd (fm_isLink a1) fun x4 =>
  if x4 = 0 then (fm_queue_J38)
  else (tw_bd (fm_isFlow a2) fun x9 =>
  if x9 = 0 then (fm_queue_J38)
  else ( tw_bd (tw_ld 26 ((((24 : Int32) * a1) + (15 : Int32)) + a2)) fun x12 =>
 
  fm_queue_J39 x12))
theorem hdX6_queue : yX6_queue.cls = "LosslessFabricModel" ∧ (yX6_queue.cls ≠ "java/lang/invoke/MethodHandle" ∧ yX6_queue.cls ≠ "java/lang/invoke/VarHandle" ∧ (parseMethodDescriptor yX6_queue.desc).map (fun d => d.parameters.length) = some 2) := by decide +kernel
set_option maxHeartbeats 4000000 in
theorem mm_queue {l : Launch} {X : (Nat → Nat) × (Nat → Nat) × Nat} {D : va_G} {dA : Nat → ClassId} {o : Nat} {ad : Nat → Nat} {A : Nat → Prop} (hD : tw_D o ad A) (a1 : Int32) (a2 : Int32) (t0 tZ : TS) (r : Int32) (hf : fm_queue a1 a2 t0 = some (r, tZ)) : Met l yX6_queue (ws_ yX6_queue cX6_queue 3 (some .int)) ({ frames := 3, cells := 0, slots := 0, locals := 53 }) (va_Pc [.ref o, .int a1, .int a2] (tw_W X A D dA o ad t0)) (tw_Qi D dA o ad A r tZ) 0 0 A := by
  refine Met.ofW (cc := cX6_queue) (maxL := 3) (ret := some .int) (by decide) rfl ?_
  intro p e s m args below meth c s₁ B hml hv
  obtain ⟨rfl, hP, hK, hX⟩ := hv
  have hx := B.exec
  have hb := B.bytes
  have hr := B.returns
  have hts := atoms_spec (ws := (ws_ yX6_queue cX6_queue 3 (some .int))) B.pre
  have hts : ∀ w ∈ lw_all, w.before _ s = true := fun w h => hts w (List.mem_cons_of_mem _ h)
  have hown : s.vm.findClass "LosslessFabricModel" = some m.cls := findClass_of_methodNamed B.named
  have hlk := B.notSynchronized
  have C : tw_C X p s m _ c cX6_queue D dA o ad A := ⟨hx, hb, hts, hown, hK, hD, hX⟩
  have hS : va_S A s.heap s.heap [] := va_S.rf
  have hl := lv_entry ([.ref o, .int a1, .int a2]) (n := 3) (Nat.le_of_ble_eq_true rfl)
  rw [lg_entry_eq]
  generalize (lg_sl ([.ref o, .int a1, .int a2]) ++ List.replicate (3 - (lg_sl ([.ref o, .int a1, .int a2])).length) Slot.unset).toArray = ls at hl ⊢
  have hl : lv_has ls 3 [(0, .ref o), (1, .int a1), (2, .int a2)] := hl
  unfold fm_queue at hf
  refine lv_aload_n hx hb dX6_queue_0 rfl (lv_at hl 0 rfl) ?_
  refine lv_iconst (v := (0 : Int32)) hx hb dX6_queue_1 (by decide) ?_
  obtain ⟨x1, t2, e3, hf⟩ := tw_bdE hf
  refine tw_iput (k := 0) C hP hS (by decide) rfl e3 q1376 dX6_queue_2 (fun H locs hP hS => ?_)
  refine lv_aload_n hx hb dX6_queue_5 rfl (lv_at hl 0 rfl) ?_
  refine lv_iload_n hx hb dX6_queue_6 rfl (lv_at hl 1 rfl) ?_
  obtain ⟨x4, t5, e6, hf⟩ := tw_bdE hf
  refine tw_cVi (As := [.int a1]) (rest := []) C hml hP hS (mm_isLink (l := l) (X := X) (D := D) (dA := dA) hD _ _ _ _ e6) (cwV 1 hts (lw_V q1739 q1741 qs81 q106 q1742) rfl rfl rfl hdX6_isLink ⟨Nat.le_of_ble_eq_true rfl, Nat.le_of_ble_eq_true rfl⟩) rfl hl.1 rfl (Nat.le_of_ble_eq_true rfl) dX6_queue_7 (fun H locs hP hS => ?_)
  have k39 : ∀ (w39_0 : Int32) (t7 : TS) (H : Heap) (locs : List Loc) (ls : Array Slot), tw_P D dA o ad t7 H → va_S A s.heap H locs → lv_has ls 3 [] → fm_queue_J39 w39_0 t7 = some (r, tZ) → W p l e (headSpec (ws_ yX6_queue cX6_queue 3 (some .int)) ({ frames := 3, cells := 0, slots := 0, locals := 53 })).room s m ([.ref o, .int a1, .int a2] : List Value).toArray below meth c H locs 0 0 (MQ below (tw_Qi D dA o ad A r tZ) ([.ref o, .int a1, .int a2] : List Value).toArray s 0 0 A) (F0 m 39 ls [.int w39_0]) := by
    intro w39_0 t7 H locs ls hP hS hl hf
    unfold fm_queue_J39 at hf
    exact tw_ireti (tw_rtE hf).1 (tw_rtE hf).2 C hr hP hS hlk dX6_queue_39
  have k38 : ∀  (t8 : TS) (H : Heap) (locs : List Loc) (ls : Array Slot), tw_P D dA o ad t8 H → va_S A s.heap H locs → lv_has ls 3 [] → fm_queue_J38  t8 = some (r, tZ) → W p l e (headSpec (ws_ yX6_queue cX6_queue 3 (some .int)) ({ frames := 3, cells := 0, slots := 0, locals := 53 })).room s m ([.ref o, .int a1, .int a2] : List Value).toArray below meth c H locs 0 0 (MQ below (tw_Qi D dA o ad A r tZ) ([.ref o, .int a1, .int a2] : List Value).toArray s 0 0 A) (F0 m 38 ls []) := by
    intro t8 H locs ls hP hS hl hf
    unfold fm_queue_J38 at hf
    refine lv_iconst (v := (-1 : Int32)) hx hb dX6_queue_38 (by decide) ?_
    exact k39 _ _ _ _ _ hP hS (lv_sub hl [] rfl) hf
  refine lv_if_eq (tgt := 38) hx hb dX6_queue_10 (by decide) (fun hc => ?_) (fun hc => ?_)
  · have hf := tw_ifT hc hf
    exact k38 _ _ _ _ hP hS (lv_sub hl [] rfl) hf
  · have hf := tw_ifF hc hf
    refine lv_aload_n hx hb dX6_queue_13 rfl (lv_at hl 0 rfl) ?_
    refine lv_iload_n hx hb dX6_queue_14 rfl (lv_at hl 2 rfl) ?_
    obtain ⟨x9, t10, e11, hf⟩ := tw_bdE hf
    refine tw_cVi (As := [.int a2]) (rest := []) C hml hP hS (mm_isFlow (l := l) (X := X) (D := D) (dA := dA) hD _ _ _ _ e11) (cwV 1 hts (lw_V q1727 q1729 qs80 q106 q1730) rfl rfl rfl hdX6_isFlow ⟨Nat.le_of_ble_eq_true rfl, Nat.le_of_ble_eq_true rfl⟩) rfl hl.1 rfl (Nat.le_of_ble_eq_true rfl) dX6_queue_15 (fun H locs hP hS => ?_)
    refine lv_if_eq (tgt := 38) hx hb dX6_queue_18 (by decide) (fun hc => ?_) (fun hc => ?_)
    · have hf := tw_ifT hc hf
      exact k38 _ _ _ _ hP hS (lv_sub hl [] rfl) hf
    · have hf := tw_ifF hc hf
      refine lv_aload_n hx hb dX6_queue_21 rfl (lv_at hl 0 rfl) ?_
      refine tw_aget (k := 26) C hP (by decide) (by decide) q1402 dX6_queue_22 ?_
      refine lv_bipush (v := (24 : Int32)) hx hb dX6_queue_25 (by decide) ?_
      refine lv_iload_n hx hb dX6_queue_27 rfl (lv_at hl 1 rfl) ?_
      refine lv_imul hx hb dX6_queue_28 ?_
      refine lv_bipush (v := (15 : Int32)) hx hb dX6_queue_29 (by decide) ?_
      refine lv_iadd hx hb dX6_queue_31 ?_
      refine lv_iload_n hx hb dX6_queue_32 rfl (lv_at hl 2 rfl) ?_
      refine lv_iadd hx hb dX6_queue_33 ?_
      obtain ⟨x12, t13, e14, hf⟩ := tw_bdE hf
      refine tw_iald C hP e14 dX6_queue_34 (fun hP => ?_)
      refine lv_goto (tgt := 39) hx hb dX6_queue_35 (by decide) ?_
      exact k39 _ _ _ _ _ hP hS (lv_sub hl [] rfl) hf
def fm_flow_J23   : TM Int32 :=
  tw_rt (-1 : Int32)
def fm_flow_J91  (w91_0 : Int32) : TM Int32 :=
  tw_rt w91_0
def fm_flow (a1 : Int32) (a2 : Int32) : TM Int32 :=
  tw_bd (tw_pi 0 (0 : Int32)) fun _ =>
  tw_bd (fm_isFlow a1) fun x4 =>
  if x4 = 0 then (fm_flow_J23)
  else (if a2 < 0 then (fm_flow_J23)
  else (if a2 ≤ (11 : Int32) then (if (9 : Int32) ≤ a2 then (if a2 = (9 : Int32) then ( tw_bd (tw_ld 14 a1) fun x21 =>
 
  fm_flow_J91 x21)
  else (if a2 = (10 : Int32) then ( tw_bd (fm_flowAt a1) fun x15 =>
  tw_bd (tw_ld 26 (x15 + (9 : Int32))) fun x18 =>
 
  fm_flow_J91 x18)
  else ( tw_bd (fm_flowAt a1) fun x9 =>
  tw_bd (tw_ld 26 (x9 + (10 : Int32))) fun x12 =>
 
  fm_flow_J91 x12)))
  else ( tw_bd (fm_flowAt a1) fun x24 =>
  tw_bd (tw_ld 26 (x24 + a2)) fun x27 =>
  tw_rt x27))
  else (fm_flow_J23)))
theorem hdX6_flow : yX6_flow.cls = "LosslessFabricModel" ∧ (yX6_flow.cls ≠ "java/lang/invoke/MethodHandle" ∧ yX6_flow.cls ≠ "java/lang/invoke/VarHandle" ∧ (parseMethodDescriptor yX6_flow.desc).map (fun d => d.parameters.length) = some 2) := by decide +kernel
set_option maxHeartbeats 4000000 in
theorem mm_flow {l : Launch} {X : (Nat → Nat) × (Nat → Nat) × Nat} {D : va_G} {dA : Nat → ClassId} {o : Nat} {ad : Nat → Nat} {A : Nat → Prop} (hD : tw_D o ad A) (a1 : Int32) (a2 : Int32) (t0 tZ : TS) (r : Int32) (hf : fm_flow a1 a2 t0 = some (r, tZ)) : Met l yX6_flow (ws_ yX6_flow cX6_flow 3 (some .int)) ({ frames := 3, cells := 0, slots := 0, locals := 53 }) (va_Pc [.ref o, .int a1, .int a2] (tw_W X A D dA o ad t0)) (tw_Qi D dA o ad A r tZ) 0 0 A := by
  refine Met.ofW (cc := cX6_flow) (maxL := 3) (ret := some .int) (by decide) rfl ?_
  intro p e s m args below meth c s₁ B hml hv
  obtain ⟨rfl, hP, hK, hX⟩ := hv
  have hx := B.exec
  have hb := B.bytes
  have hr := B.returns
  have hts := atoms_spec (ws := (ws_ yX6_flow cX6_flow 3 (some .int))) B.pre
  have hts : ∀ w ∈ lw_all, w.before _ s = true := fun w h => hts w (List.mem_cons_of_mem _ h)
  have hown : s.vm.findClass "LosslessFabricModel" = some m.cls := findClass_of_methodNamed B.named
  have hlk := B.notSynchronized
  have C : tw_C X p s m _ c cX6_flow D dA o ad A := ⟨hx, hb, hts, hown, hK, hD, hX⟩
  have hS : va_S A s.heap s.heap [] := va_S.rf
  have hl := lv_entry ([.ref o, .int a1, .int a2]) (n := 3) (Nat.le_of_ble_eq_true rfl)
  rw [lg_entry_eq]
  generalize (lg_sl ([.ref o, .int a1, .int a2]) ++ List.replicate (3 - (lg_sl ([.ref o, .int a1, .int a2])).length) Slot.unset).toArray = ls at hl ⊢
  have hl : lv_has ls 3 [(0, .ref o), (1, .int a1), (2, .int a2)] := hl
  unfold fm_flow at hf
  refine lv_aload_n hx hb dX6_flow_0 rfl (lv_at hl 0 rfl) ?_
  refine lv_iconst (v := (0 : Int32)) hx hb dX6_flow_1 (by decide) ?_
  obtain ⟨x1, t2, e3, hf⟩ := tw_bdE hf
  refine tw_iput (k := 0) C hP hS (by decide) rfl e3 q1376 dX6_flow_2 (fun H locs hP hS => ?_)
  refine lv_aload_n hx hb dX6_flow_5 rfl (lv_at hl 0 rfl) ?_
  refine lv_iload_n hx hb dX6_flow_6 rfl (lv_at hl 1 rfl) ?_
  obtain ⟨x4, t5, e6, hf⟩ := tw_bdE hf
  refine tw_cVi (As := [.int a1]) (rest := []) C hml hP hS (mm_isFlow (l := l) (X := X) (D := D) (dA := dA) hD _ _ _ _ e6) (cwV 1 hts (lw_V q1727 q1729 qs80 q106 q1730) rfl rfl rfl hdX6_isFlow ⟨Nat.le_of_ble_eq_true rfl, Nat.le_of_ble_eq_true rfl⟩) rfl hl.1 rfl (Nat.le_of_ble_eq_true rfl) dX6_flow_7 (fun H locs hP hS => ?_)
  have k23 : ∀  (t7 : TS) (H : Heap) (locs : List Loc) (ls : Array Slot), tw_P D dA o ad t7 H → va_S A s.heap H locs → lv_has ls 3 [] → fm_flow_J23  t7 = some (r, tZ) → W p l e (headSpec (ws_ yX6_flow cX6_flow 3 (some .int)) ({ frames := 3, cells := 0, slots := 0, locals := 53 })).room s m ([.ref o, .int a1, .int a2] : List Value).toArray below meth c H locs 0 0 (MQ below (tw_Qi D dA o ad A r tZ) ([.ref o, .int a1, .int a2] : List Value).toArray s 0 0 A) (F0 m 23 ls []) := by
    intro t7 H locs ls hP hS hl hf
    unfold fm_flow_J23 at hf
    refine lv_iconst (v := (-1 : Int32)) hx hb dX6_flow_23 (by decide) ?_
    exact tw_ireti (tw_rtE hf).1 (tw_rtE hf).2 C hr hP hS hlk dX6_flow_24
  refine lv_if_eq (tgt := 23) hx hb dX6_flow_10 (by decide) (fun hc => ?_) (fun hc => ?_)
  · have hf := tw_ifT hc hf
    exact k23 _ _ _ _ hP hS (lv_sub hl [] rfl) hf
  · have hf := tw_ifF hc hf
    refine lv_iload_n hx hb dX6_flow_13 rfl (lv_at hl 2 rfl) ?_
    refine lv_if_lt (tgt := 23) hx hb dX6_flow_14 (by decide) (fun hc => ?_) (fun hc => ?_)
    · have hf := tw_ifT hc hf
      exact k23 _ _ _ _ hP hS (lv_sub hl [] rfl) hf
    · have hf := tw_ifF hc hf
      refine lv_iload_n hx hb dX6_flow_17 rfl (lv_at hl 2 rfl) ?_
      refine lv_bipush (v := (11 : Int32)) hx hb dX6_flow_18 (by decide) ?_
      refine lv_icmp_le (tgt := 25) hx hb dX6_flow_20 (by decide) (fun hc => ?_) (fun hc => ?_)
      · have hf := tw_ifT hc hf
        refine lv_iload_n hx hb dX6_flow_25 rfl (lv_at hl 2 rfl) ?_
        refine lv_bipush (v := (9 : Int32)) hx hb dX6_flow_26 (by decide) ?_
        refine lv_icmp_ge (tgt := 43) hx hb dX6_flow_28 (by decide) (fun hc => ?_) (fun hc => ?_)
        · have hf := tw_ifT hc hf
          refine lv_iload_n hx hb dX6_flow_43 rfl (lv_at hl 2 rfl) ?_
          refine lv_bipush (v := (9 : Int32)) hx hb dX6_flow_44 (by decide) ?_
          have k91 : ∀ (w91_0 : Int32) (t8 : TS) (H : Heap) (locs : List Loc) (ls : Array Slot), tw_P D dA o ad t8 H → va_S A s.heap H locs → lv_has ls 3 [] → fm_flow_J91 w91_0 t8 = some (r, tZ) → W p l e (headSpec (ws_ yX6_flow cX6_flow 3 (some .int)) ({ frames := 3, cells := 0, slots := 0, locals := 53 })).room s m ([.ref o, .int a1, .int a2] : List Value).toArray below meth c H locs 0 0 (MQ below (tw_Qi D dA o ad A r tZ) ([.ref o, .int a1, .int a2] : List Value).toArray s 0 0 A) (F0 m 91 ls [.int w91_0]) := by
            intro w91_0 t8 H locs ls hP hS hl hf
            unfold fm_flow_J91 at hf
            exact tw_ireti (tw_rtE hf).1 (tw_rtE hf).2 C hr hP hS hlk dX6_flow_91
          refine lv_icmp_ne (tgt := 58) hx hb dX6_flow_46 (by decide) (fun hc => ?_) (fun hc => ?_)
          · have hf := tw_ifF hc hf
            refine lv_iload_n hx hb dX6_flow_58 rfl (lv_at hl 2 rfl) ?_
            refine lv_bipush (v := (10 : Int32)) hx hb dX6_flow_59 (by decide) ?_
            refine lv_icmp_ne (tgt := 79) hx hb dX6_flow_61 (by decide) (fun hc => ?_) (fun hc => ?_)
            · have hf := tw_ifF hc hf
              refine lv_aload_n hx hb dX6_flow_79 rfl (lv_at hl 0 rfl) ?_
              refine tw_aget (k := 26) C hP (by decide) (by decide) q1402 dX6_flow_80 ?_
              refine lv_iload_n hx hb dX6_flow_83 rfl (lv_at hl 1 rfl) ?_
              obtain ⟨x9, t10, e11, hf⟩ := tw_bdE hf
              refine tw_cSi (As := [.int a1]) (rest := [.ref (ad 26)]) C hml hP hS (mm_flowAt (l := l) (X := X) (D := D) (dA := dA) hD _ _ _ _ e11) (va_cwS 1 hts (lw_S q1661 q1662 q106 q1663) rfl rfl rfl hdX6_flowAt ⟨Nat.le_of_ble_eq_true rfl, Nat.le_of_ble_eq_true rfl⟩) rfl hl.1 rfl (Nat.le_of_ble_eq_true rfl) dX6_flow_84 (fun H locs hP hS => ?_)
              refine lv_bipush (v := (10 : Int32)) hx hb dX6_flow_87 (by decide) ?_
              refine lv_iadd hx hb dX6_flow_89 ?_
              obtain ⟨x12, t13, e14, hf⟩ := tw_bdE hf
              refine tw_iald C hP e14 dX6_flow_90 (fun hP => ?_)
              exact k91 _ _ _ _ _ hP hS (lv_sub hl [] rfl) hf
            · have hf := tw_ifT hc hf
              refine lv_aload_n hx hb dX6_flow_64 rfl (lv_at hl 0 rfl) ?_
              refine tw_aget (k := 26) C hP (by decide) (by decide) q1402 dX6_flow_65 ?_
              refine lv_iload_n hx hb dX6_flow_68 rfl (lv_at hl 1 rfl) ?_
              obtain ⟨x15, t16, e17, hf⟩ := tw_bdE hf
              refine tw_cSi (As := [.int a1]) (rest := [.ref (ad 26)]) C hml hP hS (mm_flowAt (l := l) (X := X) (D := D) (dA := dA) hD _ _ _ _ e17) (va_cwS 1 hts (lw_S q1661 q1662 q106 q1663) rfl rfl rfl hdX6_flowAt ⟨Nat.le_of_ble_eq_true rfl, Nat.le_of_ble_eq_true rfl⟩) rfl hl.1 rfl (Nat.le_of_ble_eq_true rfl) dX6_flow_69 (fun H locs hP hS => ?_)
              refine lv_bipush (v := (9 : Int32)) hx hb dX6_flow_72 (by decide) ?_
              refine lv_iadd hx hb dX6_flow_74 ?_
              obtain ⟨x18, t19, e20, hf⟩ := tw_bdE hf
              refine tw_iald C hP e20 dX6_flow_75 (fun hP => ?_)
              refine lv_goto (tgt := 91) hx hb dX6_flow_76 (by decide) ?_
              exact k91 _ _ _ _ _ hP hS (lv_sub hl [] rfl) hf
          · have hf := tw_ifT hc hf
            refine lv_aload_n hx hb dX6_flow_49 rfl (lv_at hl 0 rfl) ?_
            refine tw_aget (k := 14) C hP (by decide) (by decide) q1390 dX6_flow_50 ?_
            refine lv_iload_n hx hb dX6_flow_53 rfl (lv_at hl 1 rfl) ?_
            obtain ⟨x21, t22, e23, hf⟩ := tw_bdE hf
            refine tw_iald C hP e23 dX6_flow_54 (fun hP => ?_)
            refine lv_goto (tgt := 91) hx hb dX6_flow_55 (by decide) ?_
            exact k91 _ _ _ _ _ hP hS (lv_sub hl [] rfl) hf
        · have hf := tw_ifF hc hf
          refine lv_aload_n hx hb dX6_flow_31 rfl (lv_at hl 0 rfl) ?_
          refine tw_aget (k := 26) C hP (by decide) (by decide) q1402 dX6_flow_32 ?_
          refine lv_iload_n hx hb dX6_flow_35 rfl (lv_at hl 1 rfl) ?_
          obtain ⟨x24, t25, e26, hf⟩ := tw_bdE hf
          refine tw_cSi (As := [.int a1]) (rest := [.ref (ad 26)]) C hml hP hS (mm_flowAt (l := l) (X := X) (D := D) (dA := dA) hD _ _ _ _ e26) (va_cwS 1 hts (lw_S q1661 q1662 q106 q1663) rfl rfl rfl hdX6_flowAt ⟨Nat.le_of_ble_eq_true rfl, Nat.le_of_ble_eq_true rfl⟩) rfl hl.1 rfl (Nat.le_of_ble_eq_true rfl) dX6_flow_36 (fun H locs hP hS => ?_)
          refine lv_iload_n hx hb dX6_flow_39 rfl (lv_at hl 2 rfl) ?_
          refine lv_iadd hx hb dX6_flow_40 ?_
          obtain ⟨x27, t28, e29, hf⟩ := tw_bdE hf
          refine tw_iald C hP e29 dX6_flow_41 (fun hP => ?_)
          exact tw_ireti (tw_rtE hf).1 (tw_rtE hf).2 C hr hP hS hlk dX6_flow_42
      · have hf := tw_ifF hc hf
        exact k23 _ _ _ _ hP hS (lv_sub hl [] rfl) hf
def fm_path_J41  (w41_0 : Int32) : TM Int32 :=
  tw_rt w41_0
def fm_path_J40   : TM Int32 :=
  fm_path_J41 (-1 : Int32)
def fm_path (a1 : Int32) (a2 : Int32) : TM Int32 :=
  tw_bd (tw_pi 0 (0 : Int32)) fun _ =>
  tw_bd (fm_isFlow a1) fun x4 =>
  if x4 = 0 then (fm_path_J40)
  else (if a2 < 0 then (fm_path_J40)
  else ( tw_bd (tw_ld 14 a1) fun x9 =>
  if x9 ≤ a2 then (fm_path_J40)
  else ( tw_bd (tw_ld 15 (((5 : Int32) * a1) + a2)) fun x12 =>
 
  fm_path_J41 x12)))
theorem hdX6_path : yX6_path.cls = "LosslessFabricModel" ∧ (yX6_path.cls ≠ "java/lang/invoke/MethodHandle" ∧ yX6_path.cls ≠ "java/lang/invoke/VarHandle" ∧ (parseMethodDescriptor yX6_path.desc).map (fun d => d.parameters.length) = some 2) := by decide +kernel
set_option maxHeartbeats 4000000 in
theorem mm_path {l : Launch} {X : (Nat → Nat) × (Nat → Nat) × Nat} {D : va_G} {dA : Nat → ClassId} {o : Nat} {ad : Nat → Nat} {A : Nat → Prop} (hD : tw_D o ad A) (a1 : Int32) (a2 : Int32) (t0 tZ : TS) (r : Int32) (hf : fm_path a1 a2 t0 = some (r, tZ)) : Met l yX6_path (ws_ yX6_path cX6_path 3 (some .int)) ({ frames := 3, cells := 0, slots := 0, locals := 53 }) (va_Pc [.ref o, .int a1, .int a2] (tw_W X A D dA o ad t0)) (tw_Qi D dA o ad A r tZ) 0 0 A := by
  refine Met.ofW (cc := cX6_path) (maxL := 3) (ret := some .int) (by decide) rfl ?_
  intro p e s m args below meth c s₁ B hml hv
  obtain ⟨rfl, hP, hK, hX⟩ := hv
  have hx := B.exec
  have hb := B.bytes
  have hr := B.returns
  have hts := atoms_spec (ws := (ws_ yX6_path cX6_path 3 (some .int))) B.pre
  have hts : ∀ w ∈ lw_all, w.before _ s = true := fun w h => hts w (List.mem_cons_of_mem _ h)
  have hown : s.vm.findClass "LosslessFabricModel" = some m.cls := findClass_of_methodNamed B.named
  have hlk := B.notSynchronized
  have C : tw_C X p s m _ c cX6_path D dA o ad A := ⟨hx, hb, hts, hown, hK, hD, hX⟩
  have hS : va_S A s.heap s.heap [] := va_S.rf
  have hl := lv_entry ([.ref o, .int a1, .int a2]) (n := 3) (Nat.le_of_ble_eq_true rfl)
  rw [lg_entry_eq]
  generalize (lg_sl ([.ref o, .int a1, .int a2]) ++ List.replicate (3 - (lg_sl ([.ref o, .int a1, .int a2])).length) Slot.unset).toArray = ls at hl ⊢
  have hl : lv_has ls 3 [(0, .ref o), (1, .int a1), (2, .int a2)] := hl
  unfold fm_path at hf
  refine lv_aload_n hx hb dX6_path_0 rfl (lv_at hl 0 rfl) ?_
  refine lv_iconst (v := (0 : Int32)) hx hb dX6_path_1 (by decide) ?_
  obtain ⟨x1, t2, e3, hf⟩ := tw_bdE hf
  refine tw_iput (k := 0) C hP hS (by decide) rfl e3 q1376 dX6_path_2 (fun H locs hP hS => ?_)
  refine lv_aload_n hx hb dX6_path_5 rfl (lv_at hl 0 rfl) ?_
  refine lv_iload_n hx hb dX6_path_6 rfl (lv_at hl 1 rfl) ?_
  obtain ⟨x4, t5, e6, hf⟩ := tw_bdE hf
  refine tw_cVi (As := [.int a1]) (rest := []) C hml hP hS (mm_isFlow (l := l) (X := X) (D := D) (dA := dA) hD _ _ _ _ e6) (cwV 1 hts (lw_V q1727 q1729 qs80 q106 q1730) rfl rfl rfl hdX6_isFlow ⟨Nat.le_of_ble_eq_true rfl, Nat.le_of_ble_eq_true rfl⟩) rfl hl.1 rfl (Nat.le_of_ble_eq_true rfl) dX6_path_7 (fun H locs hP hS => ?_)
  have k41 : ∀ (w41_0 : Int32) (t7 : TS) (H : Heap) (locs : List Loc) (ls : Array Slot), tw_P D dA o ad t7 H → va_S A s.heap H locs → lv_has ls 3 [] → fm_path_J41 w41_0 t7 = some (r, tZ) → W p l e (headSpec (ws_ yX6_path cX6_path 3 (some .int)) ({ frames := 3, cells := 0, slots := 0, locals := 53 })).room s m ([.ref o, .int a1, .int a2] : List Value).toArray below meth c H locs 0 0 (MQ below (tw_Qi D dA o ad A r tZ) ([.ref o, .int a1, .int a2] : List Value).toArray s 0 0 A) (F0 m 41 ls [.int w41_0]) := by
    intro w41_0 t7 H locs ls hP hS hl hf
    unfold fm_path_J41 at hf
    exact tw_ireti (tw_rtE hf).1 (tw_rtE hf).2 C hr hP hS hlk dX6_path_41
  have k40 : ∀  (t8 : TS) (H : Heap) (locs : List Loc) (ls : Array Slot), tw_P D dA o ad t8 H → va_S A s.heap H locs → lv_has ls 3 [] → fm_path_J40  t8 = some (r, tZ) → W p l e (headSpec (ws_ yX6_path cX6_path 3 (some .int)) ({ frames := 3, cells := 0, slots := 0, locals := 53 })).room s m ([.ref o, .int a1, .int a2] : List Value).toArray below meth c H locs 0 0 (MQ below (tw_Qi D dA o ad A r tZ) ([.ref o, .int a1, .int a2] : List Value).toArray s 0 0 A) (F0 m 40 ls []) := by
    intro t8 H locs ls hP hS hl hf
    unfold fm_path_J40 at hf
    refine lv_iconst (v := (-1 : Int32)) hx hb dX6_path_40 (by decide) ?_
    exact k41 _ _ _ _ _ hP hS (lv_sub hl [] rfl) hf
  refine lv_if_eq (tgt := 40) hx hb dX6_path_10 (by decide) (fun hc => ?_) (fun hc => ?_)
  · have hf := tw_ifT hc hf
    exact k40 _ _ _ _ hP hS (lv_sub hl [] rfl) hf
  · have hf := tw_ifF hc hf
    refine lv_iload_n hx hb dX6_path_13 rfl (lv_at hl 2 rfl) ?_
    refine lv_if_lt (tgt := 40) hx hb dX6_path_14 (by decide) (fun hc => ?_) (fun hc => ?_)
    · have hf := tw_ifT hc hf
      exact k40 _ _ _ _ hP hS (lv_sub hl [] rfl) hf
    · have hf := tw_ifF hc hf
      refine lv_iload_n hx hb dX6_path_17 rfl (lv_at hl 2 rfl) ?_
      refine lv_aload_n hx hb dX6_path_18 rfl (lv_at hl 0 rfl) ?_
      refine tw_aget (k := 14) C hP (by decide) (by decide) q1390 dX6_path_19 ?_
      refine lv_iload_n hx hb dX6_path_22 rfl (lv_at hl 1 rfl) ?_
      obtain ⟨x9, t10, e11, hf⟩ := tw_bdE hf
      refine tw_iald C hP e11 dX6_path_23 (fun hP => ?_)
      refine lv_icmp_ge (tgt := 40) hx hb dX6_path_24 (by decide) (fun hc => ?_) (fun hc => ?_)
      · have hf := tw_ifT hc hf
        exact k40 _ _ _ _ hP hS (lv_sub hl [] rfl) hf
      · have hf := tw_ifF hc hf
        refine lv_aload_n hx hb dX6_path_27 rfl (lv_at hl 0 rfl) ?_
        refine tw_aget (k := 15) C hP (by decide) (by decide) q1391 dX6_path_28 ?_
        refine lv_iconst (v := (5 : Int32)) hx hb dX6_path_31 (by decide) ?_
        refine lv_iload_n hx hb dX6_path_32 rfl (lv_at hl 1 rfl) ?_
        refine lv_imul hx hb dX6_path_33 ?_
        refine lv_iload_n hx hb dX6_path_34 rfl (lv_at hl 2 rfl) ?_
        refine lv_iadd hx hb dX6_path_35 ?_
        obtain ⟨x12, t13, e14, hf⟩ := tw_bdE hf
        refine tw_iald C hP e14 dX6_path_36 (fun hP => ?_)
        refine lv_goto (tgt := 41) hx hb dX6_path_37 (by decide) ?_
        exact k41 _ _ _ _ _ hP hS (lv_sub hl [] rfl) hf
def fm_feedback_J24  (w24_0 : Int32) : TM Int32 :=
  tw_rt w24_0
def fm_feedback (a1 : Int32) : TM Int32 :=
  tw_bd (tw_pi 0 (0 : Int32)) fun _ =>
  tw_bd (fm_isLink a1) fun x4 =>
  if x4 = 0 then (fm_feedback_J24 (-2147483648 : Int32))
  else (tw_bd (fm_feedbackOf a1) fun x8 =>
 
  fm_feedback_J24 x8)
theorem hdX6_feedback : yX6_feedback.cls = "LosslessFabricModel" ∧ (yX6_feedback.cls ≠ "java/lang/invoke/MethodHandle" ∧ yX6_feedback.cls ≠ "java/lang/invoke/VarHandle" ∧ (parseMethodDescriptor yX6_feedback.desc).map (fun d => d.parameters.length) = some 1) := by decide +kernel
set_option maxHeartbeats 4000000 in
theorem mm_feedback {l : Launch} {X : (Nat → Nat) × (Nat → Nat) × Nat} {D : va_G} {dA : Nat → ClassId} {o : Nat} {ad : Nat → Nat} {A : Nat → Prop} (hD : tw_D o ad A) (a1 : Int32) (t0 tZ : TS) (r : Int32) (hf : fm_feedback a1 t0 = some (r, tZ)) : Met l yX6_feedback (ws_ yX6_feedback cX6_feedback 2 (some .int)) ({ frames := 3, cells := 0, slots := 0, locals := 57 }) (va_Pc [.ref o, .int a1] (tw_W X A D dA o ad t0)) (tw_Qi D dA o ad A r tZ) 0 0 A := by
  refine Met.ofW (cc := cX6_feedback) (maxL := 2) (ret := some .int) (by decide) rfl ?_
  intro p e s m args below meth c s₁ B hml hv
  obtain ⟨rfl, hP, hK, hX⟩ := hv
  have hx := B.exec
  have hb := B.bytes
  have hr := B.returns
  have hts := atoms_spec (ws := (ws_ yX6_feedback cX6_feedback 2 (some .int))) B.pre
  have hts : ∀ w ∈ lw_all, w.before _ s = true := fun w h => hts w (List.mem_cons_of_mem _ h)
  have hown : s.vm.findClass "LosslessFabricModel" = some m.cls := findClass_of_methodNamed B.named
  have hlk := B.notSynchronized
  have C : tw_C X p s m _ c cX6_feedback D dA o ad A := ⟨hx, hb, hts, hown, hK, hD, hX⟩
  have hS : va_S A s.heap s.heap [] := va_S.rf
  have hl := lv_entry ([.ref o, .int a1]) (n := 2) (Nat.le_of_ble_eq_true rfl)
  rw [lg_entry_eq]
  generalize (lg_sl ([.ref o, .int a1]) ++ List.replicate (2 - (lg_sl ([.ref o, .int a1])).length) Slot.unset).toArray = ls at hl ⊢
  have hl : lv_has ls 2 [(0, .ref o), (1, .int a1)] := hl
  unfold fm_feedback at hf
  refine lv_aload_n hx hb dX6_feedback_0 rfl (lv_at hl 0 rfl) ?_
  refine lv_iconst (v := (0 : Int32)) hx hb dX6_feedback_1 (by decide) ?_
  obtain ⟨x1, t2, e3, hf⟩ := tw_bdE hf
  refine tw_iput (k := 0) C hP hS (by decide) rfl e3 q1376 dX6_feedback_2 (fun H locs hP hS => ?_)
  refine lv_aload_n hx hb dX6_feedback_5 rfl (lv_at hl 0 rfl) ?_
  refine lv_iload_n hx hb dX6_feedback_6 rfl (lv_at hl 1 rfl) ?_
  obtain ⟨x4, t5, e6, hf⟩ := tw_bdE hf
  refine tw_cVi (As := [.int a1]) (rest := []) C hml hP hS (mm_isLink (l := l) (X := X) (D := D) (dA := dA) hD _ _ _ _ e6) (cwV 1 hts (lw_V q1739 q1741 qs81 q106 q1742) rfl rfl rfl hdX6_isLink ⟨Nat.le_of_ble_eq_true rfl, Nat.le_of_ble_eq_true rfl⟩) rfl hl.1 rfl (Nat.le_of_ble_eq_true rfl) dX6_feedback_7 (fun H locs hP hS => ?_)
  have k24 : ∀ (w24_0 : Int32) (t7 : TS) (H : Heap) (locs : List Loc) (ls : Array Slot), tw_P D dA o ad t7 H → va_S A s.heap H locs → lv_has ls 2 [] → fm_feedback_J24 w24_0 t7 = some (r, tZ) → W p l e (headSpec (ws_ yX6_feedback cX6_feedback 2 (some .int)) ({ frames := 3, cells := 0, slots := 0, locals := 57 })).room s m ([.ref o, .int a1] : List Value).toArray below meth c H locs 0 0 (MQ below (tw_Qi D dA o ad A r tZ) ([.ref o, .int a1] : List Value).toArray s 0 0 A) (F0 m 24 ls [.int w24_0]) := by
    intro w24_0 t7 H locs ls hP hS hl hf
    unfold fm_feedback_J24 at hf
    exact tw_ireti (tw_rtE hf).1 (tw_rtE hf).2 C hr hP hS hlk dX6_feedback_24
  refine lv_if_eq (tgt := 21) hx hb dX6_feedback_10 (by decide) (fun hc => ?_) (fun hc => ?_)
  · have hf := tw_ifT hc hf
    refine lv_ldcw hx hb hown (hts _ q1767) dX6_feedback_21 ?_
    exact k24 _ _ _ _ _ hP hS (lv_sub hl [] rfl) hf
  · have hf := tw_ifF hc hf
    refine lv_aload_n hx hb dX6_feedback_13 rfl (lv_at hl 0 rfl) ?_
    refine lv_iload_n hx hb dX6_feedback_14 rfl (lv_at hl 1 rfl) ?_
    obtain ⟨x8, t9, e10, hf⟩ := tw_bdE hf
    refine tw_cVi (As := [.int a1]) (rest := []) C hml hP hS (mm_feedbackOf (l := l) (X := X) (D := D) (dA := dA) hD _ _ _ _ e10) (cwV 1 hts (lw_V q1703 q1705 qs75 q106 q1706) rfl rfl rfl hdX6_feedbackOf ⟨Nat.le_of_ble_eq_true rfl, Nat.le_of_ble_eq_true rfl⟩) rfl hl.1 rfl (Nat.le_of_ble_eq_true rfl) dX6_feedback_15 (fun H locs hP hS => ?_)
    refine lv_goto (tgt := 24) hx hb dX6_feedback_18 (by decide) ?_
    exact k24 _ _ _ _ _ hP hS (lv_sub hl [] rfl) hf
def fm_notice_J26  (w26_0 : Int32) : TM Int32 :=
  tw_rt w26_0
def fm_notice (a1 : Int32) : TM Int32 :=
  tw_bd (tw_pi 0 (0 : Int32)) fun _ =>
  tw_bd (fm_isLink a1) fun x4 =>
  if x4 = 0 then (fm_notice_J26 (-1 : Int32))
  else (tw_bd (fm_feedbackOf a1) fun x8 =>
  tw_bd (fm_noticeOf x8) fun x11 =>
 
  fm_notice_J26 x11)
theorem hdX6_notice : yX6_notice.cls = "LosslessFabricModel" ∧ (yX6_notice.cls ≠ "java/lang/invoke/MethodHandle" ∧ yX6_notice.cls ≠ "java/lang/invoke/VarHandle" ∧ (parseMethodDescriptor yX6_notice.desc).map (fun d => d.parameters.length) = some 1) := by decide +kernel
set_option maxHeartbeats 4000000 in
theorem mm_notice {l : Launch} {X : (Nat → Nat) × (Nat → Nat) × Nat} {D : va_G} {dA : Nat → ClassId} {o : Nat} {ad : Nat → Nat} {A : Nat → Prop} (hD : tw_D o ad A) (a1 : Int32) (t0 tZ : TS) (r : Int32) (hf : fm_notice a1 t0 = some (r, tZ)) : Met l yX6_notice (ws_ yX6_notice cX6_notice 2 (some .int)) ({ frames := 3, cells := 0, slots := 0, locals := 57 }) (va_Pc [.ref o, .int a1] (tw_W X A D dA o ad t0)) (tw_Qi D dA o ad A r tZ) 0 0 A := by
  refine Met.ofW (cc := cX6_notice) (maxL := 2) (ret := some .int) (by decide) rfl ?_
  intro p e s m args below meth c s₁ B hml hv
  obtain ⟨rfl, hP, hK, hX⟩ := hv
  have hx := B.exec
  have hb := B.bytes
  have hr := B.returns
  have hts := atoms_spec (ws := (ws_ yX6_notice cX6_notice 2 (some .int))) B.pre
  have hts : ∀ w ∈ lw_all, w.before _ s = true := fun w h => hts w (List.mem_cons_of_mem _ h)
  have hown : s.vm.findClass "LosslessFabricModel" = some m.cls := findClass_of_methodNamed B.named
  have hlk := B.notSynchronized
  have C : tw_C X p s m _ c cX6_notice D dA o ad A := ⟨hx, hb, hts, hown, hK, hD, hX⟩
  have hS : va_S A s.heap s.heap [] := va_S.rf
  have hl := lv_entry ([.ref o, .int a1]) (n := 2) (Nat.le_of_ble_eq_true rfl)
  rw [lg_entry_eq]
  generalize (lg_sl ([.ref o, .int a1]) ++ List.replicate (2 - (lg_sl ([.ref o, .int a1])).length) Slot.unset).toArray = ls at hl ⊢
  have hl : lv_has ls 2 [(0, .ref o), (1, .int a1)] := hl
  unfold fm_notice at hf
  refine lv_aload_n hx hb dX6_notice_0 rfl (lv_at hl 0 rfl) ?_
  refine lv_iconst (v := (0 : Int32)) hx hb dX6_notice_1 (by decide) ?_
  obtain ⟨x1, t2, e3, hf⟩ := tw_bdE hf
  refine tw_iput (k := 0) C hP hS (by decide) rfl e3 q1376 dX6_notice_2 (fun H locs hP hS => ?_)
  refine lv_aload_n hx hb dX6_notice_5 rfl (lv_at hl 0 rfl) ?_
  refine lv_iload_n hx hb dX6_notice_6 rfl (lv_at hl 1 rfl) ?_
  obtain ⟨x4, t5, e6, hf⟩ := tw_bdE hf
  refine tw_cVi (As := [.int a1]) (rest := []) C hml hP hS (mm_isLink (l := l) (X := X) (D := D) (dA := dA) hD _ _ _ _ e6) (cwV 1 hts (lw_V q1739 q1741 qs81 q106 q1742) rfl rfl rfl hdX6_isLink ⟨Nat.le_of_ble_eq_true rfl, Nat.le_of_ble_eq_true rfl⟩) rfl hl.1 rfl (Nat.le_of_ble_eq_true rfl) dX6_notice_7 (fun H locs hP hS => ?_)
  have k26 : ∀ (w26_0 : Int32) (t7 : TS) (H : Heap) (locs : List Loc) (ls : Array Slot), tw_P D dA o ad t7 H → va_S A s.heap H locs → lv_has ls 2 [] → fm_notice_J26 w26_0 t7 = some (r, tZ) → W p l e (headSpec (ws_ yX6_notice cX6_notice 2 (some .int)) ({ frames := 3, cells := 0, slots := 0, locals := 57 })).room s m ([.ref o, .int a1] : List Value).toArray below meth c H locs 0 0 (MQ below (tw_Qi D dA o ad A r tZ) ([.ref o, .int a1] : List Value).toArray s 0 0 A) (F0 m 26 ls [.int w26_0]) := by
    intro w26_0 t7 H locs ls hP hS hl hf
    unfold fm_notice_J26 at hf
    exact tw_ireti (tw_rtE hf).1 (tw_rtE hf).2 C hr hP hS hlk dX6_notice_26
  refine lv_if_eq (tgt := 25) hx hb dX6_notice_10 (by decide) (fun hc => ?_) (fun hc => ?_)
  · have hf := tw_ifT hc hf
    refine lv_iconst (v := (-1 : Int32)) hx hb dX6_notice_25 (by decide) ?_
    exact k26 _ _ _ _ _ hP hS (lv_sub hl [] rfl) hf
  · have hf := tw_ifF hc hf
    refine lv_aload_n hx hb dX6_notice_13 rfl (lv_at hl 0 rfl) ?_
    refine lv_aload_n hx hb dX6_notice_14 rfl (lv_at hl 0 rfl) ?_
    refine lv_iload_n hx hb dX6_notice_15 rfl (lv_at hl 1 rfl) ?_
    obtain ⟨x8, t9, e10, hf⟩ := tw_bdE hf
    refine tw_cVi (As := [.int a1]) (rest := [.ref o]) C hml hP hS (mm_feedbackOf (l := l) (X := X) (D := D) (dA := dA) hD _ _ _ _ e10) (cwV 1 hts (lw_V q1703 q1705 qs75 q106 q1706) rfl rfl rfl hdX6_feedbackOf ⟨Nat.le_of_ble_eq_true rfl, Nat.le_of_ble_eq_true rfl⟩) rfl hl.1 rfl (Nat.le_of_ble_eq_true rfl) dX6_notice_16 (fun H locs hP hS => ?_)
    obtain ⟨x11, t12, e13, hf⟩ := tw_bdE hf
    refine tw_cVi (As := [.int x8]) (rest := []) C hml hP hS (mm_noticeOf (l := l) (X := X) (D := D) (dA := dA) hD _ _ _ _ e13) (cwV 1 hts (lw_V q1707 q1709 qs76 q106 q1710) rfl rfl rfl hdX6_noticeOf ⟨Nat.le_of_ble_eq_true rfl, Nat.le_of_ble_eq_true rfl⟩) rfl hl.1 rfl (Nat.le_of_ble_eq_true rfl) dX6_notice_19 (fun H locs hP hS => ?_)
    refine lv_goto (tgt := 26) hx hb dX6_notice_22 (by decide) ?_
    exact k26 _ _ _ _ _ hP hS (lv_sub hl [] rfl) hf