def fm_askedMany_J26 (sf4 : Int32 → Int32 → TM Int32) (v4_1 : Int32) (v4_2 : Int32) (w26_0 : Int32) : TM Int32 :=
  sf4 (v4_1 + w26_0) (v4_2 + (1 : Int32))
def fm_askedMany_L4  (sf4 : Int32 → Int32 → TM Int32) (v4_1 : Int32) (v4_2 : Int32) : TM Int32 :=
  tw_bd (fm_links) fun x2 =>
  if x2 ≤ v4_2 then (tw_rt v4_1)
  else (tw_bd (fm_asked v4_2) fun x5 =>
  if x5 = 0 then (fm_askedMany_J26 sf4 v4_1 v4_2 (0 : Int32))
  else (fm_askedMany_J26 sf4 v4_1 v4_2 (1 : Int32)))
def fm_askedMany  : TM Int32 :=
  tw_lp (fm_askedMany_L4) (fun _ _ _ => none) tw_fu (0 : Int32) (0 : Int32)
theorem hdX6_askedMany : yX6_askedMany.cls = "LosslessFabricModel" ∧ (yX6_askedMany.cls ≠ "java/lang/invoke/MethodHandle" ∧ yX6_askedMany.cls ≠ "java/lang/invoke/VarHandle" ∧ (parseMethodDescriptor yX6_askedMany.desc).map (fun d => d.parameters.length) = some 0) := by decide +kernel
set_option maxHeartbeats 4000000 in
theorem mm_askedMany {l : Launch} {X : (Nat → Nat) × (Nat → Nat) × Nat} {D : va_G} {dA : Nat → ClassId} {o : Nat} {ad : Nat → Nat} {A : Nat → Prop} (hD : tw_D o ad A)  (t0 tZ : TS) (r : Int32) (hf : fm_askedMany  t0 = some (r, tZ)) : Met l yX6_askedMany (ws_ yX6_askedMany cX6_askedMany 3 (some .int)) ({ frames := 2, cells := 0, slots := 0, locals := 33 }) (va_Pc [.ref o] (tw_W X A D dA o ad t0)) (tw_Qi D dA o ad A r tZ) 0 0 A := by
  refine Met.ofW (cc := cX6_askedMany) (maxL := 3) (ret := some .int) (by decide) rfl ?_
  intro p e s m args below meth c s₁ B hml hv
  obtain ⟨rfl, hP, hK, hX⟩ := hv
  have hx := B.exec
  have hb := B.bytes
  have hr := B.returns
  have hts := atoms_spec (ws := (ws_ yX6_askedMany cX6_askedMany 3 (some .int))) B.pre
  have hts : ∀ w ∈ lw_all, w.before _ s = true := fun w h => hts w (List.mem_cons_of_mem _ h)
  have hown : s.vm.findClass "LosslessFabricModel" = some m.cls := findClass_of_methodNamed B.named
  have hlk := B.notSynchronized
  have C : tw_C X p s m _ c cX6_askedMany D dA o ad A := ⟨hx, hb, hts, hown, hK, hD, hX⟩
  have hS : va_S A s.heap s.heap [] := va_S.rf
  have hl := lv_entry ([.ref o]) (n := 3) (Nat.le_of_ble_eq_true rfl)
  rw [lg_entry_eq]
  generalize (lg_sl ([.ref o]) ++ List.replicate (3 - (lg_sl ([.ref o])).length) Slot.unset).toArray = ls at hl ⊢
  have hl : lv_has ls 3 [(0, .ref o)] := hl
  unfold fm_askedMany at hf
  refine lv_iconst (v := (0 : Int32)) hx hb dX6_askedMany_0 (by decide) ?_
  refine lv_istore_n (lv' := [(1, .int (0 : Int32)), (0, .ref o)]) hx hb dX6_askedMany_1 rfl hl (by decide) rfl (fun ls hl => ?_)
  refine lv_iconst (v := (0 : Int32)) hx hb dX6_askedMany_2 (by decide) ?_
  refine lv_istore_n (lv' := [(2, .int (0 : Int32)), (1, .int (0 : Int32)), (0, .ref o)]) hx hb dX6_askedMany_3 rfl hl (by decide) rfl (fun ls hl => ?_)
  have k4 : ∀ (n : Nat) (v4_1 : Int32) (v4_2 : Int32) (t1 : TS) (H : Heap) (locs : List Loc) (ls : Array Slot), tw_P D dA o ad t1 H → va_S A s.heap H locs → lv_has ls 3 [(0, .ref o), (1, .int v4_1), (2, .int v4_2)] → tw_lp (fm_askedMany_L4) (fun _ _ _ => none) n v4_1 v4_2 t1 = some (r, tZ) → W p l e (headSpec (ws_ yX6_askedMany cX6_askedMany 3 (some .int)) ({ frames := 2, cells := 0, slots := 0, locals := 33 })).room s m ([.ref o] : List Value).toArray below meth c H locs 0 0 (MQ below (tw_Qi D dA o ad A r tZ) ([.ref o] : List Value).toArray s 0 0 A) (F0 m 4 ls []) := by
    intro n
    induction n with
    | zero => intro v4_1 v4_2 t1 H locs ls hP hS hl hf; exact (tw_no hf).elim
    | succ n ih4 =>
      intro v4_1 v4_2 t1 H locs ls hP hS hl hf
      obtain ⟨sf4, hs4⟩ : ∃ f, f = tw_lp (fm_askedMany_L4) (fun _ _ _ => none) n := ⟨_, rfl⟩
      rw [← hs4] at ih4
      have hf : fm_askedMany_L4 sf4 v4_1 v4_2 t1 = some (r, tZ) := by rw [hs4]; exact hf
      clear hs4
      unfold fm_askedMany_L4 at hf
      refine lv_iload_n hx hb dX6_askedMany_4 rfl (lv_at hl 2 rfl) ?_
      refine lv_aload_n hx hb dX6_askedMany_5 rfl (lv_at hl 0 rfl) ?_
      obtain ⟨x2, t3, e4, hf⟩ := tw_bdE hf
      refine tw_cVi (As := []) (rest := [.int v4_2]) C hml hP hS (mm_links (l := l) (X := X) (D := D) (dA := dA) hD _ _ _ e4) (cwV 0 hts (lw_V q1368 q1370 qs43 q106 q1371) rfl rfl rfl hdX6_links ⟨Nat.le_of_ble_eq_true rfl, Nat.le_of_ble_eq_true rfl⟩) rfl hl.1 rfl (Nat.le_of_ble_eq_true rfl) dX6_askedMany_6 (fun H locs hP hS => ?_)
      refine lv_icmp_ge (tgt := 34) hx hb dX6_askedMany_9 (by decide) (fun hc => ?_) (fun hc => ?_)
      · have hf := tw_ifT hc hf
        refine lv_iload_n hx hb dX6_askedMany_34 rfl (lv_at hl 1 rfl) ?_
        exact tw_ireti (tw_rtE hf).1 (tw_rtE hf).2 C hr hP hS hlk dX6_askedMany_35
      · have hf := tw_ifF hc hf
        refine lv_iload_n hx hb dX6_askedMany_12 rfl (lv_at hl 1 rfl) ?_
        refine lv_aload_n hx hb dX6_askedMany_13 rfl (lv_at hl 0 rfl) ?_
        refine lv_iload_n hx hb dX6_askedMany_14 rfl (lv_at hl 2 rfl) ?_
        obtain ⟨x5, t6, e7, hf⟩ := tw_bdE hf
        refine tw_cVi (As := [.int v4_2]) (rest := [.int v4_1]) C hml hP hS (mm_asked (l := l) (X := X) (D := D) (dA := dA) hD _ _ _ _ e7) (cwV 1 hts (lw_V q1804 q1806 qs86 q106 q1807) rfl rfl rfl hdX6_asked ⟨Nat.le_of_ble_eq_true rfl, Nat.le_of_ble_eq_true rfl⟩) rfl hl.1 rfl (Nat.le_of_ble_eq_true rfl) dX6_askedMany_15 (fun H locs hP hS => ?_)
        have k26 : ∀ (w26_0 : Int32) (t8 : TS) (H : Heap) (locs : List Loc) (ls : Array Slot), tw_P D dA o ad t8 H → va_S A s.heap H locs → lv_has ls 3 [(0, .ref o), (2, .int v4_2)] → fm_askedMany_J26 sf4 v4_1 v4_2 w26_0 t8 = some (r, tZ) → W p l e (headSpec (ws_ yX6_askedMany cX6_askedMany 3 (some .int)) ({ frames := 2, cells := 0, slots := 0, locals := 33 })).room s m ([.ref o] : List Value).toArray below meth c H locs 0 0 (MQ below (tw_Qi D dA o ad A r tZ) ([.ref o] : List Value).toArray s 0 0 A) (F0 m 26 ls [.int w26_0, .int v4_1]) := by
          intro w26_0 t8 H locs ls hP hS hl hf
          unfold fm_askedMany_J26 at hf
          refine lv_iadd hx hb dX6_askedMany_26 ?_
          refine lv_istore_n (lv' := [(1, .int (v4_1 + w26_0)), (0, .ref o), (2, .int v4_2)]) hx hb dX6_askedMany_27 rfl hl (by decide) rfl (fun ls hl => ?_)
          refine lv_iinc (v := (v4_2 + (1 : Int32))) (lv' := [(2, .int (v4_2 + (1 : Int32))), (1, .int (v4_1 + w26_0)), (0, .ref o)]) hx hb dX6_askedMany_28 hl (k := 2) rfl rfl (by decide) rfl (fun ls hl => ?_)
          refine lv_goto (tgt := 4) hx hb dX6_askedMany_31 (by decide) ?_
          exact ih4 _ _ _ _ _ _ hP hS (lv_sub hl [2, 1, 0] rfl) hf
        refine lv_if_eq (tgt := 25) hx hb dX6_askedMany_18 (by decide) (fun hc => ?_) (fun hc => ?_)
        · have hf := tw_ifT hc hf
          refine lv_iconst (v := (0 : Int32)) hx hb dX6_askedMany_25 (by decide) ?_
          exact k26 _ _ _ _ _ hP hS (lv_sub hl [0, 2] rfl) hf
        · have hf := tw_ifF hc hf
          refine lv_iconst (v := (1 : Int32)) hx hb dX6_askedMany_21 (by decide) ?_
          refine lv_goto (tgt := 26) hx hb dX6_askedMany_22 (by decide) ?_
          exact k26 _ _ _ _ _ hP hS (lv_sub hl [0, 2] rfl) hf
  exact k4 _ _ _ _ _ _ _ hP hS (lv_sub hl [2, 1, 0] rfl) hf
def fm_count (a1 : Int32) : TM Int32 :=
  tw_bd (tw_pi 0 (0 : Int32)) fun _ =>
  if a1 = (0 : Int32) then (tw_bd (fm_links) fun x5 =>
  tw_rt x5)
  else if a1 = (1 : Int32) then (tw_bd (fm_flows) fun x9 =>
  tw_rt x9)
  else if a1 = (2 : Int32) then ( tw_bd (tw_ld 26 (336 : Int32)) fun x13 =>
  tw_rt x13)
  else if a1 = (3 : Int32) then (tw_bd (fm_sumOf (4 : Int32)) fun x17 =>
  tw_rt x17)
  else if a1 = (4 : Int32) then (tw_bd (fm_sumOf (5 : Int32)) fun x21 =>
  tw_rt x21)
  else if a1 = (5 : Int32) then (tw_bd (fm_lostAll) fun x25 =>
  tw_rt x25)
  else if a1 = (6 : Int32) then (tw_bd (fm_sumOf (6 : Int32)) fun x29 =>
  tw_rt x29)
  else if a1 = (7 : Int32) then (tw_bd (fm_sumOf (7 : Int32)) fun x33 =>
  tw_rt x33)
  else if a1 = (8 : Int32) then (tw_bd (fm_askedMany) fun x37 =>
  tw_rt x37)
  else if a1 = (9 : Int32) then (tw_bd (tw_gi 31) fun x41 =>
  tw_rt x41)
  else if a1 = (10 : Int32) then (tw_bd (tw_gi 2) fun x45 =>
  tw_rt x45)
  else (tw_rt (-1 : Int32))
theorem hdX6_count : yX6_count.cls = "LosslessFabricModel" ∧ (yX6_count.cls ≠ "java/lang/invoke/MethodHandle" ∧ yX6_count.cls ≠ "java/lang/invoke/VarHandle" ∧ (parseMethodDescriptor yX6_count.desc).map (fun d => d.parameters.length) = some 1) := by decide +kernel
set_option maxHeartbeats 4000000 in
theorem mm_count {l : Launch} {X : (Nat → Nat) × (Nat → Nat) × Nat} {D : va_G} {dA : Nat → ClassId} {o : Nat} {ad : Nat → Nat} {A : Nat → Prop} (hD : tw_D o ad A) (a1 : Int32) (t0 tZ : TS) (r : Int32) (hf : fm_count a1 t0 = some (r, tZ)) : Met l yX6_count (ws_ yX6_count cX6_count 2 (some .int)) ({ frames := 3, cells := 0, slots := 0, locals := 55 }) (va_Pc [.ref o, .int a1] (tw_W X A D dA o ad t0)) (tw_Qi D dA o ad A r tZ) 0 0 A := by
  refine Met.ofW (cc := cX6_count) (maxL := 2) (ret := some .int) (by decide) rfl ?_
  intro p e s m args below meth c s₁ B hml hv
  obtain ⟨rfl, hP, hK, hX⟩ := hv
  have hx := B.exec
  have hb := B.bytes
  have hr := B.returns
  have hts := atoms_spec (ws := (ws_ yX6_count cX6_count 2 (some .int))) B.pre
  have hts : ∀ w ∈ lw_all, w.before _ s = true := fun w h => hts w (List.mem_cons_of_mem _ h)
  have hown : s.vm.findClass "LosslessFabricModel" = some m.cls := findClass_of_methodNamed B.named
  have hlk := B.notSynchronized
  have C : tw_C X p s m _ c cX6_count D dA o ad A := ⟨hx, hb, hts, hown, hK, hD, hX⟩
  have hS : va_S A s.heap s.heap [] := va_S.rf
  have hl := lv_entry ([.ref o, .int a1]) (n := 2) (Nat.le_of_ble_eq_true rfl)
  rw [lg_entry_eq]
  generalize (lg_sl ([.ref o, .int a1]) ++ List.replicate (2 - (lg_sl ([.ref o, .int a1])).length) Slot.unset).toArray = ls at hl ⊢
  have hl : lv_has ls 2 [(0, .ref o), (1, .int a1)] := hl
  unfold fm_count at hf
  refine lv_aload_n hx hb dX6_count_0 rfl (lv_at hl 0 rfl) ?_
  refine lv_iconst (v := (0 : Int32)) hx hb dX6_count_1 (by decide) ?_
  obtain ⟨x1, t2, e3, hf⟩ := tw_bdE hf
  refine tw_iput (k := 0) C hP hS (by decide) rfl e3 q1376 dX6_count_2 (fun H locs hP hS => ?_)
  refine lv_iload_n hx hb dX6_count_5 rfl (lv_at hl 1 rfl) ?_
  by_cases c4 : a1 = (0 : Int32)
  · have hf := tw_ifT c4 hf
    refine lv_tableIn (tgt := 64) hx hb dX6_count_6 (by rw [c4]; decide) (by rw [c4]; decide) (by rw [c4]; rfl) (by decide) ?_
    refine lv_aload_n hx hb dX6_count_64 rfl (lv_at hl 0 rfl) ?_
    obtain ⟨x5, t6, e7, hf⟩ := tw_bdE hf
    refine tw_cVi (As := []) (rest := []) C hml hP hS (mm_links (l := l) (X := X) (D := D) (dA := dA) hD _ _ _ e7) (cwV 0 hts (lw_V q1368 q1370 qs43 q106 q1371) rfl rfl rfl hdX6_links ⟨Nat.le_of_ble_eq_true rfl, Nat.le_of_ble_eq_true rfl⟩) rfl hl.1 rfl (Nat.le_of_ble_eq_true rfl) dX6_count_65 (fun H locs hP hS => ?_)
    exact tw_ireti (tw_rtE hf).1 (tw_rtE hf).2 C hr hP hS hlk dX6_count_68
  have hf := tw_ifF c4 hf
  by_cases c8 : a1 = (1 : Int32)
  · have hf := tw_ifT c8 hf
    refine lv_tableIn (tgt := 69) hx hb dX6_count_6 (by rw [c8]; decide) (by rw [c8]; decide) (by rw [c8]; rfl) (by decide) ?_
    refine lv_aload_n hx hb dX6_count_69 rfl (lv_at hl 0 rfl) ?_
    obtain ⟨x9, t10, e11, hf⟩ := tw_bdE hf
    refine tw_cVi (As := []) (rest := []) C hml hP hS (mm_flows (l := l) (X := X) (D := D) (dA := dA) hD _ _ _ e11) (cwV 0 hts (lw_V q1372 q1374 qs44 q106 q1375) rfl rfl rfl hdX6_flows ⟨Nat.le_of_ble_eq_true rfl, Nat.le_of_ble_eq_true rfl⟩) rfl hl.1 rfl (Nat.le_of_ble_eq_true rfl) dX6_count_70 (fun H locs hP hS => ?_)
    exact tw_ireti (tw_rtE hf).1 (tw_rtE hf).2 C hr hP hS hlk dX6_count_73
  have hf := tw_ifF c8 hf
  by_cases c12 : a1 = (2 : Int32)
  · have hf := tw_ifT c12 hf
    refine lv_tableIn (tgt := 74) hx hb dX6_count_6 (by rw [c12]; decide) (by rw [c12]; decide) (by rw [c12]; rfl) (by decide) ?_
    refine lv_aload_n hx hb dX6_count_74 rfl (lv_at hl 0 rfl) ?_
    refine tw_aget (k := 26) C hP (by decide) (by decide) q1402 dX6_count_75 ?_
    refine lv_sipush (v := (336 : Int32)) hx hb dX6_count_78 (by decide) ?_
    obtain ⟨x13, t14, e15, hf⟩ := tw_bdE hf
    refine tw_iald C hP e15 dX6_count_81 (fun hP => ?_)
    exact tw_ireti (tw_rtE hf).1 (tw_rtE hf).2 C hr hP hS hlk dX6_count_82
  have hf := tw_ifF c12 hf
  by_cases c16 : a1 = (3 : Int32)
  · have hf := tw_ifT c16 hf
    refine lv_tableIn (tgt := 83) hx hb dX6_count_6 (by rw [c16]; decide) (by rw [c16]; decide) (by rw [c16]; rfl) (by decide) ?_
    refine lv_aload_n hx hb dX6_count_83 rfl (lv_at hl 0 rfl) ?_
    refine lv_iconst (v := (4 : Int32)) hx hb dX6_count_84 (by decide) ?_
    obtain ⟨x17, t18, e19, hf⟩ := tw_bdE hf
    refine tw_cVi (As := [.int (4 : Int32)]) (rest := []) C hml hP hS (mm_sumOf (l := l) (X := X) (D := D) (dA := dA) hD _ _ _ _ e19) (cwV 1 hts (lw_V q1891 q1893 qs96 q106 q1894) rfl rfl rfl hdX6_sumOf ⟨Nat.le_of_ble_eq_true rfl, Nat.le_of_ble_eq_true rfl⟩) rfl hl.1 rfl (Nat.le_of_ble_eq_true rfl) dX6_count_85 (fun H locs hP hS => ?_)
    exact tw_ireti (tw_rtE hf).1 (tw_rtE hf).2 C hr hP hS hlk dX6_count_88
  have hf := tw_ifF c16 hf
  by_cases c20 : a1 = (4 : Int32)
  · have hf := tw_ifT c20 hf
    refine lv_tableIn (tgt := 89) hx hb dX6_count_6 (by rw [c20]; decide) (by rw [c20]; decide) (by rw [c20]; rfl) (by decide) ?_
    refine lv_aload_n hx hb dX6_count_89 rfl (lv_at hl 0 rfl) ?_
    refine lv_iconst (v := (5 : Int32)) hx hb dX6_count_90 (by decide) ?_
    obtain ⟨x21, t22, e23, hf⟩ := tw_bdE hf
    refine tw_cVi (As := [.int (5 : Int32)]) (rest := []) C hml hP hS (mm_sumOf (l := l) (X := X) (D := D) (dA := dA) hD _ _ _ _ e23) (cwV 1 hts (lw_V q1891 q1893 qs96 q106 q1894) rfl rfl rfl hdX6_sumOf ⟨Nat.le_of_ble_eq_true rfl, Nat.le_of_ble_eq_true rfl⟩) rfl hl.1 rfl (Nat.le_of_ble_eq_true rfl) dX6_count_91 (fun H locs hP hS => ?_)
    exact tw_ireti (tw_rtE hf).1 (tw_rtE hf).2 C hr hP hS hlk dX6_count_94
  have hf := tw_ifF c20 hf
  by_cases c24 : a1 = (5 : Int32)
  · have hf := tw_ifT c24 hf
    refine lv_tableIn (tgt := 95) hx hb dX6_count_6 (by rw [c24]; decide) (by rw [c24]; decide) (by rw [c24]; rfl) (by decide) ?_
    refine lv_aload_n hx hb dX6_count_95 rfl (lv_at hl 0 rfl) ?_
    obtain ⟨x25, t26, e27, hf⟩ := tw_bdE hf
    refine tw_cVi (As := []) (rest := []) C hml hP hS (mm_lostAll (l := l) (X := X) (D := D) (dA := dA) hD _ _ _ e27) (cwV 0 hts (lw_V q1903 q1905 qs97 q106 q1906) rfl rfl rfl hdX6_lostAll ⟨Nat.le_of_ble_eq_true rfl, Nat.le_of_ble_eq_true rfl⟩) rfl hl.1 rfl (Nat.le_of_ble_eq_true rfl) dX6_count_96 (fun H locs hP hS => ?_)
    exact tw_ireti (tw_rtE hf).1 (tw_rtE hf).2 C hr hP hS hlk dX6_count_99
  have hf := tw_ifF c24 hf
  by_cases c28 : a1 = (6 : Int32)
  · have hf := tw_ifT c28 hf
    refine lv_tableIn (tgt := 100) hx hb dX6_count_6 (by rw [c28]; decide) (by rw [c28]; decide) (by rw [c28]; rfl) (by decide) ?_
    refine lv_aload_n hx hb dX6_count_100 rfl (lv_at hl 0 rfl) ?_
    refine lv_bipush (v := (6 : Int32)) hx hb dX6_count_101 (by decide) ?_
    obtain ⟨x29, t30, e31, hf⟩ := tw_bdE hf
    refine tw_cVi (As := [.int (6 : Int32)]) (rest := []) C hml hP hS (mm_sumOf (l := l) (X := X) (D := D) (dA := dA) hD _ _ _ _ e31) (cwV 1 hts (lw_V q1891 q1893 qs96 q106 q1894) rfl rfl rfl hdX6_sumOf ⟨Nat.le_of_ble_eq_true rfl, Nat.le_of_ble_eq_true rfl⟩) rfl hl.1 rfl (Nat.le_of_ble_eq_true rfl) dX6_count_103 (fun H locs hP hS => ?_)
    exact tw_ireti (tw_rtE hf).1 (tw_rtE hf).2 C hr hP hS hlk dX6_count_106
  have hf := tw_ifF c28 hf
  by_cases c32 : a1 = (7 : Int32)
  · have hf := tw_ifT c32 hf
    refine lv_tableIn (tgt := 107) hx hb dX6_count_6 (by rw [c32]; decide) (by rw [c32]; decide) (by rw [c32]; rfl) (by decide) ?_
    refine lv_aload_n hx hb dX6_count_107 rfl (lv_at hl 0 rfl) ?_
    refine lv_bipush (v := (7 : Int32)) hx hb dX6_count_108 (by decide) ?_
    obtain ⟨x33, t34, e35, hf⟩ := tw_bdE hf
    refine tw_cVi (As := [.int (7 : Int32)]) (rest := []) C hml hP hS (mm_sumOf (l := l) (X := X) (D := D) (dA := dA) hD _ _ _ _ e35) (cwV 1 hts (lw_V q1891 q1893 qs96 q106 q1894) rfl rfl rfl hdX6_sumOf ⟨Nat.le_of_ble_eq_true rfl, Nat.le_of_ble_eq_true rfl⟩) rfl hl.1 rfl (Nat.le_of_ble_eq_true rfl) dX6_count_110 (fun H locs hP hS => ?_)
    exact tw_ireti (tw_rtE hf).1 (tw_rtE hf).2 C hr hP hS hlk dX6_count_113
  have hf := tw_ifF c32 hf
  by_cases c36 : a1 = (8 : Int32)
  · have hf := tw_ifT c36 hf
    refine lv_tableIn (tgt := 114) hx hb dX6_count_6 (by rw [c36]; decide) (by rw [c36]; decide) (by rw [c36]; rfl) (by decide) ?_
    refine lv_aload_n hx hb dX6_count_114 rfl (lv_at hl 0 rfl) ?_
    obtain ⟨x37, t38, e39, hf⟩ := tw_bdE hf
    refine tw_cVi (As := []) (rest := []) C hml hP hS (mm_askedMany (l := l) (X := X) (D := D) (dA := dA) hD _ _ _ e39) (cwV 0 hts (lw_V q1917 q1919 qs99 q106 q1920) rfl rfl rfl hdX6_askedMany ⟨Nat.le_of_ble_eq_true rfl, Nat.le_of_ble_eq_true rfl⟩) rfl hl.1 rfl (Nat.le_of_ble_eq_true rfl) dX6_count_115 (fun H locs hP hS => ?_)
    exact tw_ireti (tw_rtE hf).1 (tw_rtE hf).2 C hr hP hS hlk dX6_count_118
  have hf := tw_ifF c36 hf
  by_cases c40 : a1 = (9 : Int32)
  · have hf := tw_ifT c40 hf
    refine lv_tableIn (tgt := 119) hx hb dX6_count_6 (by rw [c40]; decide) (by rw [c40]; decide) (by rw [c40]; rfl) (by decide) ?_
    refine lv_aload_n hx hb dX6_count_119 rfl (lv_at hl 0 rfl) ?_
    obtain ⟨x41, t42, e43, hf⟩ := tw_bdE hf
    refine tw_iget (k := 31) C hP (by decide) (Or.inl rfl) e43 q1407 dX6_count_120 (fun hP => ?_)
    exact tw_ireti (tw_rtE hf).1 (tw_rtE hf).2 C hr hP hS hlk dX6_count_123
  have hf := tw_ifF c40 hf
  by_cases c44 : a1 = (10 : Int32)
  · have hf := tw_ifT c44 hf
    refine lv_tableIn (tgt := 124) hx hb dX6_count_6 (by rw [c44]; decide) (by rw [c44]; decide) (by rw [c44]; rfl) (by decide) ?_
    refine lv_aload_n hx hb dX6_count_124 rfl (lv_at hl 0 rfl) ?_
    obtain ⟨x45, t46, e47, hf⟩ := tw_bdE hf
    refine tw_iget (k := 2) C hP (by decide) (Or.inl rfl) e47 q1378 dX6_count_125 (fun hP => ?_)
    exact tw_ireti (tw_rtE hf).1 (tw_rtE hf).2 C hr hP hS hlk dX6_count_128
  have hf := tw_ifF c44 hf
  refine lv_tableOut (tgt := 129) hx hb dX6_count_6 (tw_swo 10 (fun i hi => by match i, hi with | 0, _ => exact c4 | 1, _ => exact c8 | 2, _ => exact c12 | 3, _ => exact c16 | 4, _ => exact c20 | 5, _ => exact c24 | 6, _ => exact c28 | 7, _ => exact c32 | 8, _ => exact c36 | 9, _ => exact c40 | 10, _ => exact c44 | i + 11, h => exact absurd h (by omega))) (by decide) ?_
  refine lv_iconst (v := (-1 : Int32)) hx hb dX6_count_129 (by decide) ?_
  exact tw_ireti (tw_rtE hf).1 (tw_rtE hf).2 C hr hP hS hlk dX6_count_130