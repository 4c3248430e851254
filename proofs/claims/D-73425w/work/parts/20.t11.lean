def fm_isEmpty_L2  (sf2 : Int32 → TM Int32) (v2_1 : Int32) : TM Int32 :=
  tw_bd (fm_links) fun x2 =>
  if x2 ≤ v2_1 then (tw_rz (1 : Int32))
  else (tw_bd (fm_queueOf v2_1) fun x5 =>
  if x5 ≤ 0 then (sf2 (v2_1 + (1 : Int32)))
  else (tw_rz (0 : Int32)))
def fm_isEmpty  : TM Int32 :=
  tw_lp (fm_isEmpty_L2) (fun _ _ => none) tw_fu (0 : Int32)
theorem hdX6_isEmpty : yX6_isEmpty.cls = "LosslessFabricModel" ∧ (yX6_isEmpty.cls ≠ "java/lang/invoke/MethodHandle" ∧ yX6_isEmpty.cls ≠ "java/lang/invoke/VarHandle" ∧ (parseMethodDescriptor yX6_isEmpty.desc).map (fun d => d.parameters.length) = some 0) := by decide +kernel
set_option maxHeartbeats 4000000 in
theorem mm_isEmpty {l : Launch} {X : (Nat → Nat) × (Nat → Nat) × Nat} {D : va_G} {dA : Nat → ClassId} {o : Nat} {ad : Nat → Nat} {A : Nat → Prop} (hD : tw_D o ad A)  (t0 tZ : TS) (r : Int32) (hf : fm_isEmpty  t0 = some (r, tZ)) : Met l yX6_isEmpty (ws_ yX6_isEmpty cX6_isEmpty 2 (some .boolean)) ({ frames := 2, cells := 0, slots := 0, locals := 35 }) (va_Pc [.ref o] (tw_W X A D dA o ad t0)) (tw_Qi D dA o ad A r tZ) 0 0 A := by
  refine Met.ofW (cc := cX6_isEmpty) (maxL := 2) (ret := some .boolean) (by decide) rfl ?_
  intro p e s m args below meth c s₁ B hml hv
  obtain ⟨rfl, hP, hK, hX⟩ := hv
  have hx := B.exec
  have hb := B.bytes
  have hr := B.returns
  have hts := atoms_spec (ws := (ws_ yX6_isEmpty cX6_isEmpty 2 (some .boolean))) B.pre
  have hts : ∀ w ∈ lw_all, w.before _ s = true := fun w h => hts w (List.mem_cons_of_mem _ h)
  have hown : s.vm.findClass "LosslessFabricModel" = some m.cls := findClass_of_methodNamed B.named
  have hlk := B.notSynchronized
  have C : tw_C X p s m _ c cX6_isEmpty D dA o ad A := ⟨hx, hb, hts, hown, hK, hD, hX⟩
  have hS : va_S A s.heap s.heap [] := va_S.rf
  have hl := lv_entry ([.ref o]) (n := 2) (Nat.le_of_ble_eq_true rfl)
  rw [lg_entry_eq]
  generalize (lg_sl ([.ref o]) ++ List.replicate (2 - (lg_sl ([.ref o])).length) Slot.unset).toArray = ls at hl ⊢
  have hl : lv_has ls 2 [(0, .ref o)] := hl
  unfold fm_isEmpty at hf
  refine lv_iconst (v := (0 : Int32)) hx hb dX6_isEmpty_0 (by decide) ?_
  refine lv_istore_n (lv' := [(1, .int (0 : Int32)), (0, .ref o)]) hx hb dX6_isEmpty_1 rfl hl (by decide) rfl (fun ls hl => ?_)
  have k2 : ∀ (n : Nat) (v2_1 : Int32) (t1 : TS) (H : Heap) (locs : List Loc) (ls : Array Slot), tw_P D dA o ad t1 H → va_S A s.heap H locs → lv_has ls 2 [(0, .ref o), (1, .int v2_1)] → tw_lp (fm_isEmpty_L2) (fun _ _ => none) n v2_1 t1 = some (r, tZ) → W p l e (headSpec (ws_ yX6_isEmpty cX6_isEmpty 2 (some .boolean)) ({ frames := 2, cells := 0, slots := 0, locals := 35 })).room s m ([.ref o] : List Value).toArray below meth c H locs 0 0 (MQ below (tw_Qi D dA o ad A r tZ) ([.ref o] : List Value).toArray s 0 0 A) (F0 m 2 ls []) := by
    intro n
    induction n with
    | zero => intro v2_1 t1 H locs ls hP hS hl hf; exact (tw_no hf).elim
    | succ n ih2 =>
      intro v2_1 t1 H locs ls hP hS hl hf
      obtain ⟨sf2, hs2⟩ : ∃ f, f = tw_lp (fm_isEmpty_L2) (fun _ _ => none) n := ⟨_, rfl⟩
      rw [← hs2] at ih2
      have hf : fm_isEmpty_L2 sf2 v2_1 t1 = some (r, tZ) := by rw [hs2]; exact hf
      clear hs2
      unfold fm_isEmpty_L2 at hf
      refine lv_iload_n hx hb dX6_isEmpty_2 rfl (lv_at hl 1 rfl) ?_
      refine lv_aload_n hx hb dX6_isEmpty_3 rfl (lv_at hl 0 rfl) ?_
      obtain ⟨x2, t3, e4, hf⟩ := tw_bdE hf
      refine tw_cVi (As := []) (rest := [.int v2_1]) C hml hP hS (mm_links (l := l) (X := X) (D := D) (dA := dA) hD _ _ _ e4) (cwV 0 hts (lw_V q1368 q1370 qs43 q106 q1371) rfl rfl rfl hdX6_links ⟨Nat.le_of_ble_eq_true rfl, Nat.le_of_ble_eq_true rfl⟩) rfl hl.1 rfl (Nat.le_of_ble_eq_true rfl) dX6_isEmpty_4 (fun H locs hP hS => ?_)
      refine lv_icmp_ge (tgt := 26) hx hb dX6_isEmpty_7 (by decide) (fun hc => ?_) (fun hc => ?_)
      · have hf := tw_ifT hc hf
        refine lv_iconst (v := (1 : Int32)) hx hb dX6_isEmpty_26 (by decide) ?_
        exact tw_iretz hf C hr hP hS hlk dX6_isEmpty_27
      · have hf := tw_ifF hc hf
        refine lv_aload_n hx hb dX6_isEmpty_10 rfl (lv_at hl 0 rfl) ?_
        refine lv_iload_n hx hb dX6_isEmpty_11 rfl (lv_at hl 1 rfl) ?_
        obtain ⟨x5, t6, e7, hf⟩ := tw_bdE hf
        refine tw_cVi (As := [.int v2_1]) (rest := []) C hml hP hS (mm_queueOf (l := l) (X := X) (D := D) (dA := dA) hD _ _ _ _ e7) (cwV 1 hts (lw_V q1691 q1693 qs72 q106 q1694) rfl rfl rfl hdX6_queueOf ⟨Nat.le_of_ble_eq_true rfl, Nat.le_of_ble_eq_true rfl⟩) rfl hl.1 rfl (Nat.le_of_ble_eq_true rfl) dX6_isEmpty_12 (fun H locs hP hS => ?_)
        refine lv_if_le (tgt := 20) hx hb dX6_isEmpty_15 (by decide) (fun hc => ?_) (fun hc => ?_)
        · have hf := tw_ifT hc hf
          refine lv_iinc (v := (v2_1 + (1 : Int32))) (lv' := [(1, .int (v2_1 + (1 : Int32))), (0, .ref o)]) hx hb dX6_isEmpty_20 hl (k := 1) rfl rfl (by decide) rfl (fun ls hl => ?_)
          refine lv_goto (tgt := 2) hx hb dX6_isEmpty_23 (by decide) ?_
          exact ih2 _ _ _ _ _ hP hS (lv_sub hl [1, 0] rfl) hf
        · have hf := tw_ifF hc hf
          refine lv_iconst (v := (0 : Int32)) hx hb dX6_isEmpty_18 (by decide) ?_
          exact tw_iretz hf C hr hP hS hlk dX6_isEmpty_19
  exact k2 _ _ _ _ _ _ hP hS (lv_sub hl [1, 0] rfl) hf
def fm_quiet_J101  (w101_0 : Int32) : TM Int32 :=
  tw_rt w101_0
def fm_quiet_J73 (v49_1 : Int32)  : TM Int32 :=
  tw_bd (fm_isEmpty) fun x13 =>
    tw_bd (fm_copies 27 (0 : Int32) 26 (0 : Int32)) fun _ =>
  if x13 = 0 then (fm_quiet_J101 (-2 : Int32))
  else (fm_quiet_J101 v49_1)
def fm_quiet_L49  (sf49 : Int32 → TM Int32) (v49_1 : Int32) : TM Int32 :=
  if (300 : Int32) ≤ v49_1 then (fm_quiet_J73 v49_1)
  else (tw_bd (fm_isEmpty) fun x20 =>
  if x20 = 0 then (tw_bd (fm_tickGoes) fun _ =>
 
  sf49 (v49_1 + (1 : Int32)))
  else (fm_quiet_J73 v49_1))
def fm_quiet_L20  (sf20 : Int32 → TM Int32) (v20_1 : Int32) : TM Int32 :=
  tw_bd (fm_flows) fun x8 =>
  if x8 ≤ v20_1 then (tw_lp (fm_quiet_L49) (fun _ _ => none) tw_fu (0 : Int32))
  else ( tw_bd (fm_flowAt v20_1) fun x26 =>
  tw_bd (tw_st 26 (x26 + (7 : Int32)) (0 : Int32)) fun _ =>
 
  sf20 (v20_1 + (1 : Int32)))
def fm_quiet  : TM Int32 :=
  tw_bd (tw_pi 0 (0 : Int32)) fun _ =>
    tw_bd (fm_copies 26 (0 : Int32) 27 (0 : Int32)) fun _ =>
 
  tw_lp (fm_quiet_L20) (fun _ _ => none) tw_fu (0 : Int32)
theorem hdX6_quiet : yX6_quiet.cls = "LosslessFabricModel" ∧ (yX6_quiet.cls ≠ "java/lang/invoke/MethodHandle" ∧ yX6_quiet.cls ≠ "java/lang/invoke/VarHandle" ∧ (parseMethodDescriptor yX6_quiet.desc).map (fun d => d.parameters.length) = some 0) := by decide +kernel
set_option maxHeartbeats 4000000 in
theorem mm_quiet {l : Launch} {X : (Nat → Nat) × (Nat → Nat) × Nat} {D : va_G} {dA : Nat → ClassId} {o : Nat} {ad : Nat → Nat} {A : Nat → Prop} (hD : tw_D o ad A)  (t0 tZ : TS) (r : Int32) (hf : fm_quiet  t0 = some (r, tZ)) : Met l yX6_quiet (ws_ yX6_quiet cX6_quiet 3 (some .int)) ({ frames := 5, cells := 0, slots := 0, locals := 103 }) (va_Pc [.ref o] (tw_W X A D dA o ad t0)) (tw_Qi D dA o ad A r tZ) 0 0 A := by
  refine Met.ofW (cc := cX6_quiet) (maxL := 3) (ret := some .int) (by decide) rfl ?_
  intro p e s m args below meth c s₁ B hml hv
  obtain ⟨rfl, hP, hK, hX⟩ := hv
  have hx := B.exec
  have hb := B.bytes
  have hr := B.returns
  have hts := atoms_spec (ws := (ws_ yX6_quiet cX6_quiet 3 (some .int))) B.pre
  have hts : ∀ w ∈ lw_all, w.before _ s = true := fun w h => hts w (List.mem_cons_of_mem _ h)
  have hown : s.vm.findClass "LosslessFabricModel" = some m.cls := findClass_of_methodNamed B.named
  have hlk := B.notSynchronized
  have C : tw_C X p s m _ c cX6_quiet D dA o ad A := ⟨hx, hb, hts, hown, hK, hD, hX⟩
  have hS : va_S A s.heap s.heap [] := va_S.rf
  have hl := lv_entry ([.ref o]) (n := 3) (Nat.le_of_ble_eq_true rfl)
  rw [lg_entry_eq]
  generalize (lg_sl ([.ref o]) ++ List.replicate (3 - (lg_sl ([.ref o])).length) Slot.unset).toArray = ls at hl ⊢
  have hl : lv_has ls 3 [(0, .ref o)] := hl
  unfold fm_quiet at hf
  refine lv_aload_n hx hb dX6_quiet_0 rfl (lv_at hl 0 rfl) ?_
  refine lv_iconst (v := (0 : Int32)) hx hb dX6_quiet_1 (by decide) ?_
  obtain ⟨x1, t2, e3, hf⟩ := tw_bdE hf
  refine tw_iput (k := 0) C hP hS (by decide) rfl e3 q1376 dX6_quiet_2 (fun H locs hP hS => ?_)
  refine lv_aload_n hx hb dX6_quiet_5 rfl (lv_at hl 0 rfl) ?_
  refine tw_aget (k := 26) C hP (by decide) (by decide) q1402 dX6_quiet_6 ?_
  refine lv_iconst (v := (0 : Int32)) hx hb dX6_quiet_9 (by decide) ?_
  refine lv_aload_n hx hb dX6_quiet_10 rfl (lv_at hl 0 rfl) ?_
  refine tw_aget (k := 27) C hP (by decide) (by decide) q1403 dX6_quiet_11 ?_
  refine lv_iconst (v := (0 : Int32)) hx hb dX6_quiet_14 (by decide) ?_
  obtain ⟨x4, t5, e6, hf⟩ := tw_bdE hf
  refine tw_cSv (As := [.ref (ad 26), .int (0 : Int32), .ref (ad 27), .int (0 : Int32)]) (rest := []) C hml hP hS (mm_copies (l := l) (X := X) (D := D) (dA := dA) hD _ _ _ _ _ _ _ e6) (va_cwS 4 hts (lw_S q1638 q1639 q106 q1640) rfl rfl rfl hdX6_copies ⟨Nat.le_of_ble_eq_true rfl, Nat.le_of_ble_eq_true rfl⟩) rfl hl.1 rfl (Nat.le_of_ble_eq_true rfl) dX6_quiet_15 (fun H locs hP hS => ?_)
  refine lv_iconst (v := (0 : Int32)) hx hb dX6_quiet_18 (by decide) ?_
  refine lv_istore_n (lv' := [(1, .int (0 : Int32)), (0, .ref o)]) hx hb dX6_quiet_19 rfl hl (by decide) rfl (fun ls hl => ?_)
  have k20 : ∀ (n : Nat) (v20_1 : Int32) (t7 : TS) (H : Heap) (locs : List Loc) (ls : Array Slot), tw_P D dA o ad t7 H → va_S A s.heap H locs → lv_has ls 3 [(0, .ref o), (1, .int v20_1)] → tw_lp (fm_quiet_L20) (fun _ _ => none) n v20_1 t7 = some (r, tZ) → W p l e (headSpec (ws_ yX6_quiet cX6_quiet 3 (some .int)) ({ frames := 5, cells := 0, slots := 0, locals := 103 })).room s m ([.ref o] : List Value).toArray below meth c H locs 0 0 (MQ below (tw_Qi D dA o ad A r tZ) ([.ref o] : List Value).toArray s 0 0 A) (F0 m 20 ls []) := by
    intro n
    induction n with
    | zero => intro v20_1 t7 H locs ls hP hS hl hf; exact (tw_no hf).elim
    | succ n ih20 =>
      intro v20_1 t7 H locs ls hP hS hl hf
      obtain ⟨sf20, hs20⟩ : ∃ f, f = tw_lp (fm_quiet_L20) (fun _ _ => none) n := ⟨_, rfl⟩
      rw [← hs20] at ih20
      have hf : fm_quiet_L20 sf20 v20_1 t7 = some (r, tZ) := by rw [hs20]; exact hf
      clear hs20
      unfold fm_quiet_L20 at hf
      refine lv_iload_n hx hb dX6_quiet_20 rfl (lv_at hl 1 rfl) ?_
      refine lv_aload_n hx hb dX6_quiet_21 rfl (lv_at hl 0 rfl) ?_
      obtain ⟨x8, t9, e10, hf⟩ := tw_bdE hf
      refine tw_cVi (As := []) (rest := [.int v20_1]) C hml hP hS (mm_flows (l := l) (X := X) (D := D) (dA := dA) hD _ _ _ e10) (cwV 0 hts (lw_V q1372 q1374 qs44 q106 q1375) rfl rfl rfl hdX6_flows ⟨Nat.le_of_ble_eq_true rfl, Nat.le_of_ble_eq_true rfl⟩) rfl hl.1 rfl (Nat.le_of_ble_eq_true rfl) dX6_quiet_22 (fun H locs hP hS => ?_)
      refine lv_icmp_ge (tgt := 47) hx hb dX6_quiet_25 (by decide) (fun hc => ?_) (fun hc => ?_)
      · have hf := tw_ifT hc hf
        refine lv_iconst (v := (0 : Int32)) hx hb dX6_quiet_47 (by decide) ?_
        refine lv_istore_n (lv' := [(1, .int (0 : Int32)), (0, .ref o)]) hx hb dX6_quiet_48 rfl hl (by decide) rfl (fun ls hl => ?_)
        have k49 : ∀ (n : Nat) (v49_1 : Int32) (t11 : TS) (H : Heap) (locs : List Loc) (ls : Array Slot), tw_P D dA o ad t11 H → va_S A s.heap H locs → lv_has ls 3 [(0, .ref o), (1, .int v49_1)] → tw_lp (fm_quiet_L49) (fun _ _ => none) n v49_1 t11 = some (r, tZ) → W p l e (headSpec (ws_ yX6_quiet cX6_quiet 3 (some .int)) ({ frames := 5, cells := 0, slots := 0, locals := 103 })).room s m ([.ref o] : List Value).toArray below meth c H locs 0 0 (MQ below (tw_Qi D dA o ad A r tZ) ([.ref o] : List Value).toArray s 0 0 A) (F0 m 49 ls []) := by
          intro n
          induction n with
          | zero => intro v49_1 t11 H locs ls hP hS hl hf; exact (tw_no hf).elim
          | succ n ih49 =>
            intro v49_1 t11 H locs ls hP hS hl hf
            obtain ⟨sf49, hs49⟩ : ∃ f, f = tw_lp (fm_quiet_L49) (fun _ _ => none) n := ⟨_, rfl⟩
            rw [← hs49] at ih49
            have hf : fm_quiet_L49 sf49 v49_1 t11 = some (r, tZ) := by rw [hs49]; exact hf
            clear hs49
            unfold fm_quiet_L49 at hf
            refine lv_iload_n hx hb dX6_quiet_49 rfl (lv_at hl 1 rfl) ?_
            refine lv_sipush (v := (300 : Int32)) hx hb dX6_quiet_50 (by decide) ?_
            have k73 : ∀  (t12 : TS) (H : Heap) (locs : List Loc) (ls : Array Slot), tw_P D dA o ad t12 H → va_S A s.heap H locs → lv_has ls 3 [(0, .ref o), (1, .int v49_1)] → fm_quiet_J73 v49_1  t12 = some (r, tZ) → W p l e (headSpec (ws_ yX6_quiet cX6_quiet 3 (some .int)) ({ frames := 5, cells := 0, slots := 0, locals := 103 })).room s m ([.ref o] : List Value).toArray below meth c H locs 0 0 (MQ below (tw_Qi D dA o ad A r tZ) ([.ref o] : List Value).toArray s 0 0 A) (F0 m 73 ls []) := by
              intro t12 H locs ls hP hS hl hf
              unfold fm_quiet_J73 at hf
              refine lv_aload_n hx hb dX6_quiet_73 rfl (lv_at hl 0 rfl) ?_
              obtain ⟨x13, t14, e15, hf⟩ := tw_bdE hf
              refine tw_cVi (As := []) (rest := []) C hml hP hS (mm_isEmpty (l := l) (X := X) (D := D) (dA := dA) hD _ _ _ e15) (cwV 0 hts (lw_V q1883 q1885 qs95 q106 q1886) rfl rfl rfl hdX6_isEmpty ⟨Nat.le_of_ble_eq_true rfl, Nat.le_of_ble_eq_true rfl⟩) rfl hl.1 rfl (Nat.le_of_ble_eq_true rfl) dX6_quiet_74 (fun H locs hP hS => ?_)
              refine lv_istore_n (lv' := [(2, .int x13), (0, .ref o), (1, .int v49_1)]) hx hb dX6_quiet_77 rfl hl (by decide) rfl (fun ls hl => ?_)
              refine lv_aload_n hx hb dX6_quiet_78 rfl (lv_at hl 1 rfl) ?_
              refine tw_aget (k := 27) C hP (by decide) (by decide) q1403 dX6_quiet_79 ?_
              refine lv_iconst (v := (0 : Int32)) hx hb dX6_quiet_82 (by decide) ?_
              refine lv_aload_n hx hb dX6_quiet_83 rfl (lv_at hl 1 rfl) ?_
              refine tw_aget (k := 26) C hP (by decide) (by decide) q1402 dX6_quiet_84 ?_
              refine lv_iconst (v := (0 : Int32)) hx hb dX6_quiet_87 (by decide) ?_
              obtain ⟨x16, t17, e18, hf⟩ := tw_bdE hf
              refine tw_cSv (As := [.ref (ad 27), .int (0 : Int32), .ref (ad 26), .int (0 : Int32)]) (rest := []) C hml hP hS (mm_copies (l := l) (X := X) (D := D) (dA := dA) hD _ _ _ _ _ _ _ e18) (va_cwS 4 hts (lw_S q1638 q1639 q106 q1640) rfl rfl rfl hdX6_copies ⟨Nat.le_of_ble_eq_true rfl, Nat.le_of_ble_eq_true rfl⟩) rfl hl.1 rfl (Nat.le_of_ble_eq_true rfl) dX6_quiet_88 (fun H locs hP hS => ?_)
              refine lv_iload_n hx hb dX6_quiet_91 rfl (lv_at hl 0 rfl) ?_
              have k101 : ∀ (w101_0 : Int32) (t19 : TS) (H : Heap) (locs : List Loc) (ls : Array Slot), tw_P D dA o ad t19 H → va_S A s.heap H locs → lv_has ls 3 [] → fm_quiet_J101 w101_0 t19 = some (r, tZ) → W p l e (headSpec (ws_ yX6_quiet cX6_quiet 3 (some .int)) ({ frames := 5, cells := 0, slots := 0, locals := 103 })).room s m ([.ref o] : List Value).toArray below meth c H locs 0 0 (MQ below (tw_Qi D dA o ad A r tZ) ([.ref o] : List Value).toArray s 0 0 A) (F0 m 101 ls [.int w101_0]) := by
                intro w101_0 t19 H locs ls hP hS hl hf
                unfold fm_quiet_J101 at hf
                exact tw_ireti (tw_rtE hf).1 (tw_rtE hf).2 C hr hP hS hlk dX6_quiet_101
              refine lv_if_eq (tgt := 99) hx hb dX6_quiet_92 (by decide) (fun hc => ?_) (fun hc => ?_)
              · have hf := tw_ifT hc hf
                refine lv_bipush (v := (-2 : Int32)) hx hb dX6_quiet_99 (by decide) ?_
                exact k101 _ _ _ _ _ hP hS (lv_sub hl [] rfl) hf
              · have hf := tw_ifF hc hf
                refine lv_iload_n hx hb dX6_quiet_95 rfl (lv_at hl 2 rfl) ?_
                refine lv_goto (tgt := 101) hx hb dX6_quiet_96 (by decide) ?_
                exact k101 _ _ _ _ _ hP hS (lv_sub hl [] rfl) hf
            refine lv_icmp_ge (tgt := 73) hx hb dX6_quiet_53 (by decide) (fun hc => ?_) (fun hc => ?_)
            · have hf := tw_ifT hc hf
              exact k73 _ _ _ _ hP hS (lv_sub hl [0, 1] rfl) hf
            · have hf := tw_ifF hc hf
              refine lv_aload_n hx hb dX6_quiet_56 rfl (lv_at hl 0 rfl) ?_
              obtain ⟨x20, t21, e22, hf⟩ := tw_bdE hf
              refine tw_cVi (As := []) (rest := []) C hml hP hS (mm_isEmpty (l := l) (X := X) (D := D) (dA := dA) hD _ _ _ e22) (cwV 0 hts (lw_V q1883 q1885 qs95 q106 q1886) rfl rfl rfl hdX6_isEmpty ⟨Nat.le_of_ble_eq_true rfl, Nat.le_of_ble_eq_true rfl⟩) rfl hl.1 rfl (Nat.le_of_ble_eq_true rfl) dX6_quiet_57 (fun H locs hP hS => ?_)
              refine lv_if_ne (tgt := 73) hx hb dX6_quiet_60 (by decide) (fun hc => ?_) (fun hc => ?_)
              · have hf := tw_ifF hc hf
                exact k73 _ _ _ _ hP hS (lv_sub hl [0, 1] rfl) hf
              · have hf := tw_ifT hc hf
                refine lv_aload_n hx hb dX6_quiet_63 rfl (lv_at hl 0 rfl) ?_
                obtain ⟨x23, t24, e25, hf⟩ := tw_bdE hf
                refine tw_cVv (As := []) (rest := []) C hml hP hS (mm_tickGoes (l := l) (X := X) (D := D) (dA := dA) hD _ _ _ e25) (cwV 0 hts (lw_V q1657 q1659 qs65 q106 q1660) rfl rfl rfl hdX6_tickGoes ⟨Nat.le_of_ble_eq_true rfl, Nat.le_of_ble_eq_true rfl⟩) rfl hl.1 rfl (Nat.le_of_ble_eq_true rfl) dX6_quiet_64 (fun H locs hP hS => ?_)
                refine lv_iinc (v := (v49_1 + (1 : Int32))) (lv' := [(1, .int (v49_1 + (1 : Int32))), (0, .ref o)]) hx hb dX6_quiet_67 hl (k := 1) rfl rfl (by decide) rfl (fun ls hl => ?_)
                refine lv_goto (tgt := 49) hx hb dX6_quiet_70 (by decide) ?_
                exact ih49 _ _ _ _ _ hP hS (lv_sub hl [1, 0] rfl) hf
        exact k49 _ _ _ _ _ _ hP hS (lv_sub hl [1, 0] rfl) hf
      · have hf := tw_ifF hc hf
        refine lv_aload_n hx hb dX6_quiet_28 rfl (lv_at hl 0 rfl) ?_
        refine tw_aget (k := 26) C hP (by decide) (by decide) q1402 dX6_quiet_29 ?_
        refine lv_iload_n hx hb dX6_quiet_32 rfl (lv_at hl 1 rfl) ?_
        obtain ⟨x26, t27, e28, hf⟩ := tw_bdE hf
        refine tw_cSi (As := [.int v20_1]) (rest := [.ref (ad 26)]) C hml hP hS (mm_flowAt (l := l) (X := X) (D := D) (dA := dA) hD _ _ _ _ e28) (va_cwS 1 hts (lw_S q1661 q1662 q106 q1663) rfl rfl rfl hdX6_flowAt ⟨Nat.le_of_ble_eq_true rfl, Nat.le_of_ble_eq_true rfl⟩) rfl hl.1 rfl (Nat.le_of_ble_eq_true rfl) dX6_quiet_33 (fun H locs hP hS => ?_)
        refine lv_bipush (v := (7 : Int32)) hx hb dX6_quiet_36 (by decide) ?_
        refine lv_iadd hx hb dX6_quiet_38 ?_
        refine lv_iconst (v := (0 : Int32)) hx hb dX6_quiet_39 (by decide) ?_
        obtain ⟨x29, t30, e31, hf⟩ := tw_bdE hf
        refine tw_iast C hP hS e31 dX6_quiet_40 (fun H locs hP hS => ?_)
        refine lv_iinc (v := (v20_1 + (1 : Int32))) (lv' := [(1, .int (v20_1 + (1 : Int32))), (0, .ref o)]) hx hb dX6_quiet_41 hl (k := 1) rfl rfl (by decide) rfl (fun ls hl => ?_)
        refine lv_goto (tgt := 20) hx hb dX6_quiet_44 (by decide) ?_
        exact ih20 _ _ _ _ _ hP hS (lv_sub hl [1, 0] rfl) hf
  exact k20 _ _ _ _ _ _ hP hS (lv_sub hl [1, 0] rfl) hf
def fm_sumOf_L4 (a1 : Int32) (sf4 : Int32 → Int32 → TM Int32) (v4_2 : Int32) (v4_3 : Int32) : TM Int32 :=
  tw_bd (fm_flows) fun x2 =>
  if x2 ≤ v4_3 then (tw_rt v4_2)
  else ( tw_bd (fm_flowAt v4_3) fun x5 =>
  tw_bd (tw_ld 26 (x5 + a1)) fun x8 =>
 
  sf4 (v4_2 + x8) (v4_3 + (1 : Int32)))
def fm_sumOf (a1 : Int32) : TM Int32 :=
  tw_lp (fm_sumOf_L4 a1) (fun _ _ _ => none) tw_fu (0 : Int32) (0 : Int32)
theorem hdX6_sumOf : yX6_sumOf.cls = "LosslessFabricModel" ∧ (yX6_sumOf.cls ≠ "java/lang/invoke/MethodHandle" ∧ yX6_sumOf.cls ≠ "java/lang/invoke/VarHandle" ∧ (parseMethodDescriptor yX6_sumOf.desc).map (fun d => d.parameters.length) = some 1) := by decide +kernel
set_option maxHeartbeats 4000000 in
theorem mm_sumOf {l : Launch} {X : (Nat → Nat) × (Nat → Nat) × Nat} {D : va_G} {dA : Nat → ClassId} {o : Nat} {ad : Nat → Nat} {A : Nat → Prop} (hD : tw_D o ad A) (a1 : Int32) (t0 tZ : TS) (r : Int32) (hf : fm_sumOf a1 t0 = some (r, tZ)) : Met l yX6_sumOf (ws_ yX6_sumOf cX6_sumOf 4 (some .int)) ({ frames := 2, cells := 0, slots := 0, locals := 32 }) (va_Pc [.ref o, .int a1] (tw_W X A D dA o ad t0)) (tw_Qi D dA o ad A r tZ) 0 0 A := by
  refine Met.ofW (cc := cX6_sumOf) (maxL := 4) (ret := some .int) (by decide) rfl ?_
  intro p e s m args below meth c s₁ B hml hv
  obtain ⟨rfl, hP, hK, hX⟩ := hv
  have hx := B.exec
  have hb := B.bytes
  have hr := B.returns
  have hts := atoms_spec (ws := (ws_ yX6_sumOf cX6_sumOf 4 (some .int))) B.pre
  have hts : ∀ w ∈ lw_all, w.before _ s = true := fun w h => hts w (List.mem_cons_of_mem _ h)
  have hown : s.vm.findClass "LosslessFabricModel" = some m.cls := findClass_of_methodNamed B.named
  have hlk := B.notSynchronized
  have C : tw_C X p s m _ c cX6_sumOf D dA o ad A := ⟨hx, hb, hts, hown, hK, hD, hX⟩
  have hS : va_S A s.heap s.heap [] := va_S.rf
  have hl := lv_entry ([.ref o, .int a1]) (n := 4) (Nat.le_of_ble_eq_true rfl)
  rw [lg_entry_eq]
  generalize (lg_sl ([.ref o, .int a1]) ++ List.replicate (4 - (lg_sl ([.ref o, .int a1])).length) Slot.unset).toArray = ls at hl ⊢
  have hl : lv_has ls 4 [(0, .ref o), (1, .int a1)] := hl
  unfold fm_sumOf at hf
  refine lv_iconst (v := (0 : Int32)) hx hb dX6_sumOf_0 (by decide) ?_
  refine lv_istore_n (lv' := [(2, .int (0 : Int32)), (0, .ref o), (1, .int a1)]) hx hb dX6_sumOf_1 rfl hl (by decide) rfl (fun ls hl => ?_)
  refine lv_iconst (v := (0 : Int32)) hx hb dX6_sumOf_2 (by decide) ?_
  refine lv_istore_n (lv' := [(3, .int (0 : Int32)), (2, .int (0 : Int32)), (0, .ref o), (1, .int a1)]) hx hb dX6_sumOf_3 rfl hl (by decide) rfl (fun ls hl => ?_)
  have k4 : ∀ (n : Nat) (v4_2 : Int32) (v4_3 : Int32) (t1 : TS) (H : Heap) (locs : List Loc) (ls : Array Slot), tw_P D dA o ad t1 H → va_S A s.heap H locs → lv_has ls 4 [(0, .ref o), (1, .int a1), (2, .int v4_2), (3, .int v4_3)] → tw_lp (fm_sumOf_L4 a1) (fun _ _ _ => none) n v4_2 v4_3 t1 = some (r, tZ) → W p l e (headSpec (ws_ yX6_sumOf cX6_sumOf 4 (some .int)) ({ frames := 2, cells := 0, slots := 0, locals := 32 })).room s m ([.ref o, .int a1] : List Value).toArray below meth c H locs 0 0 (MQ below (tw_Qi D dA o ad A r tZ) ([.ref o, .int a1] : List Value).toArray s 0 0 A) (F0 m 4 ls []) := by
    intro n
    induction n with
    | zero => intro v4_2 v4_3 t1 H locs ls hP hS hl hf; exact (tw_no hf).elim
    | succ n ih4 =>
      intro v4_2 v4_3 t1 H locs ls hP hS hl hf
      obtain ⟨sf4, hs4⟩ : ∃ f, f = tw_lp (fm_sumOf_L4 a1) (fun _ _ _ => none) n := ⟨_, rfl⟩
      rw [← hs4] at ih4
      have hf : fm_sumOf_L4 a1 sf4 v4_2 v4_3 t1 = some (r, tZ) := by rw [hs4]; exact hf
      clear hs4
      unfold fm_sumOf_L4 at hf
      refine lv_iload_n hx hb dX6_sumOf_4 rfl (lv_at hl 3 rfl) ?_
      refine lv_aload_n hx hb dX6_sumOf_5 rfl (lv_at hl 0 rfl) ?_
      obtain ⟨x2, t3, e4, hf⟩ := tw_bdE hf
      refine tw_cVi (As := []) (rest := [.int v4_3]) C hml hP hS (mm_flows (l := l) (X := X) (D := D) (dA := dA) hD _ _ _ e4) (cwV 0 hts (lw_V q1372 q1374 qs44 q106 q1375) rfl rfl rfl hdX6_flows ⟨Nat.le_of_ble_eq_true rfl, Nat.le_of_ble_eq_true rfl⟩) rfl hl.1 rfl (Nat.le_of_ble_eq_true rfl) dX6_sumOf_6 (fun H locs hP hS => ?_)
      refine lv_icmp_ge (tgt := 32) hx hb dX6_sumOf_9 (by decide) (fun hc => ?_) (fun hc => ?_)
      · have hf := tw_ifT hc hf
        refine lv_iload_n hx hb dX6_sumOf_32 rfl (lv_at hl 2 rfl) ?_
        exact tw_ireti (tw_rtE hf).1 (tw_rtE hf).2 C hr hP hS hlk dX6_sumOf_33
      · have hf := tw_ifF hc hf
        refine lv_iload_n hx hb dX6_sumOf_12 rfl (lv_at hl 2 rfl) ?_
        refine lv_aload_n hx hb dX6_sumOf_13 rfl (lv_at hl 0 rfl) ?_
        refine tw_aget (k := 26) C hP (by decide) (by decide) q1402 dX6_sumOf_14 ?_
        refine lv_iload_n hx hb dX6_sumOf_17 rfl (lv_at hl 3 rfl) ?_
        obtain ⟨x5, t6, e7, hf⟩ := tw_bdE hf
        refine tw_cSi (As := [.int v4_3]) (rest := [.ref (ad 26), .int v4_2]) C hml hP hS (mm_flowAt (l := l) (X := X) (D := D) (dA := dA) hD _ _ _ _ e7) (va_cwS 1 hts (lw_S q1661 q1662 q106 q1663) rfl rfl rfl hdX6_flowAt ⟨Nat.le_of_ble_eq_true rfl, Nat.le_of_ble_eq_true rfl⟩) rfl hl.1 rfl (Nat.le_of_ble_eq_true rfl) dX6_sumOf_18 (fun H locs hP hS => ?_)
        refine lv_iload_n hx hb dX6_sumOf_21 rfl (lv_at hl 1 rfl) ?_
        refine lv_iadd hx hb dX6_sumOf_22 ?_
        obtain ⟨x8, t9, e10, hf⟩ := tw_bdE hf
        refine tw_iald C hP e10 dX6_sumOf_23 (fun hP => ?_)
        refine lv_iadd hx hb dX6_sumOf_24 ?_
        refine lv_istore_n (lv' := [(2, .int (v4_2 + x8)), (0, .ref o), (1, .int a1), (3, .int v4_3)]) hx hb dX6_sumOf_25 rfl hl (by decide) rfl (fun ls hl => ?_)
        refine lv_iinc (v := (v4_3 + (1 : Int32))) (lv' := [(3, .int (v4_3 + (1 : Int32))), (2, .int (v4_2 + x8)), (0, .ref o), (1, .int a1)]) hx hb dX6_sumOf_26 hl (k := 3) rfl rfl (by decide) rfl (fun ls hl => ?_)
        refine lv_goto (tgt := 4) hx hb dX6_sumOf_29 (by decide) ?_
        exact ih4 _ _ _ _ _ _ hP hS (lv_sub hl [2, 3, 1, 0] rfl) hf
  exact k4 _ _ _ _ _ _ _ hP hS (lv_sub hl [2, 3, 1, 0] rfl) hf
def fm_worst_J16   : TM Int32 :=
  tw_rt (-1 : Int32)
def fm_worst_J170 (sf39 : Int32 → Int32 → Int32 → TM Int32) (v39_4 : Int32) (v170_2 : Int32) (v170_3 : Int32) : TM Int32 :=
  sf39 v170_2 v170_3 (v39_4 + (1 : Int32))
def fm_worst_J164 (sf39 : Int32 → Int32 → Int32 → TM Int32) (v39_4 : Int32) (x32 : Int32) (x38 : Int32) (x16 : Int32) (x22 : Int32)  : TM Int32 :=
  fm_worst_J170 sf39 v39_4 v39_4 ((x32 - x38) - (x16 - x22))
def fm_worst_L97 (a1 : Int32) (v39_4 : Int32) (v39_2 : Int32) (sf39 : Int32 → Int32 → Int32 → TM Int32) (x16 : Int32) (x22 : Int32) (v39_3 : Int32) (sf97 : Int32 → TM Int32) (v97_6 : Int32) : TM Int32 :=
  if a1 ≤ v97_6 then (tw_bd (fm_sumOf (5 : Int32)) fun x32 =>
   tw_bd (fm_flowAt v39_4) fun x35 =>
  tw_bd (tw_ld 26 (x35 + (5 : Int32))) fun x38 =>
    tw_bd (fm_copies 27 (0 : Int32) 26 (0 : Int32)) fun _ =>
  if v39_2 = (-2 : Int32) then (fm_worst_J164 sf39 v39_4 x32 x38 x16 x22)
  else (if v39_3 < ((x32 - x38) - (x16 - x22)) then (fm_worst_J164 sf39 v39_4 x32 x38 x16 x22)
  else (fm_worst_J170 sf39 v39_4 v39_2 v39_3)))
  else (tw_bd (fm_tickGoes) fun _ =>
 
  sf97 (v97_6 + (1 : Int32)))
def fm_worst_L39 (a1 : Int32) (sf39 : Int32 → Int32 → Int32 → TM Int32) (v39_2 : Int32) (v39_3 : Int32) (v39_4 : Int32) : TM Int32 :=
  tw_bd (fm_flows) fun x9 =>
  if x9 ≤ v39_4 then (tw_rt v39_2)
  else (tw_bd (fm_isOn v39_4) fun x12 =>
  if x12 = 0 then (fm_worst_J170 sf39 v39_4 v39_2 v39_3)
  else (tw_bd (fm_sumOf (5 : Int32)) fun x16 =>
   tw_bd (fm_flowAt v39_4) fun x19 =>
  tw_bd (tw_ld 26 (x19 + (5 : Int32))) fun x22 =>
   tw_bd (fm_flowAt v39_4) fun x25 =>
  tw_bd (tw_st 26 (x25 + (7 : Int32)) (0 : Int32)) fun _ =>
 
  tw_lp (fm_worst_L97 a1 v39_4 v39_2 sf39 x16 x22 v39_3) (fun _ _ => none) tw_fu (0 : Int32)))
def fm_worst (a1 : Int32) : TM Int32 :=
  tw_bd (tw_pi 0 (0 : Int32)) fun _ =>
  if a1 < (1 : Int32) then (fm_worst_J16)
  else (if a1 ≤ (40 : Int32) then (  tw_bd (fm_copies 26 (0 : Int32) 27 (0 : Int32)) fun _ =>
 
  tw_lp (fm_worst_L39 a1) (fun _ _ _ _ => none) tw_fu (-2 : Int32) (0 : Int32) (0 : Int32))
  else (fm_worst_J16))
theorem hdX6_worst : yX6_worst.cls = "LosslessFabricModel" ∧ (yX6_worst.cls ≠ "java/lang/invoke/MethodHandle" ∧ yX6_worst.cls ≠ "java/lang/invoke/VarHandle" ∧ (parseMethodDescriptor yX6_worst.desc).map (fun d => d.parameters.length) = some 1) := by decide +kernel
set_option maxHeartbeats 4000000 in
theorem mm_worst {l : Launch} {X : (Nat → Nat) × (Nat → Nat) × Nat} {D : va_G} {dA : Nat → ClassId} {o : Nat} {ad : Nat → Nat} {A : Nat → Prop} (hD : tw_D o ad A) (a1 : Int32) (t0 tZ : TS) (r : Int32) (hf : fm_worst a1 t0 = some (r, tZ)) : Met l yX6_worst (ws_ yX6_worst cX6_worst 7 (some .int)) ({ frames := 5, cells := 0, slots := 0, locals := 103 }) (va_Pc [.ref o, .int a1] (tw_W X A D dA o ad t0)) (tw_Qi D dA o ad A r tZ) 0 0 A := by
  refine Met.ofW (cc := cX6_worst) (maxL := 7) (ret := some .int) (by decide) rfl ?_
  intro p e s m args below meth c s₁ B hml hv
  obtain ⟨rfl, hP, hK, hX⟩ := hv
  have hx := B.exec
  have hb := B.bytes
  have hr := B.returns
  have hts := atoms_spec (ws := (ws_ yX6_worst cX6_worst 7 (some .int))) B.pre
  have hts : ∀ w ∈ lw_all, w.before _ s = true := fun w h => hts w (List.mem_cons_of_mem _ h)
  have hown : s.vm.findClass "LosslessFabricModel" = some m.cls := findClass_of_methodNamed B.named
  have hlk := B.notSynchronized
  have C : tw_C X p s m _ c cX6_worst D dA o ad A := ⟨hx, hb, hts, hown, hK, hD, hX⟩
  have hS : va_S A s.heap s.heap [] := va_S.rf
  have hl := lv_entry ([.ref o, .int a1]) (n := 7) (Nat.le_of_ble_eq_true rfl)
  rw [lg_entry_eq]
  generalize (lg_sl ([.ref o, .int a1]) ++ List.replicate (7 - (lg_sl ([.ref o, .int a1])).length) Slot.unset).toArray = ls at hl ⊢
  have hl : lv_has ls 7 [(0, .ref o), (1, .int a1)] := hl
  unfold fm_worst at hf
  refine lv_aload_n hx hb dX6_worst_0 rfl (lv_at hl 0 rfl) ?_
  refine lv_iconst (v := (0 : Int32)) hx hb dX6_worst_1 (by decide) ?_
  obtain ⟨x1, t2, e3, hf⟩ := tw_bdE hf
  refine tw_iput (k := 0) C hP hS (by decide) rfl e3 q1376 dX6_worst_2 (fun H locs hP hS => ?_)
  refine lv_iload_n hx hb dX6_worst_5 rfl (lv_at hl 1 rfl) ?_
  refine lv_iconst (v := (1 : Int32)) hx hb dX6_worst_6 (by decide) ?_
  have k16 : ∀  (t4 : TS) (H : Heap) (locs : List Loc) (ls : Array Slot), tw_P D dA o ad t4 H → va_S A s.heap H locs → lv_has ls 7 [] → fm_worst_J16  t4 = some (r, tZ) → W p l e (headSpec (ws_ yX6_worst cX6_worst 7 (some .int)) ({ frames := 5, cells := 0, slots := 0, locals := 103 })).room s m ([.ref o, .int a1] : List Value).toArray below meth c H locs 0 0 (MQ below (tw_Qi D dA o ad A r tZ) ([.ref o, .int a1] : List Value).toArray s 0 0 A) (F0 m 16 ls []) := by
    intro t4 H locs ls hP hS hl hf
    unfold fm_worst_J16 at hf
    refine lv_iconst (v := (-1 : Int32)) hx hb dX6_worst_16 (by decide) ?_
    exact tw_ireti (tw_rtE hf).1 (tw_rtE hf).2 C hr hP hS hlk dX6_worst_17
  refine lv_icmp_lt (tgt := 16) hx hb dX6_worst_7 (by decide) (fun hc => ?_) (fun hc => ?_)
  · have hf := tw_ifT hc hf
    exact k16 _ _ _ _ hP hS (lv_sub hl [] rfl) hf
  · have hf := tw_ifF hc hf
    refine lv_iload_n hx hb dX6_worst_10 rfl (lv_at hl 1 rfl) ?_
    refine lv_bipush (v := (40 : Int32)) hx hb dX6_worst_11 (by decide) ?_
    refine lv_icmp_le (tgt := 18) hx hb dX6_worst_13 (by decide) (fun hc => ?_) (fun hc => ?_)
    · have hf := tw_ifT hc hf
      refine lv_bipush (v := (-2 : Int32)) hx hb dX6_worst_18 (by decide) ?_
      refine lv_istore_n (lv' := [(2, .int (-2 : Int32)), (0, .ref o), (1, .int a1)]) hx hb dX6_worst_20 rfl hl (by decide) rfl (fun ls hl => ?_)
      refine lv_iconst (v := (0 : Int32)) hx hb dX6_worst_21 (by decide) ?_
      refine lv_istore_n (lv' := [(3, .int (0 : Int32)), (2, .int (-2 : Int32)), (0, .ref o), (1, .int a1)]) hx hb dX6_worst_22 rfl hl (by decide) rfl (fun ls hl => ?_)
      refine lv_aload_n hx hb dX6_worst_23 rfl (lv_at hl 2 rfl) ?_
      refine tw_aget (k := 26) C hP (by decide) (by decide) q1402 dX6_worst_24 ?_
      refine lv_iconst (v := (0 : Int32)) hx hb dX6_worst_27 (by decide) ?_
      refine lv_aload_n hx hb dX6_worst_28 rfl (lv_at hl 2 rfl) ?_
      refine tw_aget (k := 27) C hP (by decide) (by decide) q1403 dX6_worst_29 ?_
      refine lv_iconst (v := (0 : Int32)) hx hb dX6_worst_32 (by decide) ?_
      obtain ⟨x5, t6, e7, hf⟩ := tw_bdE hf
      refine tw_cSv (As := [.ref (ad 26), .int (0 : Int32), .ref (ad 27), .int (0 : Int32)]) (rest := []) C hml hP hS (mm_copies (l := l) (X := X) (D := D) (dA := dA) hD _ _ _ _ _ _ _ e7) (va_cwS 4 hts (lw_S q1638 q1639 q106 q1640) rfl rfl rfl hdX6_copies ⟨Nat.le_of_ble_eq_true rfl, Nat.le_of_ble_eq_true rfl⟩) rfl hl.1 rfl (Nat.le_of_ble_eq_true rfl) dX6_worst_33 (fun H locs hP hS => ?_)
      refine lv_iconst (v := (0 : Int32)) hx hb dX6_worst_36 (by decide) ?_
      refine lv_istore (lv' := [(4, .int (0 : Int32)), (3, .int (0 : Int32)), (2, .int (-2 : Int32)), (0, .ref o), (1, .int a1)]) hx hb dX6_worst_37 hl (by decide) rfl (fun ls hl => ?_)
      have k39 : ∀ (n : Nat) (v39_2 : Int32) (v39_3 : Int32) (v39_4 : Int32) (t8 : TS) (H : Heap) (locs : List Loc) (ls : Array Slot), tw_P D dA o ad t8 H → va_S A s.heap H locs → lv_has ls 7 [(0, .ref o), (1, .int a1), (2, .int v39_2), (3, .int v39_3), (4, .int v39_4)] → tw_lp (fm_worst_L39 a1) (fun _ _ _ _ => none) n v39_2 v39_3 v39_4 t8 = some (r, tZ) → W p l e (headSpec (ws_ yX6_worst cX6_worst 7 (some .int)) ({ frames := 5, cells := 0, slots := 0, locals := 103 })).room s m ([.ref o, .int a1] : List Value).toArray below meth c H locs 0 0 (MQ below (tw_Qi D dA o ad A r tZ) ([.ref o, .int a1] : List Value).toArray s 0 0 A) (F0 m 39 ls []) := by
        intro n
        induction n with
        | zero => intro v39_2 v39_3 v39_4 t8 H locs ls hP hS hl hf; exact (tw_no hf).elim
        | succ n ih39 =>
          intro v39_2 v39_3 v39_4 t8 H locs ls hP hS hl hf
          obtain ⟨sf39, hs39⟩ : ∃ f, f = tw_lp (fm_worst_L39 a1) (fun _ _ _ _ => none) n := ⟨_, rfl⟩
          rw [← hs39] at ih39
          have hf : fm_worst_L39 a1 sf39 v39_2 v39_3 v39_4 t8 = some (r, tZ) := by rw [hs39]; exact hf
          clear hs39
          unfold fm_worst_L39 at hf
          refine lv_iload hx hb dX6_worst_39 (lv_at hl 4 rfl) ?_
          refine lv_aload_n hx hb dX6_worst_41 rfl (lv_at hl 0 rfl) ?_
          obtain ⟨x9, t10, e11, hf⟩ := tw_bdE hf
          refine tw_cVi (As := []) (rest := [.int v39_4]) C hml hP hS (mm_flows (l := l) (X := X) (D := D) (dA := dA) hD _ _ _ e11) (cwV 0 hts (lw_V q1372 q1374 qs44 q106 q1375) rfl rfl rfl hdX6_flows ⟨Nat.le_of_ble_eq_true rfl, Nat.le_of_ble_eq_true rfl⟩) rfl hl.1 rfl (Nat.le_of_ble_eq_true rfl) dX6_worst_42 (fun H locs hP hS => ?_)
          refine lv_icmp_ge (tgt := 176) hx hb dX6_worst_45 (by decide) (fun hc => ?_) (fun hc => ?_)
          · have hf := tw_ifT hc hf
            refine lv_iload_n hx hb dX6_worst_176 rfl (lv_at hl 2 rfl) ?_
            exact tw_ireti (tw_rtE hf).1 (tw_rtE hf).2 C hr hP hS hlk dX6_worst_177
          · have hf := tw_ifF hc hf
            refine lv_aload_n hx hb dX6_worst_48 rfl (lv_at hl 0 rfl) ?_
            refine lv_iload hx hb dX6_worst_49 (lv_at hl 4 rfl) ?_
            obtain ⟨x12, t13, e14, hf⟩ := tw_bdE hf
            refine tw_cVi (As := [.int v39_4]) (rest := []) C hml hP hS (mm_isOn (l := l) (X := X) (D := D) (dA := dA) hD _ _ _ _ e14) (cwV 1 hts (lw_V q1664 q1666 qs66 q106 q1667) rfl rfl rfl hdX6_isOn ⟨Nat.le_of_ble_eq_true rfl, Nat.le_of_ble_eq_true rfl⟩) rfl hl.1 rfl (Nat.le_of_ble_eq_true rfl) dX6_worst_51 (fun H locs hP hS => ?_)
            have k170 : ∀ (v170_2 : Int32) (v170_3 : Int32) (t15 : TS) (H : Heap) (locs : List Loc) (ls : Array Slot), tw_P D dA o ad t15 H → va_S A s.heap H locs → lv_has ls 7 [(0, .ref o), (1, .int a1), (2, .int v170_2), (3, .int v170_3), (4, .int v39_4)] → fm_worst_J170 sf39 v39_4 v170_2 v170_3 t15 = some (r, tZ) → W p l e (headSpec (ws_ yX6_worst cX6_worst 7 (some .int)) ({ frames := 5, cells := 0, slots := 0, locals := 103 })).room s m ([.ref o, .int a1] : List Value).toArray below meth c H locs 0 0 (MQ below (tw_Qi D dA o ad A r tZ) ([.ref o, .int a1] : List Value).toArray s 0 0 A) (F0 m 170 ls []) := by
              intro v170_2 v170_3 t15 H locs ls hP hS hl hf
              unfold fm_worst_J170 at hf
              refine lv_iinc (v := (v39_4 + (1 : Int32))) (lv' := [(4, .int (v39_4 + (1 : Int32))), (0, .ref o), (1, .int a1), (2, .int v170_2), (3, .int v170_3)]) hx hb dX6_worst_170 hl (k := 4) rfl rfl (by decide) rfl (fun ls hl => ?_)
              refine lv_goto (tgt := 39) hx hb dX6_worst_173 (by decide) ?_
              exact ih39 _ _ _ _ _ _ _ hP hS (lv_sub hl [1, 2, 3, 4, 0] rfl) hf
            refine lv_if_ne (tgt := 60) hx hb dX6_worst_54 (by decide) (fun hc => ?_) (fun hc => ?_)
            · have hf := tw_ifF hc hf
              refine lv_aload_n hx hb dX6_worst_60 rfl (lv_at hl 0 rfl) ?_
              refine lv_iconst (v := (5 : Int32)) hx hb dX6_worst_61 (by decide) ?_
              obtain ⟨x16, t17, e18, hf⟩ := tw_bdE hf
              refine tw_cVi (As := [.int (5 : Int32)]) (rest := []) C hml hP hS (mm_sumOf (l := l) (X := X) (D := D) (dA := dA) hD _ _ _ _ e18) (cwV 1 hts (lw_V q1891 q1893 qs96 q106 q1894) rfl rfl rfl hdX6_sumOf ⟨Nat.le_of_ble_eq_true rfl, Nat.le_of_ble_eq_true rfl⟩) rfl hl.1 rfl (Nat.le_of_ble_eq_true rfl) dX6_worst_62 (fun H locs hP hS => ?_)
              refine lv_aload_n hx hb dX6_worst_65 rfl (lv_at hl 0 rfl) ?_
              refine tw_aget (k := 26) C hP (by decide) (by decide) q1402 dX6_worst_66 ?_
              refine lv_iload hx hb dX6_worst_69 (lv_at hl 4 rfl) ?_
              obtain ⟨x19, t20, e21, hf⟩ := tw_bdE hf
              refine tw_cSi (As := [.int v39_4]) (rest := [.ref (ad 26), .int x16]) C hml hP hS (mm_flowAt (l := l) (X := X) (D := D) (dA := dA) hD _ _ _ _ e21) (va_cwS 1 hts (lw_S q1661 q1662 q106 q1663) rfl rfl rfl hdX6_flowAt ⟨Nat.le_of_ble_eq_true rfl, Nat.le_of_ble_eq_true rfl⟩) rfl hl.1 rfl (Nat.le_of_ble_eq_true rfl) dX6_worst_71 (fun H locs hP hS => ?_)
              refine lv_iconst (v := (5 : Int32)) hx hb dX6_worst_74 (by decide) ?_
              refine lv_iadd hx hb dX6_worst_75 ?_
              obtain ⟨x22, t23, e24, hf⟩ := tw_bdE hf
              refine tw_iald C hP e24 dX6_worst_76 (fun hP => ?_)
              refine lv_isub hx hb dX6_worst_77 ?_
              refine lv_istore (lv' := [(5, .int (x16 - x22)), (0, .ref o), (1, .int a1), (2, .int v39_2), (3, .int v39_3), (4, .int v39_4)]) hx hb dX6_worst_78 hl (by decide) rfl (fun ls hl => ?_)
              refine lv_aload_n hx hb dX6_worst_80 rfl (lv_at hl 1 rfl) ?_
              refine tw_aget (k := 26) C hP (by decide) (by decide) q1402 dX6_worst_81 ?_
              refine lv_iload hx hb dX6_worst_84 (lv_at hl 5 rfl) ?_
              obtain ⟨x25, t26, e27, hf⟩ := tw_bdE hf
              refine tw_cSi (As := [.int v39_4]) (rest := [.ref (ad 26)]) C hml hP hS (mm_flowAt (l := l) (X := X) (D := D) (dA := dA) hD _ _ _ _ e27) (va_cwS 1 hts (lw_S q1661 q1662 q106 q1663) rfl rfl rfl hdX6_flowAt ⟨Nat.le_of_ble_eq_true rfl, Nat.le_of_ble_eq_true rfl⟩) rfl hl.1 rfl (Nat.le_of_ble_eq_true rfl) dX6_worst_86 (fun H locs hP hS => ?_)
              refine lv_bipush (v := (7 : Int32)) hx hb dX6_worst_89 (by decide) ?_
              refine lv_iadd hx hb dX6_worst_91 ?_
              refine lv_iconst (v := (0 : Int32)) hx hb dX6_worst_92 (by decide) ?_
              obtain ⟨x28, t29, e30, hf⟩ := tw_bdE hf
              refine tw_iast C hP hS e30 dX6_worst_93 (fun H locs hP hS => ?_)
              refine lv_iconst (v := (0 : Int32)) hx hb dX6_worst_94 (by decide) ?_
              refine lv_istore (lv' := [(6, .int (0 : Int32)), (5, .int (x16 - x22)), (0, .ref o), (1, .int a1), (2, .int v39_2), (3, .int v39_3), (4, .int v39_4)]) hx hb dX6_worst_95 hl (by decide) rfl (fun ls hl => ?_)
              have k97 : ∀ (n : Nat) (v97_6 : Int32) (t31 : TS) (H : Heap) (locs : List Loc) (ls : Array Slot), tw_P D dA o ad t31 H → va_S A s.heap H locs → lv_has ls 7 [(0, .ref o), (1, .int a1), (2, .int v39_2), (3, .int v39_3), (4, .int v39_4), (5, .int (x16 - x22)), (6, .int v97_6)] → tw_lp (fm_worst_L97 a1 v39_4 v39_2 sf39 x16 x22 v39_3) (fun _ _ => none) n v97_6 t31 = some (r, tZ) → W p l e (headSpec (ws_ yX6_worst cX6_worst 7 (some .int)) ({ frames := 5, cells := 0, slots := 0, locals := 103 })).room s m ([.ref o, .int a1] : List Value).toArray below meth c H locs 0 0 (MQ below (tw_Qi D dA o ad A r tZ) ([.ref o, .int a1] : List Value).toArray s 0 0 A) (F0 m 97 ls []) := by
                intro n
                induction n with
                | zero => intro v97_6 t31 H locs ls hP hS hl hf; exact (tw_no hf).elim
                | succ n ih97 =>
                  intro v97_6 t31 H locs ls hP hS hl hf
                  obtain ⟨sf97, hs97⟩ : ∃ f, f = tw_lp (fm_worst_L97 a1 v39_4 v39_2 sf39 x16 x22 v39_3) (fun _ _ => none) n := ⟨_, rfl⟩
                  rw [← hs97] at ih97
                  have hf : fm_worst_L97 a1 v39_4 v39_2 sf39 x16 x22 v39_3 sf97 v97_6 t31 = some (r, tZ) := by rw [hs97]; exact hf
                  clear hs97
                  unfold fm_worst_L97 at hf
                  refine lv_iload hx hb dX6_worst_97 (lv_at hl 6 rfl) ?_
                  refine lv_iload_n hx hb dX6_worst_99 rfl (lv_at hl 1 rfl) ?_
                  refine lv_icmp_ge (tgt := 113) hx hb dX6_worst_100 (by decide) (fun hc => ?_) (fun hc => ?_)
                  · have hf := tw_ifT hc hf
                    refine lv_aload_n hx hb dX6_worst_113 rfl (lv_at hl 0 rfl) ?_
                    refine lv_iconst (v := (5 : Int32)) hx hb dX6_worst_114 (by decide) ?_
                    obtain ⟨x32, t33, e34, hf⟩ := tw_bdE hf
                    refine tw_cVi (As := [.int (5 : Int32)]) (rest := []) C hml hP hS (mm_sumOf (l := l) (X := X) (D := D) (dA := dA) hD _ _ _ _ e34) (cwV 1 hts (lw_V q1891 q1893 qs96 q106 q1894) rfl rfl rfl hdX6_sumOf ⟨Nat.le_of_ble_eq_true rfl, Nat.le_of_ble_eq_true rfl⟩) rfl hl.1 rfl (Nat.le_of_ble_eq_true rfl) dX6_worst_115 (fun H locs hP hS => ?_)
                    refine lv_aload_n hx hb dX6_worst_118 rfl (lv_at hl 0 rfl) ?_
                    refine tw_aget (k := 26) C hP (by decide) (by decide) q1402 dX6_worst_119 ?_
                    refine lv_iload hx hb dX6_worst_122 (lv_at hl 4 rfl) ?_
                    obtain ⟨x35, t36, e37, hf⟩ := tw_bdE hf
                    refine tw_cSi (As := [.int v39_4]) (rest := [.ref (ad 26), .int x32]) C hml hP hS (mm_flowAt (l := l) (X := X) (D := D) (dA := dA) hD _ _ _ _ e37) (va_cwS 1 hts (lw_S q1661 q1662 q106 q1663) rfl rfl rfl hdX6_flowAt ⟨Nat.le_of_ble_eq_true rfl, Nat.le_of_ble_eq_true rfl⟩) rfl hl.1 rfl (Nat.le_of_ble_eq_true rfl) dX6_worst_124 (fun H locs hP hS => ?_)
                    refine lv_iconst (v := (5 : Int32)) hx hb dX6_worst_127 (by decide) ?_
                    refine lv_iadd hx hb dX6_worst_128 ?_
                    obtain ⟨x38, t39, e40, hf⟩ := tw_bdE hf
                    refine tw_iald C hP e40 dX6_worst_129 (fun hP => ?_)
                    refine lv_isub hx hb dX6_worst_130 ?_
                    refine lv_iload hx hb dX6_worst_131 (lv_at hl 5 rfl) ?_
                    refine lv_isub hx hb dX6_worst_133 ?_
                    refine lv_istore (lv' := [(6, .int ((x32 - x38) - (x16 - x22))), (0, .ref o), (1, .int a1), (2, .int v39_2), (3, .int v39_3), (4, .int v39_4), (5, .int (x16 - x22))]) hx hb dX6_worst_134 hl (by decide) rfl (fun ls hl => ?_)
                    refine lv_aload_n hx hb dX6_worst_136 rfl (lv_at hl 1 rfl) ?_
                    refine tw_aget (k := 27) C hP (by decide) (by decide) q1403 dX6_worst_137 ?_
                    refine lv_iconst (v := (0 : Int32)) hx hb dX6_worst_140 (by decide) ?_
                    refine lv_aload_n hx hb dX6_worst_141 rfl (lv_at hl 1 rfl) ?_
                    refine tw_aget (k := 26) C hP (by decide) (by decide) q1402 dX6_worst_142 ?_
                    refine lv_iconst (v := (0 : Int32)) hx hb dX6_worst_145 (by decide) ?_
                    obtain ⟨x41, t42, e43, hf⟩ := tw_bdE hf
                    refine tw_cSv (As := [.ref (ad 27), .int (0 : Int32), .ref (ad 26), .int (0 : Int32)]) (rest := []) C hml hP hS (mm_copies (l := l) (X := X) (D := D) (dA := dA) hD _ _ _ _ _ _ _ e43) (va_cwS 4 hts (lw_S q1638 q1639 q106 q1640) rfl rfl rfl hdX6_copies ⟨Nat.le_of_ble_eq_true rfl, Nat.le_of_ble_eq_true rfl⟩) rfl hl.1 rfl (Nat.le_of_ble_eq_true rfl) dX6_worst_146 (fun H locs hP hS => ?_)
                    refine lv_iload_n hx hb dX6_worst_149 rfl (lv_at hl 3 rfl) ?_
                    refine lv_bipush (v := (-2 : Int32)) hx hb dX6_worst_150 (by decide) ?_
                    have k164 : ∀  (t44 : TS) (H : Heap) (locs : List Loc) (ls : Array Slot), tw_P D dA o ad t44 H → va_S A s.heap H locs → lv_has ls 7 [(0, .ref o), (1, .int a1), (4, .int v39_4), (6, .int ((x32 - x38) - (x16 - x22)))] → fm_worst_J164 sf39 v39_4 x32 x38 x16 x22  t44 = some (r, tZ) → W p l e (headSpec (ws_ yX6_worst cX6_worst 7 (some .int)) ({ frames := 5, cells := 0, slots := 0, locals := 103 })).room s m ([.ref o, .int a1] : List Value).toArray below meth c H locs 0 0 (MQ below (tw_Qi D dA o ad A r tZ) ([.ref o, .int a1] : List Value).toArray s 0 0 A) (F0 m 164 ls []) := by
                      intro t44 H locs ls hP hS hl hf
                      unfold fm_worst_J164 at hf
                      refine lv_iload hx hb dX6_worst_164 (lv_at hl 2 rfl) ?_
                      refine lv_istore_n (lv' := [(2, .int v39_4), (0, .ref o), (1, .int a1), (4, .int v39_4), (6, .int ((x32 - x38) - (x16 - x22)))]) hx hb dX6_worst_166 rfl hl (by decide) rfl (fun ls hl => ?_)
                      refine lv_iload hx hb dX6_worst_167 (lv_at hl 4 rfl) ?_
                      refine lv_istore_n (lv' := [(3, .int ((x32 - x38) - (x16 - x22))), (2, .int v39_4), (0, .ref o), (1, .int a1), (4, .int v39_4), (6, .int ((x32 - x38) - (x16 - x22)))]) hx hb dX6_worst_169 rfl hl (by decide) rfl (fun ls hl => ?_)
                      exact k170 _ _ _ _ _ _ hP hS (lv_sub hl [2, 3, 1, 0, 4] rfl) hf
                    refine lv_icmp_eq (tgt := 164) hx hb dX6_worst_152 (by decide) (fun hc => ?_) (fun hc => ?_)
                    · have hf := tw_ifT hc hf
                      exact k164 _ _ _ _ hP hS (lv_sub hl [1, 2, 5, 0] rfl) hf
                    · have hf := tw_ifF hc hf
                      refine lv_iload hx hb dX6_worst_155 (lv_at hl 0 rfl) ?_
                      refine lv_iload_n hx hb dX6_worst_157 rfl (lv_at hl 4 rfl) ?_
                      refine lv_icmp_gt (tgt := 164) hx hb dX6_worst_158 (by decide) (fun hc => ?_) (fun hc => ?_)
                      · have hf := tw_ifT hc hf
                        exact k164 _ _ _ _ hP hS (lv_sub hl [1, 2, 5, 0] rfl) hf
                      · have hf := tw_ifF hc hf
                        refine lv_goto (tgt := 170) hx hb dX6_worst_161 (by decide) ?_
                        exact k170 _ _ _ _ _ _ hP hS (lv_sub hl [1, 2, 3, 4, 5] rfl) hf
                  · have hf := tw_ifF hc hf
                    refine lv_aload_n hx hb dX6_worst_103 rfl (lv_at hl 0 rfl) ?_
                    obtain ⟨x45, t46, e47, hf⟩ := tw_bdE hf
                    refine tw_cVv (As := []) (rest := []) C hml hP hS (mm_tickGoes (l := l) (X := X) (D := D) (dA := dA) hD _ _ _ e47) (cwV 0 hts (lw_V q1657 q1659 qs65 q106 q1660) rfl rfl rfl hdX6_tickGoes ⟨Nat.le_of_ble_eq_true rfl, Nat.le_of_ble_eq_true rfl⟩) rfl hl.1 rfl (Nat.le_of_ble_eq_true rfl) dX6_worst_104 (fun H locs hP hS => ?_)
                    refine lv_iinc (v := (v97_6 + (1 : Int32))) (lv' := [(6, .int (v97_6 + (1 : Int32))), (0, .ref o), (1, .int a1), (2, .int v39_2), (3, .int v39_3), (4, .int v39_4), (5, .int (x16 - x22))]) hx hb dX6_worst_107 hl (k := 6) rfl rfl (by decide) rfl (fun ls hl => ?_)
                    refine lv_goto (tgt := 97) hx hb dX6_worst_110 (by decide) ?_
                    exact ih97 _ _ _ _ _ hP hS (lv_sub hl [1, 2, 3, 4, 5, 6, 0] rfl) hf
              exact k97 _ _ _ _ _ _ hP hS (lv_sub hl [2, 3, 4, 5, 6, 1, 0] rfl) hf
            · have hf := tw_ifT hc hf
              refine lv_goto (tgt := 170) hx hb dX6_worst_57 (by decide) ?_
              exact k170 _ _ _ _ _ _ hP hS (lv_sub hl [0, 1, 2, 3, 4] rfl) hf
      exact k39 _ _ _ _ _ _ _ _ hP hS (lv_sub hl [3, 4, 2, 1, 0] rfl) hf
    · have hf := tw_ifF hc hf
      exact k16 _ _ _ _ hP hS (lv_sub hl [] rfl) hf
def fm_leastSize_J24   : TM Int32 :=
  tw_rt (-1 : Int32)
def fm_leastSize_J194  (w194_0 : Int32) : TM Int32 :=
  tw_rt w194_0
def fm_leastSize_J167 (v71_4 : Int32) (w167_0 : Int32) : TM Int32 :=
    tw_bd (fm_copies 27 (0 : Int32) 26 (0 : Int32)) fun _ =>
  if w167_0 = 0 then (fm_leastSize_J194 (-2 : Int32))
  else (fm_leastSize_J194 v71_4)
def fm_leastSize_J141 (sf71 : Int32 → Int32 → TM Int32) (v71_5 : Int32) (v141_4 : Int32) : TM Int32 :=
  sf71 v141_4 (v71_5 + (1 : Int32))
def fm_leastSize_L87 (sf71 : Int32 → Int32 → TM Int32) (v71_5 : Int32) (v71_4 : Int32) (a1 : Int32) (sf87 : Int32 → Int32 → TM Int32) (v87_6 : Int32) (v87_7 : Int32) : TM Int32 :=
  tw_bd (fm_flows) fun x30 =>
  if x30 ≤ v87_7 then (if v87_6 ≤ 0 then (fm_leastSize_J141 sf71 v71_5 v71_4)
  else (tw_bd (fm_queueOf a1) fun x34 =>
  if x34 ≤ v71_4 then (fm_leastSize_J141 sf71 v71_5 v71_4)
  else (tw_bd (fm_queueOf a1) fun x37 =>
 
  fm_leastSize_J141 sf71 v71_5 x37)))
  else ( tw_bd (tw_ld 35 (((8 : Int32) * a1) + v87_7)) fun x40 =>
 
  sf87 (v87_6 + x40) (v87_7 + (1 : Int32)))
def fm_leastSize_L71 (a2 : Int32) (a1 : Int32) (x14 : Int32) (sf71 : Int32 → Int32 → TM Int32) (v71_4 : Int32) (v71_5 : Int32) : TM Int32 :=
  if a2 ≤ v71_5 then ( tw_bd (tw_ld 26 (((24 : Int32) * a1) + (3 : Int32))) fun x18 =>
  if x18 = x14 then (fm_leastSize_J167 v71_4 (1 : Int32))
  else (fm_leastSize_J167 v71_4 (0 : Int32)))
  else (tw_bd (fm_tickGoes) fun _ =>
 
  tw_lp (fm_leastSize_L87 sf71 v71_5 v71_4 a1) (fun _ _ _ => none) tw_fu (0 : Int32) (0 : Int32))
def fm_leastSize (a1 : Int32) (a2 : Int32) : TM Int32 :=
  tw_bd (tw_pi 0 (0 : Int32)) fun _ =>
  tw_bd (fm_isLink a1) fun x4 =>
  if x4 = 0 then (fm_leastSize_J24)
  else (if a2 < (1 : Int32) then (fm_leastSize_J24)
  else (if a2 ≤ (100 : Int32) then (  tw_bd (fm_copies 26 (0 : Int32) 27 (0 : Int32)) fun _ =>
   tw_bd (tw_st 26 (((24 : Int32) * a1) + (2 : Int32)) (1999 : Int32)) fun _ =>
   tw_bd (tw_ld 26 (((24 : Int32) * a1) + (3 : Int32))) fun x14 =>
 
  tw_lp (fm_leastSize_L71 a2 a1 x14) (fun _ _ _ => none) tw_fu (1 : Int32) (0 : Int32))
  else (fm_leastSize_J24)))
theorem hdX6_leastSize : yX6_leastSize.cls = "LosslessFabricModel" ∧ (yX6_leastSize.cls ≠ "java/lang/invoke/MethodHandle" ∧ yX6_leastSize.cls ≠ "java/lang/invoke/VarHandle" ∧ (parseMethodDescriptor yX6_leastSize.desc).map (fun d => d.parameters.length) = some 2) := by decide +kernel
set_option maxHeartbeats 4000000 in
theorem mm_leastSize {l : Launch} {X : (Nat → Nat) × (Nat → Nat) × Nat} {D : va_G} {dA : Nat → ClassId} {o : Nat} {ad : Nat → Nat} {A : Nat → Prop} (hD : tw_D o ad A) (a1 : Int32) (a2 : Int32) (t0 tZ : TS) (r : Int32) (hf : fm_leastSize a1 a2 t0 = some (r, tZ)) : Met l yX6_leastSize (ws_ yX6_leastSize cX6_leastSize 8 (some .int)) ({ frames := 5, cells := 0, slots := 0, locals := 103 }) (va_Pc [.ref o, .int a1, .int a2] (tw_W X A D dA o ad t0)) (tw_Qi D dA o ad A r tZ) 0 0 A := by
  refine Met.ofW (cc := cX6_leastSize) (maxL := 8) (ret := some .int) (by decide) rfl ?_
  intro p e s m args below meth c s₁ B hml hv
  obtain ⟨rfl, hP, hK, hX⟩ := hv
  have hx := B.exec
  have hb := B.bytes
  have hr := B.returns
  have hts := atoms_spec (ws := (ws_ yX6_leastSize cX6_leastSize 8 (some .int))) B.pre
  have hts : ∀ w ∈ lw_all, w.before _ s = true := fun w h => hts w (List.mem_cons_of_mem _ h)
  have hown : s.vm.findClass "LosslessFabricModel" = some m.cls := findClass_of_methodNamed B.named
  have hlk := B.notSynchronized
  have C : tw_C X p s m _ c cX6_leastSize D dA o ad A := ⟨hx, hb, hts, hown, hK, hD, hX⟩
  have hS : va_S A s.heap s.heap [] := va_S.rf
  have hl := lv_entry ([.ref o, .int a1, .int a2]) (n := 8) (Nat.le_of_ble_eq_true rfl)
  rw [lg_entry_eq]
  generalize (lg_sl ([.ref o, .int a1, .int a2]) ++ List.replicate (8 - (lg_sl ([.ref o, .int a1, .int a2])).length) Slot.unset).toArray = ls at hl ⊢
  have hl : lv_has ls 8 [(0, .ref o), (1, .int a1), (2, .int a2)] := hl
  unfold fm_leastSize at hf
  refine lv_aload_n hx hb dX6_leastSize_0 rfl (lv_at hl 0 rfl) ?_
  refine lv_iconst (v := (0 : Int32)) hx hb dX6_leastSize_1 (by decide) ?_
  obtain ⟨x1, t2, e3, hf⟩ := tw_bdE hf
  refine tw_iput (k := 0) C hP hS (by decide) rfl e3 q1376 dX6_leastSize_2 (fun H locs hP hS => ?_)
  refine lv_aload_n hx hb dX6_leastSize_5 rfl (lv_at hl 0 rfl) ?_
  refine lv_iload_n hx hb dX6_leastSize_6 rfl (lv_at hl 1 rfl) ?_
  obtain ⟨x4, t5, e6, hf⟩ := tw_bdE hf
  refine tw_cVi (As := [.int a1]) (rest := []) C hml hP hS (mm_isLink (l := l) (X := X) (D := D) (dA := dA) hD _ _ _ _ e6) (cwV 1 hts (lw_V q1739 q1741 qs81 q106 q1742) rfl rfl rfl hdX6_isLink ⟨Nat.le_of_ble_eq_true rfl, Nat.le_of_ble_eq_true rfl⟩) rfl hl.1 rfl (Nat.le_of_ble_eq_true rfl) dX6_leastSize_7 (fun H locs hP hS => ?_)
  have k24 : ∀  (t7 : TS) (H : Heap) (locs : List Loc) (ls : Array Slot), tw_P D dA o ad t7 H → va_S A s.heap H locs → lv_has ls 8 [] → fm_leastSize_J24  t7 = some (r, tZ) → W p l e (headSpec (ws_ yX6_leastSize cX6_leastSize 8 (some .int)) ({ frames := 5, cells := 0, slots := 0, locals := 103 })).room s m ([.ref o, .int a1, .int a2] : List Value).toArray below meth c H locs 0 0 (MQ below (tw_Qi D dA o ad A r tZ) ([.ref o, .int a1, .int a2] : List Value).toArray s 0 0 A) (F0 m 24 ls []) := by
    intro t7 H locs ls hP hS hl hf
    unfold fm_leastSize_J24 at hf
    refine lv_iconst (v := (-1 : Int32)) hx hb dX6_leastSize_24 (by decide) ?_
    exact tw_ireti (tw_rtE hf).1 (tw_rtE hf).2 C hr hP hS hlk dX6_leastSize_25
  refine lv_if_eq (tgt := 24) hx hb dX6_leastSize_10 (by decide) (fun hc => ?_) (fun hc => ?_)
  · have hf := tw_ifT hc hf
    exact k24 _ _ _ _ hP hS (lv_sub hl [] rfl) hf
  · have hf := tw_ifF hc hf
    refine lv_iload_n hx hb dX6_leastSize_13 rfl (lv_at hl 2 rfl) ?_
    refine lv_iconst (v := (1 : Int32)) hx hb dX6_leastSize_14 (by decide) ?_
    refine lv_icmp_lt (tgt := 24) hx hb dX6_leastSize_15 (by decide) (fun hc => ?_) (fun hc => ?_)
    · have hf := tw_ifT hc hf
      exact k24 _ _ _ _ hP hS (lv_sub hl [] rfl) hf
    · have hf := tw_ifF hc hf
      refine lv_iload_n hx hb dX6_leastSize_18 rfl (lv_at hl 2 rfl) ?_
      refine lv_bipush (v := (100 : Int32)) hx hb dX6_leastSize_19 (by decide) ?_
      refine lv_icmp_le (tgt := 26) hx hb dX6_leastSize_21 (by decide) (fun hc => ?_) (fun hc => ?_)
      · have hf := tw_ifT hc hf
        refine lv_aload_n hx hb dX6_leastSize_26 rfl (lv_at hl 0 rfl) ?_
        refine tw_aget (k := 26) C hP (by decide) (by decide) q1402 dX6_leastSize_27 ?_
        refine lv_iconst (v := (0 : Int32)) hx hb dX6_leastSize_30 (by decide) ?_
        refine lv_aload_n hx hb dX6_leastSize_31 rfl (lv_at hl 0 rfl) ?_
        refine tw_aget (k := 27) C hP (by decide) (by decide) q1403 dX6_leastSize_32 ?_
        refine lv_iconst (v := (0 : Int32)) hx hb dX6_leastSize_35 (by decide) ?_
        obtain ⟨x8, t9, e10, hf⟩ := tw_bdE hf
        refine tw_cSv (As := [.ref (ad 26), .int (0 : Int32), .ref (ad 27), .int (0 : Int32)]) (rest := []) C hml hP hS (mm_copies (l := l) (X := X) (D := D) (dA := dA) hD _ _ _ _ _ _ _ e10) (va_cwS 4 hts (lw_S q1638 q1639 q106 q1640) rfl rfl rfl hdX6_copies ⟨Nat.le_of_ble_eq_true rfl, Nat.le_of_ble_eq_true rfl⟩) rfl hl.1 rfl (Nat.le_of_ble_eq_true rfl) dX6_leastSize_36 (fun H locs hP hS => ?_)
        refine lv_aload_n hx hb dX6_leastSize_39 rfl (lv_at hl 0 rfl) ?_
        refine tw_aget (k := 26) C hP (by decide) (by decide) q1402 dX6_leastSize_40 ?_
        refine lv_bipush (v := (24 : Int32)) hx hb dX6_leastSize_43 (by decide) ?_
        refine lv_iload_n hx hb dX6_leastSize_45 rfl (lv_at hl 1 rfl) ?_
        refine lv_imul hx hb dX6_leastSize_46 ?_
        refine lv_iconst (v := (2 : Int32)) hx hb dX6_leastSize_47 (by decide) ?_
        refine lv_iadd hx hb dX6_leastSize_48 ?_
        refine lv_sipush (v := (1999 : Int32)) hx hb dX6_leastSize_49 (by decide) ?_
        obtain ⟨x11, t12, e13, hf⟩ := tw_bdE hf
        refine tw_iast C hP hS e13 dX6_leastSize_52 (fun H locs hP hS => ?_)
        refine lv_aload_n hx hb dX6_leastSize_53 rfl (lv_at hl 0 rfl) ?_
        refine tw_aget (k := 26) C hP (by decide) (by decide) q1402 dX6_leastSize_54 ?_
        refine lv_bipush (v := (24 : Int32)) hx hb dX6_leastSize_57 (by decide) ?_
        refine lv_iload_n hx hb dX6_leastSize_59 rfl (lv_at hl 1 rfl) ?_
        refine lv_imul hx hb dX6_leastSize_60 ?_
        refine lv_iconst (v := (3 : Int32)) hx hb dX6_leastSize_61 (by decide) ?_
        refine lv_iadd hx hb dX6_leastSize_62 ?_
        obtain ⟨x14, t15, e16, hf⟩ := tw_bdE hf
        refine tw_iald C hP e16 dX6_leastSize_63 (fun hP => ?_)
        refine lv_istore_n (lv' := [(3, .int x14), (0, .ref o), (1, .int a1), (2, .int a2)]) hx hb dX6_leastSize_64 rfl hl (by decide) rfl (fun ls hl => ?_)
        refine lv_iconst (v := (1 : Int32)) hx hb dX6_leastSize_65 (by decide) ?_
        refine lv_istore (lv' := [(4, .int (1 : Int32)), (3, .int x14), (0, .ref o), (1, .int a1), (2, .int a2)]) hx hb dX6_leastSize_66 hl (by decide) rfl (fun ls hl => ?_)
        refine lv_iconst (v := (0 : Int32)) hx hb dX6_leastSize_68 (by decide) ?_
        refine lv_istore (lv' := [(5, .int (0 : Int32)), (4, .int (1 : Int32)), (3, .int x14), (0, .ref o), (1, .int a1), (2, .int a2)]) hx hb dX6_leastSize_69 hl (by decide) rfl (fun ls hl => ?_)
        have k71 : ∀ (n : Nat) (v71_4 : Int32) (v71_5 : Int32) (t17 : TS) (H : Heap) (locs : List Loc) (ls : Array Slot), tw_P D dA o ad t17 H → va_S A s.heap H locs → lv_has ls 8 [(0, .ref o), (1, .int a1), (2, .int a2), (3, .int x14), (4, .int v71_4), (5, .int v71_5)] → tw_lp (fm_leastSize_L71 a2 a1 x14) (fun _ _ _ => none) n v71_4 v71_5 t17 = some (r, tZ) → W p l e (headSpec (ws_ yX6_leastSize cX6_leastSize 8 (some .int)) ({ frames := 5, cells := 0, slots := 0, locals := 103 })).room s m ([.ref o, .int a1, .int a2] : List Value).toArray below meth c H locs 0 0 (MQ below (tw_Qi D dA o ad A r tZ) ([.ref o, .int a1, .int a2] : List Value).toArray s 0 0 A) (F0 m 71 ls []) := by
          intro n
          induction n with
          | zero => intro v71_4 v71_5 t17 H locs ls hP hS hl hf; exact (tw_no hf).elim
          | succ n ih71 =>
            intro v71_4 v71_5 t17 H locs ls hP hS hl hf
            obtain ⟨sf71, hs71⟩ : ∃ f, f = tw_lp (fm_leastSize_L71 a2 a1 x14) (fun _ _ _ => none) n := ⟨_, rfl⟩
            rw [← hs71] at ih71
            have hf : fm_leastSize_L71 a2 a1 x14 sf71 v71_4 v71_5 t17 = some (r, tZ) := by rw [hs71]; exact hf
            clear hs71
            unfold fm_leastSize_L71 at hf
            refine lv_iload hx hb dX6_leastSize_71 (lv_at hl 5 rfl) ?_
            refine lv_iload_n hx hb dX6_leastSize_73 rfl (lv_at hl 2 rfl) ?_
            refine lv_icmp_ge (tgt := 147) hx hb dX6_leastSize_74 (by decide) (fun hc => ?_) (fun hc => ?_)
            · have hf := tw_ifT hc hf
              refine lv_aload_n hx hb dX6_leastSize_147 rfl (lv_at hl 0 rfl) ?_
              refine tw_aget (k := 26) C hP (by decide) (by decide) q1402 dX6_leastSize_148 ?_
              refine lv_bipush (v := (24 : Int32)) hx hb dX6_leastSize_151 (by decide) ?_
              refine lv_iload_n hx hb dX6_leastSize_153 rfl (lv_at hl 1 rfl) ?_
              refine lv_imul hx hb dX6_leastSize_154 ?_
              refine lv_iconst (v := (3 : Int32)) hx hb dX6_leastSize_155 (by decide) ?_
              refine lv_iadd hx hb dX6_leastSize_156 ?_
              obtain ⟨x18, t19, e20, hf⟩ := tw_bdE hf
              refine tw_iald C hP e20 dX6_leastSize_157 (fun hP => ?_)
              refine lv_iload_n hx hb dX6_leastSize_158 rfl (lv_at hl 3 rfl) ?_
              have k167 : ∀ (w167_0 : Int32) (t21 : TS) (H : Heap) (locs : List Loc) (ls : Array Slot), tw_P D dA o ad t21 H → va_S A s.heap H locs → lv_has ls 8 [(0, .ref o), (4, .int v71_4)] → fm_leastSize_J167 v71_4 w167_0 t21 = some (r, tZ) → W p l e (headSpec (ws_ yX6_leastSize cX6_leastSize 8 (some .int)) ({ frames := 5, cells := 0, slots := 0, locals := 103 })).room s m ([.ref o, .int a1, .int a2] : List Value).toArray below meth c H locs 0 0 (MQ below (tw_Qi D dA o ad A r tZ) ([.ref o, .int a1, .int a2] : List Value).toArray s 0 0 A) (F0 m 167 ls [.int w167_0]) := by
                intro w167_0 t21 H locs ls hP hS hl hf
                unfold fm_leastSize_J167 at hf
                refine lv_istore (lv' := [(5, .int w167_0), (0, .ref o), (4, .int v71_4)]) hx hb dX6_leastSize_167 hl (by decide) rfl (fun ls hl => ?_)
                refine lv_aload_n hx hb dX6_leastSize_169 rfl (lv_at hl 1 rfl) ?_
                refine tw_aget (k := 27) C hP (by decide) (by decide) q1403 dX6_leastSize_170 ?_
                refine lv_iconst (v := (0 : Int32)) hx hb dX6_leastSize_173 (by decide) ?_
                refine lv_aload_n hx hb dX6_leastSize_174 rfl (lv_at hl 1 rfl) ?_
                refine tw_aget (k := 26) C hP (by decide) (by decide) q1402 dX6_leastSize_175 ?_
                refine lv_iconst (v := (0 : Int32)) hx hb dX6_leastSize_178 (by decide) ?_
                obtain ⟨x22, t23, e24, hf⟩ := tw_bdE hf
                refine tw_cSv (As := [.ref (ad 27), .int (0 : Int32), .ref (ad 26), .int (0 : Int32)]) (rest := []) C hml hP hS (mm_copies (l := l) (X := X) (D := D) (dA := dA) hD _ _ _ _ _ _ _ e24) (va_cwS 4 hts (lw_S q1638 q1639 q106 q1640) rfl rfl rfl hdX6_copies ⟨Nat.le_of_ble_eq_true rfl, Nat.le_of_ble_eq_true rfl⟩) rfl hl.1 rfl (Nat.le_of_ble_eq_true rfl) dX6_leastSize_179 (fun H locs hP hS => ?_)
                refine lv_iload hx hb dX6_leastSize_182 (lv_at hl 0 rfl) ?_
                have k194 : ∀ (w194_0 : Int32) (t25 : TS) (H : Heap) (locs : List Loc) (ls : Array Slot), tw_P D dA o ad t25 H → va_S A s.heap H locs → lv_has ls 8 [] → fm_leastSize_J194 w194_0 t25 = some (r, tZ) → W p l e (headSpec (ws_ yX6_leastSize cX6_leastSize 8 (some .int)) ({ frames := 5, cells := 0, slots := 0, locals := 103 })).room s m ([.ref o, .int a1, .int a2] : List Value).toArray below meth c H locs 0 0 (MQ below (tw_Qi D dA o ad A r tZ) ([.ref o, .int a1, .int a2] : List Value).toArray s 0 0 A) (F0 m 194 ls [.int w194_0]) := by
                  intro w194_0 t25 H locs ls hP hS hl hf
                  unfold fm_leastSize_J194 at hf
                  exact tw_ireti (tw_rtE hf).1 (tw_rtE hf).2 C hr hP hS hlk dX6_leastSize_194
                refine lv_if_eq (tgt := 192) hx hb dX6_leastSize_184 (by decide) (fun hc => ?_) (fun hc => ?_)
                · have hf := tw_ifT hc hf
                  refine lv_bipush (v := (-2 : Int32)) hx hb dX6_leastSize_192 (by decide) ?_
                  exact k194 _ _ _ _ _ hP hS (lv_sub hl [] rfl) hf
                · have hf := tw_ifF hc hf
                  refine lv_iload hx hb dX6_leastSize_187 (lv_at hl 2 rfl) ?_
                  refine lv_goto (tgt := 194) hx hb dX6_leastSize_189 (by decide) ?_
                  exact k194 _ _ _ _ _ hP hS (lv_sub hl [] rfl) hf
              refine lv_icmp_ne (tgt := 166) hx hb dX6_leastSize_159 (by decide) (fun hc => ?_) (fun hc => ?_)
              · have hf := tw_ifF hc hf
                refine lv_iconst (v := (0 : Int32)) hx hb dX6_leastSize_166 (by decide) ?_
                exact k167 _ _ _ _ _ hP hS (lv_sub hl [0, 4] rfl) hf
              · have hf := tw_ifT hc hf
                refine lv_iconst (v := (1 : Int32)) hx hb dX6_leastSize_162 (by decide) ?_
                refine lv_goto (tgt := 167) hx hb dX6_leastSize_163 (by decide) ?_
                exact k167 _ _ _ _ _ hP hS (lv_sub hl [0, 4] rfl) hf
            · have hf := tw_ifF hc hf
              refine lv_aload_n hx hb dX6_leastSize_77 rfl (lv_at hl 0 rfl) ?_
              obtain ⟨x26, t27, e28, hf⟩ := tw_bdE hf
              refine tw_cVv (As := []) (rest := []) C hml hP hS (mm_tickGoes (l := l) (X := X) (D := D) (dA := dA) hD _ _ _ e28) (cwV 0 hts (lw_V q1657 q1659 qs65 q106 q1660) rfl rfl rfl hdX6_tickGoes ⟨Nat.le_of_ble_eq_true rfl, Nat.le_of_ble_eq_true rfl⟩) rfl hl.1 rfl (Nat.le_of_ble_eq_true rfl) dX6_leastSize_78 (fun H locs hP hS => ?_)
              refine lv_iconst (v := (0 : Int32)) hx hb dX6_leastSize_81 (by decide) ?_
              refine lv_istore (lv' := [(6, .int (0 : Int32)), (0, .ref o), (1, .int a1), (2, .int a2), (3, .int x14), (4, .int v71_4), (5, .int v71_5)]) hx hb dX6_leastSize_82 hl (by decide) rfl (fun ls hl => ?_)
              refine lv_iconst (v := (0 : Int32)) hx hb dX6_leastSize_84 (by decide) ?_
              refine lv_istore (lv' := [(7, .int (0 : Int32)), (6, .int (0 : Int32)), (0, .ref o), (1, .int a1), (2, .int a2), (3, .int x14), (4, .int v71_4), (5, .int v71_5)]) hx hb dX6_leastSize_85 hl (by decide) rfl (fun ls hl => ?_)
              have k87 : ∀ (n : Nat) (v87_6 : Int32) (v87_7 : Int32) (t29 : TS) (H : Heap) (locs : List Loc) (ls : Array Slot), tw_P D dA o ad t29 H → va_S A s.heap H locs → lv_has ls 8 [(0, .ref o), (1, .int a1), (2, .int a2), (3, .int x14), (4, .int v71_4), (5, .int v71_5), (6, .int v87_6), (7, .int v87_7)] → tw_lp (fm_leastSize_L87 sf71 v71_5 v71_4 a1) (fun _ _ _ => none) n v87_6 v87_7 t29 = some (r, tZ) → W p l e (headSpec (ws_ yX6_leastSize cX6_leastSize 8 (some .int)) ({ frames := 5, cells := 0, slots := 0, locals := 103 })).room s m ([.ref o, .int a1, .int a2] : List Value).toArray below meth c H locs 0 0 (MQ below (tw_Qi D dA o ad A r tZ) ([.ref o, .int a1, .int a2] : List Value).toArray s 0 0 A) (F0 m 87 ls []) := by
                intro n
                induction n with
                | zero => intro v87_6 v87_7 t29 H locs ls hP hS hl hf; exact (tw_no hf).elim
                | succ n ih87 =>
                  intro v87_6 v87_7 t29 H locs ls hP hS hl hf
                  obtain ⟨sf87, hs87⟩ : ∃ f, f = tw_lp (fm_leastSize_L87 sf71 v71_5 v71_4 a1) (fun _ _ _ => none) n := ⟨_, rfl⟩
                  rw [← hs87] at ih87
                  have hf : fm_leastSize_L87 sf71 v71_5 v71_4 a1 sf87 v87_6 v87_7 t29 = some (r, tZ) := by rw [hs87]; exact hf
                  clear hs87
                  unfold fm_leastSize_L87 at hf
                  refine lv_iload hx hb dX6_leastSize_87 (lv_at hl 7 rfl) ?_
                  refine lv_aload_n hx hb dX6_leastSize_89 rfl (lv_at hl 0 rfl) ?_
                  obtain ⟨x30, t31, e32, hf⟩ := tw_bdE hf
                  refine tw_cVi (As := []) (rest := [.int v87_7]) C hml hP hS (mm_flows (l := l) (X := X) (D := D) (dA := dA) hD _ _ _ e32) (cwV 0 hts (lw_V q1372 q1374 qs44 q106 q1375) rfl rfl rfl hdX6_flows ⟨Nat.le_of_ble_eq_true rfl, Nat.le_of_ble_eq_true rfl⟩) rfl hl.1 rfl (Nat.le_of_ble_eq_true rfl) dX6_leastSize_90 (fun H locs hP hS => ?_)
                  refine lv_icmp_ge (tgt := 119) hx hb dX6_leastSize_93 (by decide) (fun hc => ?_) (fun hc => ?_)
                  · have hf := tw_ifT hc hf
                    refine lv_iload hx hb dX6_leastSize_119 (lv_at hl 6 rfl) ?_
                    have k141 : ∀ (v141_4 : Int32) (t33 : TS) (H : Heap) (locs : List Loc) (ls : Array Slot), tw_P D dA o ad t33 H → va_S A s.heap H locs → lv_has ls 8 [(0, .ref o), (1, .int a1), (2, .int a2), (3, .int x14), (4, .int v141_4), (5, .int v71_5)] → fm_leastSize_J141 sf71 v71_5 v141_4 t33 = some (r, tZ) → W p l e (headSpec (ws_ yX6_leastSize cX6_leastSize 8 (some .int)) ({ frames := 5, cells := 0, slots := 0, locals := 103 })).room s m ([.ref o, .int a1, .int a2] : List Value).toArray below meth c H locs 0 0 (MQ below (tw_Qi D dA o ad A r tZ) ([.ref o, .int a1, .int a2] : List Value).toArray s 0 0 A) (F0 m 141 ls []) := by
                      intro v141_4 t33 H locs ls hP hS hl hf
                      unfold fm_leastSize_J141 at hf
                      refine lv_iinc (v := (v71_5 + (1 : Int32))) (lv' := [(5, .int (v71_5 + (1 : Int32))), (0, .ref o), (1, .int a1), (2, .int a2), (3, .int x14), (4, .int v141_4)]) hx hb dX6_leastSize_141 hl (k := 5) rfl rfl (by decide) rfl (fun ls hl => ?_)
                      refine lv_goto (tgt := 71) hx hb dX6_leastSize_144 (by decide) ?_
                      exact ih71 _ _ _ _ _ _ hP hS (lv_sub hl [1, 2, 3, 4, 5, 0] rfl) hf
                    refine lv_if_le (tgt := 141) hx hb dX6_leastSize_121 (by decide) (fun hc => ?_) (fun hc => ?_)
                    · have hf := tw_ifT hc hf
                      exact k141 _ _ _ _ _ hP hS (lv_sub hl [0, 1, 2, 3, 4, 5] rfl) hf
                    · have hf := tw_ifF hc hf
                      refine lv_aload_n hx hb dX6_leastSize_124 rfl (lv_at hl 0 rfl) ?_
                      refine lv_iload_n hx hb dX6_leastSize_125 rfl (lv_at hl 1 rfl) ?_
                      obtain ⟨x34, t35, e36, hf⟩ := tw_bdE hf
                      refine tw_cVi (As := [.int a1]) (rest := []) C hml hP hS (mm_queueOf (l := l) (X := X) (D := D) (dA := dA) hD _ _ _ _ e36) (cwV 1 hts (lw_V q1691 q1693 qs72 q106 q1694) rfl rfl rfl hdX6_queueOf ⟨Nat.le_of_ble_eq_true rfl, Nat.le_of_ble_eq_true rfl⟩) rfl hl.1 rfl (Nat.le_of_ble_eq_true rfl) dX6_leastSize_126 (fun H locs hP hS => ?_)
                      refine lv_iload hx hb dX6_leastSize_129 (lv_at hl 4 rfl) ?_
                      refine lv_icmp_le (tgt := 141) hx hb dX6_leastSize_131 (by decide) (fun hc => ?_) (fun hc => ?_)
                      · have hf := tw_ifT hc hf
                        exact k141 _ _ _ _ _ hP hS (lv_sub hl [0, 1, 2, 3, 4, 5] rfl) hf
                      · have hf := tw_ifF hc hf
                        refine lv_aload_n hx hb dX6_leastSize_134 rfl (lv_at hl 0 rfl) ?_
                        refine lv_iload_n hx hb dX6_leastSize_135 rfl (lv_at hl 1 rfl) ?_
                        obtain ⟨x37, t38, e39, hf⟩ := tw_bdE hf
                        refine tw_cVi (As := [.int a1]) (rest := []) C hml hP hS (mm_queueOf (l := l) (X := X) (D := D) (dA := dA) hD _ _ _ _ e39) (cwV 1 hts (lw_V q1691 q1693 qs72 q106 q1694) rfl rfl rfl hdX6_queueOf ⟨Nat.le_of_ble_eq_true rfl, Nat.le_of_ble_eq_true rfl⟩) rfl hl.1 rfl (Nat.le_of_ble_eq_true rfl) dX6_leastSize_136 (fun H locs hP hS => ?_)
                        refine lv_istore (lv' := [(4, .int x37), (0, .ref o), (1, .int a1), (2, .int a2), (3, .int x14), (5, .int v71_5), (6, .int v87_6), (7, .int v87_7)]) hx hb dX6_leastSize_139 hl (by decide) rfl (fun ls hl => ?_)
                        exact k141 _ _ _ _ _ hP hS (lv_sub hl [1, 2, 3, 4, 0, 5] rfl) hf
                  · have hf := tw_ifF hc hf
                    refine lv_iload hx hb dX6_leastSize_96 (lv_at hl 6 rfl) ?_
                    refine lv_aload_n hx hb dX6_leastSize_98 rfl (lv_at hl 0 rfl) ?_
                    refine tw_aget (k := 35) C hP (by decide) (by decide) q1411 dX6_leastSize_99 ?_
                    refine lv_bipush (v := (8 : Int32)) hx hb dX6_leastSize_102 (by decide) ?_
                    refine lv_iload_n hx hb dX6_leastSize_104 rfl (lv_at hl 1 rfl) ?_
                    refine lv_imul hx hb dX6_leastSize_105 ?_
                    refine lv_iload hx hb dX6_leastSize_106 (lv_at hl 7 rfl) ?_
                    refine lv_iadd hx hb dX6_leastSize_108 ?_
                    obtain ⟨x40, t41, e42, hf⟩ := tw_bdE hf
                    refine tw_iald C hP e42 dX6_leastSize_109 (fun hP => ?_)
                    refine lv_iadd hx hb dX6_leastSize_110 ?_
                    refine lv_istore (lv' := [(6, .int (v87_6 + x40)), (0, .ref o), (1, .int a1), (2, .int a2), (3, .int x14), (4, .int v71_4), (5, .int v71_5), (7, .int v87_7)]) hx hb dX6_leastSize_111 hl (by decide) rfl (fun ls hl => ?_)
                    refine lv_iinc (v := (v87_7 + (1 : Int32))) (lv' := [(7, .int (v87_7 + (1 : Int32))), (6, .int (v87_6 + x40)), (0, .ref o), (1, .int a1), (2, .int a2), (3, .int x14), (4, .int v71_4), (5, .int v71_5)]) hx hb dX6_leastSize_113 hl (k := 7) rfl rfl (by decide) rfl (fun ls hl => ?_)
                    refine lv_goto (tgt := 87) hx hb dX6_leastSize_116 (by decide) ?_
                    exact ih87 _ _ _ _ _ _ hP hS (lv_sub hl [2, 3, 4, 5, 6, 7, 1, 0] rfl) hf
              exact k87 _ _ _ _ _ _ _ hP hS (lv_sub hl [2, 3, 4, 5, 6, 7, 1, 0] rfl) hf
        exact k71 _ _ _ _ _ _ _ hP hS (lv_sub hl [3, 4, 5, 2, 1, 0] rfl) hf
      · have hf := tw_ifF hc hf
        exact k24 _ _ _ _ hP hS (lv_sub hl [] rfl) hf
def fm_draw (a1 : Int32) : TM Int32 :=
  tw_bd (tw_gi 48) fun x1 =>
  tw_bd (tw_pi 48 (((x1 * (1103515245 : Int32)) + (12345 : Int32)) &&& (2147483647 : Int32))) fun _ =>
  tw_bd (tw_gi 48) fun x7 =>
  tw_bd (tw_nz a1) fun _ =>
  tw_rt ((x7 >>> ((16 : Int32) &&& 31)) - (x7 >>> ((16 : Int32) &&& 31)) / a1 * a1)
theorem hdX6_draw : yX6_draw.cls = "LosslessFabricModel" ∧ (yX6_draw.cls ≠ "java/lang/invoke/MethodHandle" ∧ yX6_draw.cls ≠ "java/lang/invoke/VarHandle" ∧ (parseMethodDescriptor yX6_draw.desc).map (fun d => d.parameters.length) = some 1) := by decide +kernel
set_option maxHeartbeats 4000000 in
theorem mm_draw {l : Launch} {X : (Nat → Nat) × (Nat → Nat) × Nat} {D : va_G} {dA : Nat → ClassId} {o : Nat} {ad : Nat → Nat} {A : Nat → Prop} (hD : tw_D o ad A) (a1 : Int32) (t0 tZ : TS) (r : Int32) (hf : fm_draw a1 t0 = some (r, tZ)) : Met l yX6_draw (ws_ yX6_draw cX6_draw 2 (some .int)) ({ frames := 1, cells := 0, slots := 0, locals := 12 }) (va_Pc [.ref o, .int a1] (tw_W X A D dA o ad t0)) (tw_Qi D dA o ad A r tZ) 0 0 A := by
  refine Met.ofW (cc := cX6_draw) (maxL := 2) (ret := some .int) (by decide) rfl ?_
  intro p e s m args below meth c s₁ B hml hv
  obtain ⟨rfl, hP, hK, hX⟩ := hv
  have hx := B.exec
  have hb := B.bytes
  have hr := B.returns
  have hts := atoms_spec (ws := (ws_ yX6_draw cX6_draw 2 (some .int))) B.pre
  have hts : ∀ w ∈ lw_all, w.before _ s = true := fun w h => hts w (List.mem_cons_of_mem _ h)
  have hown : s.vm.findClass "LosslessFabricModel" = some m.cls := findClass_of_methodNamed B.named
  have hlk := B.notSynchronized
  have C : tw_C X p s m _ c cX6_draw D dA o ad A := ⟨hx, hb, hts, hown, hK, hD, hX⟩
  have hS : va_S A s.heap s.heap [] := va_S.rf
  have hl := lv_entry ([.ref o, .int a1]) (n := 2) (Nat.le_of_ble_eq_true rfl)
  rw [lg_entry_eq]
  generalize (lg_sl ([.ref o, .int a1]) ++ List.replicate (2 - (lg_sl ([.ref o, .int a1])).length) Slot.unset).toArray = ls at hl ⊢
  have hl : lv_has ls 2 [(0, .ref o), (1, .int a1)] := hl
  unfold fm_draw at hf
  refine lv_aload_n hx hb dX6_draw_0 rfl (lv_at hl 0 rfl) ?_
  refine lv_aload_n hx hb dX6_draw_1 rfl (lv_at hl 0 rfl) ?_
  obtain ⟨x1, t2, e3, hf⟩ := tw_bdE hf
  refine tw_iget (k := 48) C hP (by decide) (Or.inl rfl) e3 q1424 dX6_draw_2 (fun hP => ?_)
  refine lv_ldcw hx hb hown (hts _ q1911) dX6_draw_5 ?_
  refine lv_imul hx hb dX6_draw_8 ?_
  refine lv_sipush (v := (12345 : Int32)) hx hb dX6_draw_9 (by decide) ?_
  refine lv_iadd hx hb dX6_draw_12 ?_
  refine lv_ldcw hx hb hown (hts _ q1912) dX6_draw_13 ?_
  refine lv_iand hx hb dX6_draw_16 ?_
  obtain ⟨x4, t5, e6, hf⟩ := tw_bdE hf
  refine tw_iput (k := 48) C hP hS (by decide) rfl e6 q1424 dX6_draw_17 (fun H locs hP hS => ?_)
  refine lv_aload_n hx hb dX6_draw_20 rfl (lv_at hl 0 rfl) ?_
  obtain ⟨x7, t8, e9, hf⟩ := tw_bdE hf
  refine tw_iget (k := 48) C hP (by decide) (Or.inl rfl) e9 q1424 dX6_draw_21 (fun hP => ?_)
  refine lv_bipush (v := (16 : Int32)) hx hb dX6_draw_24 (by decide) ?_
  refine lv_ishr hx hb dX6_draw_26 ?_
  refine lv_iload_n hx hb dX6_draw_27 rfl (lv_at hl 1 rfl) ?_
  obtain ⟨w10, t11, e12, hf⟩ := tw_bdE hf
  rw [← (tw_nzE e12).2] at hf
  refine lv_irem hx hb dX6_draw_28 (tw_nzE e12).1 ?_
  exact tw_ireti (tw_rtE hf).1 (tw_rtE hf).2 C hr hP hS hlk dX6_draw_29
def fm_lostAll_L4  (sf4 : Int32 → Int32 → TM Int32) (v4_1 : Int32) (v4_2 : Int32) : TM Int32 :=
  tw_bd (fm_links) fun x2 =>
  if x2 ≤ v4_2 then (tw_rt v4_1)
  else ( tw_bd (tw_ld 26 (((24 : Int32) * v4_2) + (3 : Int32))) fun x5 =>
 
  sf4 (v4_1 + x5) (v4_2 + (1 : Int32)))
def fm_lostAll  : TM Int32 :=
  tw_lp (fm_lostAll_L4) (fun _ _ _ => none) tw_fu (0 : Int32) (0 : Int32)
theorem hdX6_lostAll : yX6_lostAll.cls = "LosslessFabricModel" ∧ (yX6_lostAll.cls ≠ "java/lang/invoke/MethodHandle" ∧ yX6_lostAll.cls ≠ "java/lang/invoke/VarHandle" ∧ (parseMethodDescriptor yX6_lostAll.desc).map (fun d => d.parameters.length) = some 0) := by decide +kernel
set_option maxHeartbeats 4000000 in
theorem mm_lostAll {l : Launch} {X : (Nat → Nat) × (Nat → Nat) × Nat} {D : va_G} {dA : Nat → ClassId} {o : Nat} {ad : Nat → Nat} {A : Nat → Prop} (hD : tw_D o ad A)  (t0 tZ : TS) (r : Int32) (hf : fm_lostAll  t0 = some (r, tZ)) : Met l yX6_lostAll (ws_ yX6_lostAll cX6_lostAll 3 (some .int)) ({ frames := 2, cells := 0, slots := 0, locals := 32 }) (va_Pc [.ref o] (tw_W X A D dA o ad t0)) (tw_Qi D dA o ad A r tZ) 0 0 A := by
  refine Met.ofW (cc := cX6_lostAll) (maxL := 3) (ret := some .int) (by decide) rfl ?_
  intro p e s m args below meth c s₁ B hml hv
  obtain ⟨rfl, hP, hK, hX⟩ := hv
  have hx := B.exec
  have hb := B.bytes
  have hr := B.returns
  have hts := atoms_spec (ws := (ws_ yX6_lostAll cX6_lostAll 3 (some .int))) B.pre
  have hts : ∀ w ∈ lw_all, w.before _ s = true := fun w h => hts w (List.mem_cons_of_mem _ h)
  have hown : s.vm.findClass "LosslessFabricModel" = some m.cls := findClass_of_methodNamed B.named
  have hlk := B.notSynchronized
  have C : tw_C X p s m _ c cX6_lostAll D dA o ad A := ⟨hx, hb, hts, hown, hK, hD, hX⟩
  have hS : va_S A s.heap s.heap [] := va_S.rf
  have hl := lv_entry ([.ref o]) (n := 3) (Nat.le_of_ble_eq_true rfl)
  rw [lg_entry_eq]
  generalize (lg_sl ([.ref o]) ++ List.replicate (3 - (lg_sl ([.ref o])).length) Slot.unset).toArray = ls at hl ⊢
  have hl : lv_has ls 3 [(0, .ref o)] := hl
  unfold fm_lostAll at hf
  refine lv_iconst (v := (0 : Int32)) hx hb dX6_lostAll_0 (by decide) ?_
  refine lv_istore_n (lv' := [(1, .int (0 : Int32)), (0, .ref o)]) hx hb dX6_lostAll_1 rfl hl (by decide) rfl (fun ls hl => ?_)
  refine lv_iconst (v := (0 : Int32)) hx hb dX6_lostAll_2 (by decide) ?_
  refine lv_istore_n (lv' := [(2, .int (0 : Int32)), (1, .int (0 : Int32)), (0, .ref o)]) hx hb dX6_lostAll_3 rfl hl (by decide) rfl (fun ls hl => ?_)
  have k4 : ∀ (n : Nat) (v4_1 : Int32) (v4_2 : Int32) (t1 : TS) (H : Heap) (locs : List Loc) (ls : Array Slot), tw_P D dA o ad t1 H → va_S A s.heap H locs → lv_has ls 3 [(0, .ref o), (1, .int v4_1), (2, .int v4_2)] → tw_lp (fm_lostAll_L4) (fun _ _ _ => none) n v4_1 v4_2 t1 = some (r, tZ) → W p l e (headSpec (ws_ yX6_lostAll cX6_lostAll 3 (some .int)) ({ frames := 2, cells := 0, slots := 0, locals := 32 })).room s m ([.ref o] : List Value).toArray below meth c H locs 0 0 (MQ below (tw_Qi D dA o ad A r tZ) ([.ref o] : List Value).toArray s 0 0 A) (F0 m 4 ls []) := by
    intro n
    induction n with
    | zero => intro v4_1 v4_2 t1 H locs ls hP hS hl hf; exact (tw_no hf).elim
    | succ n ih4 =>
      intro v4_1 v4_2 t1 H locs ls hP hS hl hf
      obtain ⟨sf4, hs4⟩ : ∃ f, f = tw_lp (fm_lostAll_L4) (fun _ _ _ => none) n := ⟨_, rfl⟩
      rw [← hs4] at ih4
      have hf : fm_lostAll_L4 sf4 v4_1 v4_2 t1 = some (r, tZ) := by rw [hs4]; exact hf
      clear hs4
      unfold fm_lostAll_L4 at hf
      refine lv_iload_n hx hb dX6_lostAll_4 rfl (lv_at hl 2 rfl) ?_
      refine lv_aload_n hx hb dX6_lostAll_5 rfl (lv_at hl 0 rfl) ?_
      obtain ⟨x2, t3, e4, hf⟩ := tw_bdE hf
      refine tw_cVi (As := []) (rest := [.int v4_2]) C hml hP hS (mm_links (l := l) (X := X) (D := D) (dA := dA) hD _ _ _ e4) (cwV 0 hts (lw_V q1368 q1370 qs43 q106 q1371) rfl rfl rfl hdX6_links ⟨Nat.le_of_ble_eq_true rfl, Nat.le_of_ble_eq_true rfl⟩) rfl hl.1 rfl (Nat.le_of_ble_eq_true rfl) dX6_lostAll_6 (fun H locs hP hS => ?_)
      refine lv_icmp_ge (tgt := 32) hx hb dX6_lostAll_9 (by decide) (fun hc => ?_) (fun hc => ?_)
      · have hf := tw_ifT hc hf
        refine lv_iload_n hx hb dX6_lostAll_32 rfl (lv_at hl 1 rfl) ?_
        exact tw_ireti (tw_rtE hf).1 (tw_rtE hf).2 C hr hP hS hlk dX6_lostAll_33
      · have hf := tw_ifF hc hf
        refine lv_iload_n hx hb dX6_lostAll_12 rfl (lv_at hl 1 rfl) ?_
        refine lv_aload_n hx hb dX6_lostAll_13 rfl (lv_at hl 0 rfl) ?_
        refine tw_aget (k := 26) C hP (by decide) (by decide) q1402 dX6_lostAll_14 ?_
        refine lv_bipush (v := (24 : Int32)) hx hb dX6_lostAll_17 (by decide) ?_
        refine lv_iload_n hx hb dX6_lostAll_19 rfl (lv_at hl 2 rfl) ?_
        refine lv_imul hx hb dX6_lostAll_20 ?_
        refine lv_iconst (v := (3 : Int32)) hx hb dX6_lostAll_21 (by decide) ?_
        refine lv_iadd hx hb dX6_lostAll_22 ?_
        obtain ⟨x5, t6, e7, hf⟩ := tw_bdE hf
        refine tw_iald C hP e7 dX6_lostAll_23 (fun hP => ?_)
        refine lv_iadd hx hb dX6_lostAll_24 ?_
        refine lv_istore_n (lv' := [(1, .int (v4_1 + x5)), (0, .ref o), (2, .int v4_2)]) hx hb dX6_lostAll_25 rfl hl (by decide) rfl (fun ls hl => ?_)
        refine lv_iinc (v := (v4_2 + (1 : Int32))) (lv' := [(2, .int (v4_2 + (1 : Int32))), (1, .int (v4_1 + x5)), (0, .ref o)]) hx hb dX6_lostAll_26 hl (k := 2) rfl rfl (by decide) rfl (fun ls hl => ?_)
        refine lv_goto (tgt := 4) hx hb dX6_lostAll_29 (by decide) ?_
        exact ih4 _ _ _ _ _ _ hP hS (lv_sub hl [2, 1, 0] rfl) hf
  exact k4 _ _ _ _ _ _ _ hP hS (lv_sub hl [2, 1, 0] rfl) hf
def fm_chance_J43   : TM Int32 :=
  tw_rt (-1 : Int32)
def fm_chance_J246  (w246_0 : Int32) : TM Int32 :=
    tw_bd (fm_copies 28 (0 : Int32) 26 (0 : Int32)) fun _ =>
  tw_rt w246_0
def fm_chance_J243 (w107_0 : Int32) (w243_0 : Int32) : TM Int32 :=
  fm_chance_J246 (w243_0 - w107_0)
def fm_chance_J240 (w107_0 : Int32) (w240_0 : Int32) : TM Int32 :=
  tw_bd (fm_sumOf w240_0) fun x20 =>
 
  fm_chance_J243 w107_0 x20
def fm_chance_J194 (sf115 : Int32 → Int32 → TM Int32) (v115_6 : Int32) (v115_7 : Int32) (w194_0 : Int32) : TM Int32 :=
  sf115 (v115_6 + w194_0) (v115_7 + (1 : Int32))
def fm_chance_J176 (sf115 : Int32 → Int32 → TM Int32) (v115_6 : Int32) (v115_7 : Int32)  : TM Int32 :=
  tw_bd (fm_tickGoes) fun _ =>
  tw_bd (fm_isStalled) fun x33 =>
  if x33 = 0 then (fm_chance_J194 sf115 v115_6 v115_7 (0 : Int32))
  else (fm_chance_J194 sf115 v115_6 v115_7 (1 : Int32))
def fm_chance_L115 (a2 : Int32) (a4 : Int32) (w107_0 : Int32) (a3 : Int32) (sf115 : Int32 → Int32 → TM Int32) (v115_6 : Int32) (v115_7 : Int32) : TM Int32 :=
  if a2 ≤ v115_7 then (if a4 = (2 : Int32) then (fm_chance_J246 v115_6)
  else (if a4 = (1 : Int32) then (tw_bd (fm_lostAll) fun x23 =>
 
  fm_chance_J243 w107_0 x23)
  else (if a4 = (3 : Int32) then (fm_chance_J240 w107_0 (6 : Int32))
  else (fm_chance_J240 w107_0 (5 : Int32)))))
  else (tw_bd (fm_flows) fun x26 =>
  if x26 ≤ 0 then (fm_chance_J176 sf115 v115_6 v115_7)
  else (tw_bd (fm_flows) fun x37 =>
  tw_bd (fm_draw x37) fun x40 =>
  tw_bd (fm_draw (100 : Int32)) fun x43 =>
  if a3 ≤ x43 then (fm_chance_J176 sf115 v115_6 v115_7)
  else ( tw_bd (fm_flowAt x40) fun x46 =>
   tw_bd (fm_flowAt x40) fun x49 =>
  tw_bd (tw_ld 26 (x49 + (7 : Int32))) fun x52 =>
  tw_bd (tw_st 26 (x46 + (7 : Int32)) ((1 : Int32) - x52)) fun _ =>
 
  fm_chance_J176 sf115 v115_6 v115_7)))
def fm_chance_J107 (a2 : Int32) (a4 : Int32) (a3 : Int32) (w107_0 : Int32) : TM Int32 :=
  tw_lp (fm_chance_L115 a2 a4 w107_0 a3) (fun _ _ _ => none) tw_fu (0 : Int32) (0 : Int32)
def fm_chance_J104 (a2 : Int32) (a4 : Int32) (a3 : Int32) (w104_0 : Int32) : TM Int32 :=
  tw_bd (fm_sumOf w104_0) fun x59 =>
 
  fm_chance_J107 a2 a4 a3 x59
def fm_chance_J62 (a4 : Int32) (a2 : Int32) (a3 : Int32) (w62_0 : Int32) : TM Int32 :=
  tw_bd (tw_pi 48 w62_0) fun _ =>
    tw_bd (fm_copies 26 (0 : Int32) 28 (0 : Int32)) fun _ =>
  if a4 = (1 : Int32) then (tw_bd (fm_lostAll) fun x62 =>
 
  fm_chance_J107 a2 a4 a3 x62)
  else (if a4 = (3 : Int32) then (fm_chance_J104 a2 a4 a3 (6 : Int32))
  else (fm_chance_J104 a2 a4 a3 (5 : Int32)))
def fm_chance (a1 : Int32) (a2 : Int32) (a3 : Int32) (a4 : Int32) : TM Int32 :=
  tw_bd (tw_pi 0 (0 : Int32)) fun _ =>
  if a1 < (-1 : Int32) then (fm_chance_J43)
  else (if a2 < (1 : Int32) then (fm_chance_J43)
  else (if (200 : Int32) < a2 then (fm_chance_J43)
  else (if a3 < 0 then (fm_chance_J43)
  else (if (100 : Int32) < a3 then (fm_chance_J43)
  else (if a4 < 0 then (fm_chance_J43)
  else (if a4 ≤ (3 : Int32) then (if a1 = (-1 : Int32) then ( tw_bd (tw_ld 3 (8 : Int32)) fun x65 =>
 
  fm_chance_J62 a4 a2 a3 x65)
  else (fm_chance_J62 a4 a2 a3 a1))
  else (fm_chance_J43)))))))
theorem hdX6_chance : yX6_chance.cls = "LosslessFabricModel" ∧ (yX6_chance.cls ≠ "java/lang/invoke/MethodHandle" ∧ yX6_chance.cls ≠ "java/lang/invoke/VarHandle" ∧ (parseMethodDescriptor yX6_chance.desc).map (fun d => d.parameters.length) = some 4) := by decide +kernel
set_option maxHeartbeats 4000000 in
theorem mm_chance {l : Launch} {X : (Nat → Nat) × (Nat → Nat) × Nat} {D : va_G} {dA : Nat → ClassId} {o : Nat} {ad : Nat → Nat} {A : Nat → Prop} (hD : tw_D o ad A) (a1 : Int32) (a2 : Int32) (a3 : Int32) (a4 : Int32) (t0 tZ : TS) (r : Int32) (hf : fm_chance a1 a2 a3 a4 t0 = some (r, tZ)) : Met l yX6_chance (ws_ yX6_chance cX6_chance 9 (some .int)) ({ frames := 6, cells := 0, slots := 0, locals := 125 }) (va_Pc [.ref o, .int a1, .int a2, .int a3, .int a4] (tw_W X A D dA o ad t0)) (tw_Qi D dA o ad A r tZ) 0 0 A := by
  refine Met.ofW (cc := cX6_chance) (maxL := 9) (ret := some .int) (by decide) rfl ?_
  intro p e s m args below meth c s₁ B hml hv
  obtain ⟨rfl, hP, hK, hX⟩ := hv
  have hx := B.exec
  have hb := B.bytes
  have hr := B.returns
  have hts := atoms_spec (ws := (ws_ yX6_chance cX6_chance 9 (some .int))) B.pre
  have hts : ∀ w ∈ lw_all, w.before _ s = true := fun w h => hts w (List.mem_cons_of_mem _ h)
  have hown : s.vm.findClass "LosslessFabricModel" = some m.cls := findClass_of_methodNamed B.named
  have hlk := B.notSynchronized
  have C : tw_C X p s m _ c cX6_chance D dA o ad A := ⟨hx, hb, hts, hown, hK, hD, hX⟩
  have hS : va_S A s.heap s.heap [] := va_S.rf
  have hl := lv_entry ([.ref o, .int a1, .int a2, .int a3, .int a4]) (n := 9) (Nat.le_of_ble_eq_true rfl)
  rw [lg_entry_eq]
  generalize (lg_sl ([.ref o, .int a1, .int a2, .int a3, .int a4]) ++ List.replicate (9 - (lg_sl ([.ref o, .int a1, .int a2, .int a3, .int a4])).length) Slot.unset).toArray = ls at hl ⊢
  have hl : lv_has ls 9 [(0, .ref o), (1, .int a1), (2, .int a2), (3, .int a3), (4, .int a4)] := hl
  unfold fm_chance at hf
  refine lv_aload_n hx hb dX6_chance_0 rfl (lv_at hl 0 rfl) ?_
  refine lv_iconst (v := (0 : Int32)) hx hb dX6_chance_1 (by decide) ?_
  obtain ⟨x1, t2, e3, hf⟩ := tw_bdE hf
  refine tw_iput (k := 0) C hP hS (by decide) rfl e3 q1376 dX6_chance_2 (fun H locs hP hS => ?_)
  refine lv_iload_n hx hb dX6_chance_5 rfl (lv_at hl 1 rfl) ?_
  refine lv_iconst (v := (-1 : Int32)) hx hb dX6_chance_6 (by decide) ?_
  have k43 : ∀  (t4 : TS) (H : Heap) (locs : List Loc) (ls : Array Slot), tw_P D dA o ad t4 H → va_S A s.heap H locs → lv_has ls 9 [] → fm_chance_J43  t4 = some (r, tZ) → W p l e (headSpec (ws_ yX6_chance cX6_chance 9 (some .int)) ({ frames := 6, cells := 0, slots := 0, locals := 125 })).room s m ([.ref o, .int a1, .int a2, .int a3, .int a4] : List Value).toArray below meth c H locs 0 0 (MQ below (tw_Qi D dA o ad A r tZ) ([.ref o, .int a1, .int a2, .int a3, .int a4] : List Value).toArray s 0 0 A) (F0 m 43 ls []) := by
    intro t4 H locs ls hP hS hl hf
    unfold fm_chance_J43 at hf
    refine lv_iconst (v := (-1 : Int32)) hx hb dX6_chance_43 (by decide) ?_
    exact tw_ireti (tw_rtE hf).1 (tw_rtE hf).2 C hr hP hS hlk dX6_chance_44
  refine lv_icmp_lt (tgt := 43) hx hb dX6_chance_7 (by decide) (fun hc => ?_) (fun hc => ?_)
  · have hf := tw_ifT hc hf
    exact k43 _ _ _ _ hP hS (lv_sub hl [] rfl) hf
  · have hf := tw_ifF hc hf
    refine lv_iload_n hx hb dX6_chance_10 rfl (lv_at hl 2 rfl) ?_
    refine lv_iconst (v := (1 : Int32)) hx hb dX6_chance_11 (by decide) ?_
    refine lv_icmp_lt (tgt := 43) hx hb dX6_chance_12 (by decide) (fun hc => ?_) (fun hc => ?_)
    · have hf := tw_ifT hc hf
      exact k43 _ _ _ _ hP hS (lv_sub hl [] rfl) hf
    · have hf := tw_ifF hc hf
      refine lv_iload_n hx hb dX6_chance_15 rfl (lv_at hl 2 rfl) ?_
      refine lv_sipush (v := (200 : Int32)) hx hb dX6_chance_16 (by decide) ?_
      refine lv_icmp_gt (tgt := 43) hx hb dX6_chance_19 (by decide) (fun hc => ?_) (fun hc => ?_)
      · have hf := tw_ifT hc hf
        exact k43 _ _ _ _ hP hS (lv_sub hl [] rfl) hf
      · have hf := tw_ifF hc hf
        refine lv_iload_n hx hb dX6_chance_22 rfl (lv_at hl 3 rfl) ?_
        refine lv_if_lt (tgt := 43) hx hb dX6_chance_23 (by decide) (fun hc => ?_) (fun hc => ?_)
        · have hf := tw_ifT hc hf
          exact k43 _ _ _ _ hP hS (lv_sub hl [] rfl) hf
        · have hf := tw_ifF hc hf
          refine lv_iload_n hx hb dX6_chance_26 rfl (lv_at hl 3 rfl) ?_
          refine lv_bipush (v := (100 : Int32)) hx hb dX6_chance_27 (by decide) ?_
          refine lv_icmp_gt (tgt := 43) hx hb dX6_chance_29 (by decide) (fun hc => ?_) (fun hc => ?_)
          · have hf := tw_ifT hc hf
            exact k43 _ _ _ _ hP hS (lv_sub hl [] rfl) hf
          · have hf := tw_ifF hc hf
            refine lv_iload hx hb dX6_chance_32 (lv_at hl 4 rfl) ?_
            refine lv_if_lt (tgt := 43) hx hb dX6_chance_34 (by decide) (fun hc => ?_) (fun hc => ?_)
            · have hf := tw_ifT hc hf
              exact k43 _ _ _ _ hP hS (lv_sub hl [] rfl) hf
            · have hf := tw_ifF hc hf
              refine lv_iload hx hb dX6_chance_37 (lv_at hl 4 rfl) ?_
              refine lv_iconst (v := (3 : Int32)) hx hb dX6_chance_39 (by decide) ?_
              refine lv_icmp_le (tgt := 45) hx hb dX6_chance_40 (by decide) (fun hc => ?_) (fun hc => ?_)
              · have hf := tw_ifT hc hf
                refine lv_aload_n hx hb dX6_chance_45 rfl (lv_at hl 0 rfl) ?_
                refine lv_iload_n hx hb dX6_chance_46 rfl (lv_at hl 1 rfl) ?_
                refine lv_iconst (v := (-1 : Int32)) hx hb dX6_chance_47 (by decide) ?_
                have k62 : ∀ (w62_0 : Int32) (t5 : TS) (H : Heap) (locs : List Loc) (ls : Array Slot), tw_P D dA o ad t5 H → va_S A s.heap H locs → lv_has ls 9 [(0, .ref o), (2, .int a2), (3, .int a3), (4, .int a4)] → fm_chance_J62 a4 a2 a3 w62_0 t5 = some (r, tZ) → W p l e (headSpec (ws_ yX6_chance cX6_chance 9 (some .int)) ({ frames := 6, cells := 0, slots := 0, locals := 125 })).room s m ([.ref o, .int a1, .int a2, .int a3, .int a4] : List Value).toArray below meth c H locs 0 0 (MQ below (tw_Qi D dA o ad A r tZ) ([.ref o, .int a1, .int a2, .int a3, .int a4] : List Value).toArray s 0 0 A) (F0 m 62 ls [.int w62_0, .ref o]) := by
                  intro w62_0 t5 H locs ls hP hS hl hf
                  unfold fm_chance_J62 at hf
                  obtain ⟨x6, t7, e8, hf⟩ := tw_bdE hf
                  refine tw_iput (k := 48) C hP hS (by decide) rfl e8 q1424 dX6_chance_62 (fun H locs hP hS => ?_)
                  refine lv_aload_n hx hb dX6_chance_65 rfl (lv_at hl 0 rfl) ?_
                  refine tw_aget (k := 26) C hP (by decide) (by decide) q1402 dX6_chance_66 ?_
                  refine lv_iconst (v := (0 : Int32)) hx hb dX6_chance_69 (by decide) ?_
                  refine lv_aload_n hx hb dX6_chance_70 rfl (lv_at hl 0 rfl) ?_
                  refine tw_aget (k := 28) C hP (by decide) (by decide) q1404 dX6_chance_71 ?_
                  refine lv_iconst (v := (0 : Int32)) hx hb dX6_chance_74 (by decide) ?_
                  obtain ⟨x9, t10, e11, hf⟩ := tw_bdE hf
                  refine tw_cSv (As := [.ref (ad 26), .int (0 : Int32), .ref (ad 28), .int (0 : Int32)]) (rest := []) C hml hP hS (mm_copies (l := l) (X := X) (D := D) (dA := dA) hD _ _ _ _ _ _ _ e11) (va_cwS 4 hts (lw_S q1638 q1639 q106 q1640) rfl rfl rfl hdX6_copies ⟨Nat.le_of_ble_eq_true rfl, Nat.le_of_ble_eq_true rfl⟩) rfl hl.1 rfl (Nat.le_of_ble_eq_true rfl) dX6_chance_75 (fun H locs hP hS => ?_)
                  refine lv_iload hx hb dX6_chance_78 (lv_at hl 3 rfl) ?_
                  refine lv_iconst (v := (1 : Int32)) hx hb dX6_chance_80 (by decide) ?_
                  have k107 : ∀ (w107_0 : Int32) (t12 : TS) (H : Heap) (locs : List Loc) (ls : Array Slot), tw_P D dA o ad t12 H → va_S A s.heap H locs → lv_has ls 9 [(0, .ref o), (2, .int a2), (3, .int a3), (4, .int a4)] → fm_chance_J107 a2 a4 a3 w107_0 t12 = some (r, tZ) → W p l e (headSpec (ws_ yX6_chance cX6_chance 9 (some .int)) ({ frames := 6, cells := 0, slots := 0, locals := 125 })).room s m ([.ref o, .int a1, .int a2, .int a3, .int a4] : List Value).toArray below meth c H locs 0 0 (MQ below (tw_Qi D dA o ad A r tZ) ([.ref o, .int a1, .int a2, .int a3, .int a4] : List Value).toArray s 0 0 A) (F0 m 107 ls [.int w107_0]) := by
                    intro w107_0 t12 H locs ls hP hS hl hf
                    unfold fm_chance_J107 at hf
                    refine lv_istore (lv' := [(5, .int w107_0), (0, .ref o), (2, .int a2), (3, .int a3), (4, .int a4)]) hx hb dX6_chance_107 hl (by decide) rfl (fun ls hl => ?_)
                    refine lv_iconst (v := (0 : Int32)) hx hb dX6_chance_109 (by decide) ?_
                    refine lv_istore (lv' := [(6, .int (0 : Int32)), (5, .int w107_0), (0, .ref o), (2, .int a2), (3, .int a3), (4, .int a4)]) hx hb dX6_chance_110 hl (by decide) rfl (fun ls hl => ?_)
                    refine lv_iconst (v := (0 : Int32)) hx hb dX6_chance_112 (by decide) ?_
                    refine lv_istore (lv' := [(7, .int (0 : Int32)), (6, .int (0 : Int32)), (5, .int w107_0), (0, .ref o), (2, .int a2), (3, .int a3), (4, .int a4)]) hx hb dX6_chance_113 hl (by decide) rfl (fun ls hl => ?_)
                    have k115 : ∀ (n : Nat) (v115_6 : Int32) (v115_7 : Int32) (t13 : TS) (H : Heap) (locs : List Loc) (ls : Array Slot), tw_P D dA o ad t13 H → va_S A s.heap H locs → lv_has ls 9 [(0, .ref o), (2, .int a2), (3, .int a3), (4, .int a4), (5, .int w107_0), (6, .int v115_6), (7, .int v115_7)] → tw_lp (fm_chance_L115 a2 a4 w107_0 a3) (fun _ _ _ => none) n v115_6 v115_7 t13 = some (r, tZ) → W p l e (headSpec (ws_ yX6_chance cX6_chance 9 (some .int)) ({ frames := 6, cells := 0, slots := 0, locals := 125 })).room s m ([.ref o, .int a1, .int a2, .int a3, .int a4] : List Value).toArray below meth c H locs 0 0 (MQ below (tw_Qi D dA o ad A r tZ) ([.ref o, .int a1, .int a2, .int a3, .int a4] : List Value).toArray s 0 0 A) (F0 m 115 ls []) := by
                      intro n
                      induction n with
                      | zero => intro v115_6 v115_7 t13 H locs ls hP hS hl hf; exact (tw_no hf).elim
                      | succ n ih115 =>
                        intro v115_6 v115_7 t13 H locs ls hP hS hl hf
                        obtain ⟨sf115, hs115⟩ : ∃ f, f = tw_lp (fm_chance_L115 a2 a4 w107_0 a3) (fun _ _ _ => none) n := ⟨_, rfl⟩
                        rw [← hs115] at ih115
                        have hf : fm_chance_L115 a2 a4 w107_0 a3 sf115 v115_6 v115_7 t13 = some (r, tZ) := by rw [hs115]; exact hf
                        clear hs115
                        unfold fm_chance_L115 at hf
                        refine lv_iload hx hb dX6_chance_115 (lv_at hl 6 rfl) ?_
                        refine lv_iload_n hx hb dX6_chance_117 rfl (lv_at hl 1 rfl) ?_
                        refine lv_icmp_ge (tgt := 203) hx hb dX6_chance_118 (by decide) (fun hc => ?_) (fun hc => ?_)
                        · have hf := tw_ifT hc hf
                          refine lv_iload hx hb dX6_chance_203 (lv_at hl 3 rfl) ?_
                          refine lv_iconst (v := (2 : Int32)) hx hb dX6_chance_205 (by decide) ?_
                          have k246 : ∀ (w246_0 : Int32) (t14 : TS) (H : Heap) (locs : List Loc) (ls : Array Slot), tw_P D dA o ad t14 H → va_S A s.heap H locs → lv_has ls 9 [(0, .ref o)] → fm_chance_J246 w246_0 t14 = some (r, tZ) → W p l e (headSpec (ws_ yX6_chance cX6_chance 9 (some .int)) ({ frames := 6, cells := 0, slots := 0, locals := 125 })).room s m ([.ref o, .int a1, .int a2, .int a3, .int a4] : List Value).toArray below meth c H locs 0 0 (MQ below (tw_Qi D dA o ad A r tZ) ([.ref o, .int a1, .int a2, .int a3, .int a4] : List Value).toArray s 0 0 A) (F0 m 246 ls [.int w246_0]) := by
                            intro w246_0 t14 H locs ls hP hS hl hf
                            unfold fm_chance_J246 at hf
                            refine lv_istore (lv' := [(7, .int w246_0), (0, .ref o)]) hx hb dX6_chance_246 hl (by decide) rfl (fun ls hl => ?_)
                            refine lv_aload_n hx hb dX6_chance_248 rfl (lv_at hl 1 rfl) ?_
                            refine tw_aget (k := 28) C hP (by decide) (by decide) q1404 dX6_chance_249 ?_
                            refine lv_iconst (v := (0 : Int32)) hx hb dX6_chance_252 (by decide) ?_
                            refine lv_aload_n hx hb dX6_chance_253 rfl (lv_at hl 1 rfl) ?_
                            refine tw_aget (k := 26) C hP (by decide) (by decide) q1402 dX6_chance_254 ?_
                            refine lv_iconst (v := (0 : Int32)) hx hb dX6_chance_257 (by decide) ?_
                            obtain ⟨x15, t16, e17, hf⟩ := tw_bdE hf
                            refine tw_cSv (As := [.ref (ad 28), .int (0 : Int32), .ref (ad 26), .int (0 : Int32)]) (rest := []) C hml hP hS (mm_copies (l := l) (X := X) (D := D) (dA := dA) hD _ _ _ _ _ _ _ e17) (va_cwS 4 hts (lw_S q1638 q1639 q106 q1640) rfl rfl rfl hdX6_copies ⟨Nat.le_of_ble_eq_true rfl, Nat.le_of_ble_eq_true rfl⟩) rfl hl.1 rfl (Nat.le_of_ble_eq_true rfl) dX6_chance_258 (fun H locs hP hS => ?_)
                            refine lv_iload hx hb dX6_chance_261 (lv_at hl 0 rfl) ?_
                            exact tw_ireti (tw_rtE hf).1 (tw_rtE hf).2 C hr hP hS hlk dX6_chance_263
                          refine lv_icmp_ne (tgt := 214) hx hb dX6_chance_206 (by decide) (fun hc => ?_) (fun hc => ?_)
                          · have hf := tw_ifF hc hf
                            refine lv_iload hx hb dX6_chance_214 (lv_at hl 3 rfl) ?_
                            refine lv_iconst (v := (1 : Int32)) hx hb dX6_chance_216 (by decide) ?_
                            have k243 : ∀ (w243_0 : Int32) (t18 : TS) (H : Heap) (locs : List Loc) (ls : Array Slot), tw_P D dA o ad t18 H → va_S A s.heap H locs → lv_has ls 9 [(0, .ref o), (5, .int w107_0)] → fm_chance_J243 w107_0 w243_0 t18 = some (r, tZ) → W p l e (headSpec (ws_ yX6_chance cX6_chance 9 (some .int)) ({ frames := 6, cells := 0, slots := 0, locals := 125 })).room s m ([.ref o, .int a1, .int a2, .int a3, .int a4] : List Value).toArray below meth c H locs 0 0 (MQ below (tw_Qi D dA o ad A r tZ) ([.ref o, .int a1, .int a2, .int a3, .int a4] : List Value).toArray s 0 0 A) (F0 m 243 ls [.int w243_0]) := by
                              intro w243_0 t18 H locs ls hP hS hl hf
                              unfold fm_chance_J243 at hf
                              refine lv_iload hx hb dX6_chance_243 (lv_at hl 1 rfl) ?_
                              refine lv_isub hx hb dX6_chance_245 ?_
                              exact k246 _ _ _ _ _ hP hS (lv_sub hl [0] rfl) hf
                            refine lv_icmp_ne (tgt := 227) hx hb dX6_chance_217 (by decide) (fun hc => ?_) (fun hc => ?_)
                            · have hf := tw_ifF hc hf
                              refine lv_aload_n hx hb dX6_chance_227 rfl (lv_at hl 0 rfl) ?_
                              refine lv_iload hx hb dX6_chance_228 (lv_at hl 3 rfl) ?_
                              refine lv_iconst (v := (3 : Int32)) hx hb dX6_chance_230 (by decide) ?_
                              have k240 : ∀ (w240_0 : Int32) (t19 : TS) (H : Heap) (locs : List Loc) (ls : Array Slot), tw_P D dA o ad t19 H → va_S A s.heap H locs → lv_has ls 9 [(0, .ref o), (5, .int w107_0)] → fm_chance_J240 w107_0 w240_0 t19 = some (r, tZ) → W p l e (headSpec (ws_ yX6_chance cX6_chance 9 (some .int)) ({ frames := 6, cells := 0, slots := 0, locals := 125 })).room s m ([.ref o, .int a1, .int a2, .int a3, .int a4] : List Value).toArray below meth c H locs 0 0 (MQ below (tw_Qi D dA o ad A r tZ) ([.ref o, .int a1, .int a2, .int a3, .int a4] : List Value).toArray s 0 0 A) (F0 m 240 ls [.int w240_0, .ref o]) := by
                                intro w240_0 t19 H locs ls hP hS hl hf
                                unfold fm_chance_J240 at hf
                                obtain ⟨x20, t21, e22, hf⟩ := tw_bdE hf
                                refine tw_cVi (As := [.int w240_0]) (rest := []) C hml hP hS (mm_sumOf (l := l) (X := X) (D := D) (dA := dA) hD _ _ _ _ e22) (cwV 1 hts (lw_V q1891 q1893 qs96 q106 q1894) rfl rfl rfl hdX6_sumOf ⟨Nat.le_of_ble_eq_true rfl, Nat.le_of_ble_eq_true rfl⟩) rfl hl.1 rfl (Nat.le_of_ble_eq_true rfl) dX6_chance_240 (fun H locs hP hS => ?_)
                                exact k243 _ _ _ _ _ hP hS (lv_sub hl [0, 1] rfl) hf
                              refine lv_icmp_ne (tgt := 239) hx hb dX6_chance_231 (by decide) (fun hc => ?_) (fun hc => ?_)
                              · have hf := tw_ifF hc hf
                                refine lv_iconst (v := (5 : Int32)) hx hb dX6_chance_239 (by decide) ?_
                                exact k240 _ _ _ _ _ hP hS (lv_sub hl [0, 4] rfl) hf
                              · have hf := tw_ifT hc hf
                                refine lv_bipush (v := (6 : Int32)) hx hb dX6_chance_234 (by decide) ?_
                                refine lv_goto (tgt := 240) hx hb dX6_chance_236 (by decide) ?_
                                exact k240 _ _ _ _ _ hP hS (lv_sub hl [0, 4] rfl) hf
                            · have hf := tw_ifT hc hf
                              refine lv_aload_n hx hb dX6_chance_220 rfl (lv_at hl 0 rfl) ?_
                              obtain ⟨x23, t24, e25, hf⟩ := tw_bdE hf
                              refine tw_cVi (As := []) (rest := []) C hml hP hS (mm_lostAll (l := l) (X := X) (D := D) (dA := dA) hD _ _ _ e25) (cwV 0 hts (lw_V q1903 q1905 qs97 q106 q1906) rfl rfl rfl hdX6_lostAll ⟨Nat.le_of_ble_eq_true rfl, Nat.le_of_ble_eq_true rfl⟩) rfl hl.1 rfl (Nat.le_of_ble_eq_true rfl) dX6_chance_221 (fun H locs hP hS => ?_)
                              refine lv_goto (tgt := 243) hx hb dX6_chance_224 (by decide) ?_
                              exact k243 _ _ _ _ _ hP hS (lv_sub hl [0, 4] rfl) hf
                          · have hf := tw_ifT hc hf
                            refine lv_iload hx hb dX6_chance_209 (lv_at hl 5 rfl) ?_
                            refine lv_goto (tgt := 246) hx hb dX6_chance_211 (by decide) ?_
                            exact k246 _ _ _ _ _ hP hS (lv_sub hl [0] rfl) hf
                        · have hf := tw_ifF hc hf
                          refine lv_aload_n hx hb dX6_chance_121 rfl (lv_at hl 0 rfl) ?_
                          obtain ⟨x26, t27, e28, hf⟩ := tw_bdE hf
                          refine tw_cVi (As := []) (rest := []) C hml hP hS (mm_flows (l := l) (X := X) (D := D) (dA := dA) hD _ _ _ e28) (cwV 0 hts (lw_V q1372 q1374 qs44 q106 q1375) rfl rfl rfl hdX6_flows ⟨Nat.le_of_ble_eq_true rfl, Nat.le_of_ble_eq_true rfl⟩) rfl hl.1 rfl (Nat.le_of_ble_eq_true rfl) dX6_chance_122 (fun H locs hP hS => ?_)
                          have k176 : ∀  (t29 : TS) (H : Heap) (locs : List Loc) (ls : Array Slot), tw_P D dA o ad t29 H → va_S A s.heap H locs → lv_has ls 9 [(0, .ref o), (2, .int a2), (3, .int a3), (4, .int a4), (5, .int w107_0), (6, .int v115_6), (7, .int v115_7)] → fm_chance_J176 sf115 v115_6 v115_7  t29 = some (r, tZ) → W p l e (headSpec (ws_ yX6_chance cX6_chance 9 (some .int)) ({ frames := 6, cells := 0, slots := 0, locals := 125 })).room s m ([.ref o, .int a1, .int a2, .int a3, .int a4] : List Value).toArray below meth c H locs 0 0 (MQ below (tw_Qi D dA o ad A r tZ) ([.ref o, .int a1, .int a2, .int a3, .int a4] : List Value).toArray s 0 0 A) (F0 m 176 ls []) := by
                            intro t29 H locs ls hP hS hl hf
                            unfold fm_chance_J176 at hf
                            refine lv_aload_n hx hb dX6_chance_176 rfl (lv_at hl 0 rfl) ?_
                            obtain ⟨x30, t31, e32, hf⟩ := tw_bdE hf
                            refine tw_cVv (As := []) (rest := []) C hml hP hS (mm_tickGoes (l := l) (X := X) (D := D) (dA := dA) hD _ _ _ e32) (cwV 0 hts (lw_V q1657 q1659 qs65 q106 q1660) rfl rfl rfl hdX6_tickGoes ⟨Nat.le_of_ble_eq_true rfl, Nat.le_of_ble_eq_true rfl⟩) rfl hl.1 rfl (Nat.le_of_ble_eq_true rfl) dX6_chance_177 (fun H locs hP hS => ?_)
                            refine lv_iload hx hb dX6_chance_180 (lv_at hl 5 rfl) ?_
                            refine lv_aload_n hx hb dX6_chance_182 rfl (lv_at hl 0 rfl) ?_
                            obtain ⟨x33, t34, e35, hf⟩ := tw_bdE hf
                            refine tw_cVi (As := []) (rest := [.int v115_6]) C hml hP hS (mm_isStalled (l := l) (X := X) (D := D) (dA := dA) hD _ _ _ e35) (cwV 0 hts (lw_V q1875 q1877 qs94 q106 q1878) rfl rfl rfl hdX6_isStalled ⟨Nat.le_of_ble_eq_true rfl, Nat.le_of_ble_eq_true rfl⟩) rfl hl.1 rfl (Nat.le_of_ble_eq_true rfl) dX6_chance_183 (fun H locs hP hS => ?_)
                            have k194 : ∀ (w194_0 : Int32) (t36 : TS) (H : Heap) (locs : List Loc) (ls : Array Slot), tw_P D dA o ad t36 H → va_S A s.heap H locs → lv_has ls 9 [(0, .ref o), (2, .int a2), (3, .int a3), (4, .int a4), (5, .int w107_0), (7, .int v115_7)] → fm_chance_J194 sf115 v115_6 v115_7 w194_0 t36 = some (r, tZ) → W p l e (headSpec (ws_ yX6_chance cX6_chance 9 (some .int)) ({ frames := 6, cells := 0, slots := 0, locals := 125 })).room s m ([.ref o, .int a1, .int a2, .int a3, .int a4] : List Value).toArray below meth c H locs 0 0 (MQ below (tw_Qi D dA o ad A r tZ) ([.ref o, .int a1, .int a2, .int a3, .int a4] : List Value).toArray s 0 0 A) (F0 m 194 ls [.int w194_0, .int v115_6]) := by
                              intro w194_0 t36 H locs ls hP hS hl hf
                              unfold fm_chance_J194 at hf
                              refine lv_iadd hx hb dX6_chance_194 ?_
                              refine lv_istore (lv' := [(6, .int (v115_6 + w194_0)), (0, .ref o), (2, .int a2), (3, .int a3), (4, .int a4), (5, .int w107_0), (7, .int v115_7)]) hx hb dX6_chance_195 hl (by decide) rfl (fun ls hl => ?_)
                              refine lv_iinc (v := (v115_7 + (1 : Int32))) (lv' := [(7, .int (v115_7 + (1 : Int32))), (6, .int (v115_6 + w194_0)), (0, .ref o), (2, .int a2), (3, .int a3), (4, .int a4), (5, .int w107_0)]) hx hb dX6_chance_197 hl (k := 6) rfl rfl (by decide) rfl (fun ls hl => ?_)
                              refine lv_goto (tgt := 115) hx hb dX6_chance_200 (by decide) ?_
                              exact ih115 _ _ _ _ _ _ hP hS (lv_sub hl [2, 3, 4, 5, 6, 1, 0] rfl) hf
                            refine lv_if_eq (tgt := 193) hx hb dX6_chance_186 (by decide) (fun hc => ?_) (fun hc => ?_)
                            · have hf := tw_ifT hc hf
                              refine lv_iconst (v := (0 : Int32)) hx hb dX6_chance_193 (by decide) ?_
                              exact k194 _ _ _ _ _ hP hS (lv_sub hl [0, 1, 2, 3, 4, 6] rfl) hf
                            · have hf := tw_ifF hc hf
                              refine lv_iconst (v := (1 : Int32)) hx hb dX6_chance_189 (by decide) ?_
                              refine lv_goto (tgt := 194) hx hb dX6_chance_190 (by decide) ?_
                              exact k194 _ _ _ _ _ hP hS (lv_sub hl [0, 1, 2, 3, 4, 6] rfl) hf
                          refine lv_if_le (tgt := 176) hx hb dX6_chance_125 (by decide) (fun hc => ?_) (fun hc => ?_)
                          · have hf := tw_ifT hc hf
                            exact k176 _ _ _ _ hP hS (lv_sub hl [0, 1, 2, 3, 4, 5, 6] rfl) hf
                          · have hf := tw_ifF hc hf
                            refine lv_aload_n hx hb dX6_chance_128 rfl (lv_at hl 0 rfl) ?_
                            refine lv_aload_n hx hb dX6_chance_129 rfl (lv_at hl 0 rfl) ?_
                            obtain ⟨x37, t38, e39, hf⟩ := tw_bdE hf
                            refine tw_cVi (As := []) (rest := [.ref o]) C hml hP hS (mm_flows (l := l) (X := X) (D := D) (dA := dA) hD _ _ _ e39) (cwV 0 hts (lw_V q1372 q1374 qs44 q106 q1375) rfl rfl rfl hdX6_flows ⟨Nat.le_of_ble_eq_true rfl, Nat.le_of_ble_eq_true rfl⟩) rfl hl.1 rfl (Nat.le_of_ble_eq_true rfl) dX6_chance_130 (fun H locs hP hS => ?_)
                            obtain ⟨x40, t41, e42, hf⟩ := tw_bdE hf
                            refine tw_cVi (As := [.int x37]) (rest := []) C hml hP hS (mm_draw (l := l) (X := X) (D := D) (dA := dA) hD _ _ _ _ e42) (cwV 1 hts (lw_V q1907 q1909 qs98 q106 q1910) rfl rfl rfl hdX6_draw ⟨Nat.le_of_ble_eq_true rfl, Nat.le_of_ble_eq_true rfl⟩) rfl hl.1 rfl (Nat.le_of_ble_eq_true rfl) dX6_chance_133 (fun H locs hP hS => ?_)
                            refine lv_istore (lv' := [(8, .int x40), (0, .ref o), (2, .int a2), (3, .int a3), (4, .int a4), (5, .int w107_0), (6, .int v115_6), (7, .int v115_7)]) hx hb dX6_chance_136 hl (by decide) rfl (fun ls hl => ?_)
                            refine lv_aload_n hx hb dX6_chance_138 rfl (lv_at hl 1 rfl) ?_
                            refine lv_bipush (v := (100 : Int32)) hx hb dX6_chance_139 (by decide) ?_
                            obtain ⟨x43, t44, e45, hf⟩ := tw_bdE hf
                            refine tw_cVi (As := [.int (100 : Int32)]) (rest := []) C hml hP hS (mm_draw (l := l) (X := X) (D := D) (dA := dA) hD _ _ _ _ e45) (cwV 1 hts (lw_V q1907 q1909 qs98 q106 q1910) rfl rfl rfl hdX6_draw ⟨Nat.le_of_ble_eq_true rfl, Nat.le_of_ble_eq_true rfl⟩) rfl hl.1 rfl (Nat.le_of_ble_eq_true rfl) dX6_chance_141 (fun H locs hP hS => ?_)
                            refine lv_iload_n hx hb dX6_chance_144 rfl (lv_at hl 3 rfl) ?_
                            refine lv_icmp_ge (tgt := 176) hx hb dX6_chance_145 (by decide) (fun hc => ?_) (fun hc => ?_)
                            · have hf := tw_ifT hc hf
                              exact k176 _ _ _ _ hP hS (lv_sub hl [1, 2, 3, 4, 5, 6, 7] rfl) hf
                            · have hf := tw_ifF hc hf
                              refine lv_aload_n hx hb dX6_chance_148 rfl (lv_at hl 1 rfl) ?_
                              refine tw_aget (k := 26) C hP (by decide) (by decide) q1402 dX6_chance_149 ?_
                              refine lv_iload hx hb dX6_chance_152 (lv_at hl 0 rfl) ?_
                              obtain ⟨x46, t47, e48, hf⟩ := tw_bdE hf
                              refine tw_cSi (As := [.int x40]) (rest := [.ref (ad 26)]) C hml hP hS (mm_flowAt (l := l) (X := X) (D := D) (dA := dA) hD _ _ _ _ e48) (va_cwS 1 hts (lw_S q1661 q1662 q106 q1663) rfl rfl rfl hdX6_flowAt ⟨Nat.le_of_ble_eq_true rfl, Nat.le_of_ble_eq_true rfl⟩) rfl hl.1 rfl (Nat.le_of_ble_eq_true rfl) dX6_chance_154 (fun H locs hP hS => ?_)
                              refine lv_bipush (v := (7 : Int32)) hx hb dX6_chance_157 (by decide) ?_
                              refine lv_iadd hx hb dX6_chance_159 ?_
                              refine lv_iconst (v := (1 : Int32)) hx hb dX6_chance_160 (by decide) ?_
                              refine lv_aload_n hx hb dX6_chance_161 rfl (lv_at hl 1 rfl) ?_
                              refine tw_aget (k := 26) C hP (by decide) (by decide) q1402 dX6_chance_162 ?_
                              refine lv_iload hx hb dX6_chance_165 (lv_at hl 0 rfl) ?_
                              obtain ⟨x49, t50, e51, hf⟩ := tw_bdE hf
                              refine tw_cSi (As := [.int x40]) (rest := [.ref (ad 26), .int (1 : Int32), .int (x46 + (7 : Int32)), .ref (ad 26)]) C hml hP hS (mm_flowAt (l := l) (X := X) (D := D) (dA := dA) hD _ _ _ _ e51) (va_cwS 1 hts (lw_S q1661 q1662 q106 q1663) rfl rfl rfl hdX6_flowAt ⟨Nat.le_of_ble_eq_true rfl, Nat.le_of_ble_eq_true rfl⟩) rfl hl.1 rfl (Nat.le_of_ble_eq_true rfl) dX6_chance_167 (fun H locs hP hS => ?_)
                              refine lv_bipush (v := (7 : Int32)) hx hb dX6_chance_170 (by decide) ?_
                              refine lv_iadd hx hb dX6_chance_172 ?_
                              obtain ⟨x52, t53, e54, hf⟩ := tw_bdE hf
                              refine tw_iald C hP e54 dX6_chance_173 (fun hP => ?_)
                              refine lv_isub hx hb dX6_chance_174 ?_
                              obtain ⟨x55, t56, e57, hf⟩ := tw_bdE hf
                              refine tw_iast C hP hS e57 dX6_chance_175 (fun H locs hP hS => ?_)
                              exact k176 _ _ _ _ hP hS (lv_sub hl [1, 2, 3, 4, 5, 6, 7] rfl) hf
                    exact k115 _ _ _ _ _ _ _ hP hS (lv_sub hl [3, 4, 5, 6, 2, 1, 0] rfl) hf
                  refine lv_icmp_ne (tgt := 91) hx hb dX6_chance_81 (by decide) (fun hc => ?_) (fun hc => ?_)
                  · have hf := tw_ifF hc hf
                    refine lv_aload_n hx hb dX6_chance_91 rfl (lv_at hl 0 rfl) ?_
                    refine lv_iload hx hb dX6_chance_92 (lv_at hl 3 rfl) ?_
                    refine lv_iconst (v := (3 : Int32)) hx hb dX6_chance_94 (by decide) ?_
                    have k104 : ∀ (w104_0 : Int32) (t58 : TS) (H : Heap) (locs : List Loc) (ls : Array Slot), tw_P D dA o ad t58 H → va_S A s.heap H locs → lv_has ls 9 [(0, .ref o), (2, .int a2), (3, .int a3), (4, .int a4)] → fm_chance_J104 a2 a4 a3 w104_0 t58 = some (r, tZ) → W p l e (headSpec (ws_ yX6_chance cX6_chance 9 (some .int)) ({ frames := 6, cells := 0, slots := 0, locals := 125 })).room s m ([.ref o, .int a1, .int a2, .int a3, .int a4] : List Value).toArray below meth c H locs 0 0 (MQ below (tw_Qi D dA o ad A r tZ) ([.ref o, .int a1, .int a2, .int a3, .int a4] : List Value).toArray s 0 0 A) (F0 m 104 ls [.int w104_0, .ref o]) := by
                      intro w104_0 t58 H locs ls hP hS hl hf
                      unfold fm_chance_J104 at hf
                      obtain ⟨x59, t60, e61, hf⟩ := tw_bdE hf
                      refine tw_cVi (As := [.int w104_0]) (rest := []) C hml hP hS (mm_sumOf (l := l) (X := X) (D := D) (dA := dA) hD _ _ _ _ e61) (cwV 1 hts (lw_V q1891 q1893 qs96 q106 q1894) rfl rfl rfl hdX6_sumOf ⟨Nat.le_of_ble_eq_true rfl, Nat.le_of_ble_eq_true rfl⟩) rfl hl.1 rfl (Nat.le_of_ble_eq_true rfl) dX6_chance_104 (fun H locs hP hS => ?_)
                      exact k107 _ _ _ _ _ hP hS (lv_sub hl [0, 1, 2, 3] rfl) hf
                    refine lv_icmp_ne (tgt := 103) hx hb dX6_chance_95 (by decide) (fun hc => ?_) (fun hc => ?_)
                    · have hf := tw_ifF hc hf
                      refine lv_iconst (v := (5 : Int32)) hx hb dX6_chance_103 (by decide) ?_
                      exact k104 _ _ _ _ _ hP hS (lv_sub hl [0, 1, 2, 3] rfl) hf
                    · have hf := tw_ifT hc hf
                      refine lv_bipush (v := (6 : Int32)) hx hb dX6_chance_98 (by decide) ?_
                      refine lv_goto (tgt := 104) hx hb dX6_chance_100 (by decide) ?_
                      exact k104 _ _ _ _ _ hP hS (lv_sub hl [0, 1, 2, 3] rfl) hf
                  · have hf := tw_ifT hc hf
                    refine lv_aload_n hx hb dX6_chance_84 rfl (lv_at hl 0 rfl) ?_
                    obtain ⟨x62, t63, e64, hf⟩ := tw_bdE hf
                    refine tw_cVi (As := []) (rest := []) C hml hP hS (mm_lostAll (l := l) (X := X) (D := D) (dA := dA) hD _ _ _ e64) (cwV 0 hts (lw_V q1903 q1905 qs97 q106 q1906) rfl rfl rfl hdX6_lostAll ⟨Nat.le_of_ble_eq_true rfl, Nat.le_of_ble_eq_true rfl⟩) rfl hl.1 rfl (Nat.le_of_ble_eq_true rfl) dX6_chance_85 (fun H locs hP hS => ?_)
                    refine lv_goto (tgt := 107) hx hb dX6_chance_88 (by decide) ?_
                    exact k107 _ _ _ _ _ hP hS (lv_sub hl [0, 1, 2, 3] rfl) hf
                refine lv_icmp_ne (tgt := 61) hx hb dX6_chance_48 (by decide) (fun hc => ?_) (fun hc => ?_)
                · have hf := tw_ifF hc hf
                  refine lv_iload_n hx hb dX6_chance_61 rfl (lv_at hl 1 rfl) ?_
                  exact k62 _ _ _ _ _ hP hS (lv_sub hl [0, 2, 3, 4] rfl) hf
                · have hf := tw_ifT hc hf
                  refine lv_aload_n hx hb dX6_chance_51 rfl (lv_at hl 0 rfl) ?_
                  refine tw_aget (k := 3) C hP (by decide) (by decide) q1379 dX6_chance_52 ?_
                  refine lv_bipush (v := (8 : Int32)) hx hb dX6_chance_55 (by decide) ?_
                  obtain ⟨x65, t66, e67, hf⟩ := tw_bdE hf
                  refine tw_iald C hP e67 dX6_chance_57 (fun hP => ?_)
                  refine lv_goto (tgt := 62) hx hb dX6_chance_58 (by decide) ?_
                  exact k62 _ _ _ _ _ hP hS (lv_sub hl [0, 2, 3, 4] rfl) hf
              · have hf := tw_ifF hc hf
                exact k43 _ _ _ _ hP hS (lv_sub hl [] rfl) hf