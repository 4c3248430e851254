def fm_isOn_J21  (w21_0 : Int32) : TM Int32 :=
  tw_rz w21_0
def fm_isOn (a1 : Int32) : TM Int32 :=
   tw_bd (fm_flowAt a1) fun x1 =>
  tw_bd (tw_ld 26 (x1 + (7 : Int32))) fun x4 =>
  if x4 = (1 : Int32) then (fm_isOn_J21 (1 : Int32))
  else (fm_isOn_J21 (0 : Int32))
theorem hdX6_isOn : yX6_isOn.cls = "LosslessFabricModel" ∧ (yX6_isOn.cls ≠ "java/lang/invoke/MethodHandle" ∧ yX6_isOn.cls ≠ "java/lang/invoke/VarHandle" ∧ (parseMethodDescriptor yX6_isOn.desc).map (fun d => d.parameters.length) = some 1) := by decide +kernel
set_option maxHeartbeats 4000000 in
theorem mm_isOn {l : Launch} {X : (Nat → Nat) × (Nat → Nat) × Nat} {D : va_G} {dA : Nat → ClassId} {o : Nat} {ad : Nat → Nat} {A : Nat → Prop} (hD : tw_D o ad A) (a1 : Int32) (t0 tZ : TS) (r : Int32) (hf : fm_isOn a1 t0 = some (r, tZ)) : Met l yX6_isOn (ws_ yX6_isOn cX6_isOn 2 (some .boolean)) ({ frames := 2, cells := 0, slots := 0, locals := 32 }) (va_Pc [.ref o, .int a1] (tw_W X A D dA o ad t0)) (tw_Qi D dA o ad A r tZ) 0 0 A := by
  refine Met.ofW (cc := cX6_isOn) (maxL := 2) (ret := some .boolean) (by decide) rfl ?_
  intro p e s m args below meth c s₁ B hml hv
  obtain ⟨rfl, hP, hK, hX⟩ := hv
  have hx := B.exec
  have hb := B.bytes
  have hr := B.returns
  have hts := atoms_spec (ws := (ws_ yX6_isOn cX6_isOn 2 (some .boolean))) B.pre
  have hts : ∀ w ∈ lw_all, w.before _ s = true := fun w h => hts w (List.mem_cons_of_mem _ h)
  have hown : s.vm.findClass "LosslessFabricModel" = some m.cls := findClass_of_methodNamed B.named
  have hlk := B.notSynchronized
  have C : tw_C X p s m _ c cX6_isOn D dA o ad A := ⟨hx, hb, hts, hown, hK, hD, hX⟩
  have hS : va_S A s.heap s.heap [] := va_S.rf
  have hl := lv_entry ([.ref o, .int a1]) (n := 2) (Nat.le_of_ble_eq_true rfl)
  rw [lg_entry_eq]
  generalize (lg_sl ([.ref o, .int a1]) ++ List.replicate (2 - (lg_sl ([.ref o, .int a1])).length) Slot.unset).toArray = ls at hl ⊢
  have hl : lv_has ls 2 [(0, .ref o), (1, .int a1)] := hl
  unfold fm_isOn at hf
  refine lv_aload_n hx hb dX6_isOn_0 rfl (lv_at hl 0 rfl) ?_
  refine tw_aget (k := 26) C hP (by decide) (by decide) q1402 dX6_isOn_1 ?_
  refine lv_iload_n hx hb dX6_isOn_4 rfl (lv_at hl 1 rfl) ?_
  obtain ⟨x1, t2, e3, hf⟩ := tw_bdE hf
  refine tw_cSi (As := [.int a1]) (rest := [.ref (ad 26)]) C hml hP hS (mm_flowAt (l := l) (X := X) (D := D) (dA := dA) hD _ _ _ _ e3) (va_cwS 1 hts (lw_S q1661 q1662 q106 q1663) rfl rfl rfl hdX6_flowAt ⟨Nat.le_of_ble_eq_true rfl, Nat.le_of_ble_eq_true rfl⟩) rfl hl.1 rfl (Nat.le_of_ble_eq_true rfl) dX6_isOn_5 (fun H locs hP hS => ?_)
  refine lv_bipush (v := (7 : Int32)) hx hb dX6_isOn_8 (by decide) ?_
  refine lv_iadd hx hb dX6_isOn_10 ?_
  obtain ⟨x4, t5, e6, hf⟩ := tw_bdE hf
  refine tw_iald C hP e6 dX6_isOn_11 (fun hP => ?_)
  refine lv_iconst (v := (1 : Int32)) hx hb dX6_isOn_12 (by decide) ?_
  have k21 : ∀ (w21_0 : Int32) (t7 : TS) (H : Heap) (locs : List Loc) (ls : Array Slot), tw_P D dA o ad t7 H → va_S A s.heap H locs → lv_has ls 2 [] → fm_isOn_J21 w21_0 t7 = some (r, tZ) → W p l e (headSpec (ws_ yX6_isOn cX6_isOn 2 (some .boolean)) ({ frames := 2, cells := 0, slots := 0, locals := 32 })).room s m ([.ref o, .int a1] : List Value).toArray below meth c H locs 0 0 (MQ below (tw_Qi D dA o ad A r tZ) ([.ref o, .int a1] : List Value).toArray s 0 0 A) (F0 m 21 ls [.int w21_0]) := by
    intro w21_0 t7 H locs ls hP hS hl hf
    unfold fm_isOn_J21 at hf
    exact tw_iretz hf C hr hP hS hlk dX6_isOn_21
  refine lv_icmp_ne (tgt := 20) hx hb dX6_isOn_13 (by decide) (fun hc => ?_) (fun hc => ?_)
  · have hf := tw_ifF hc hf
    refine lv_iconst (v := (0 : Int32)) hx hb dX6_isOn_20 (by decide) ?_
    exact k21 _ _ _ _ _ hP hS (lv_sub hl [] rfl) hf
  · have hf := tw_ifT hc hf
    refine lv_iconst (v := (1 : Int32)) hx hb dX6_isOn_16 (by decide) ?_
    refine lv_goto (tgt := 21) hx hb dX6_isOn_17 (by decide) ?_
    exact k21 _ _ _ _ _ hP hS (lv_sub hl [] rfl) hf
def fm_laysCan_J97 (v2_1 : Int32) (v12_2 : Int32) (sf12 : Int32 → TM Unit) (w97_0 : Int32) : TM Unit :=
  tw_bd (tw_st 33 (((8 : Int32) * v2_1) + v12_2) w97_0) fun _ =>
   tw_bd (tw_st 34 (((8 : Int32) * v2_1) + v12_2) (0 : Int32)) fun _ =>
   tw_bd (tw_st 35 (((8 : Int32) * v2_1) + v12_2) (0 : Int32)) fun _ =>
 
  sf12 (v12_2 + (1 : Int32))
def fm_laysCan_L12 (sf2 : Int32 → TM Unit) (v2_1 : Int32) (sf12 : Int32 → TM Unit) (v12_2 : Int32) : TM Unit :=
  tw_bd (fm_flows) fun x6 =>
  if x6 ≤ v12_2 then (sf2 (v2_1 + (1 : Int32)))
  else (tw_bd (fm_hopOf v12_2 v2_1) fun x9 =>
   if x9 = (-1 : Int32) then (fm_laysCan_J97 v2_1 v12_2 sf12 (0 : Int32))
  else (if x9 = 0 then ( tw_bd (fm_flowAt v12_2) fun x28 =>
  tw_bd (tw_ld 26 (x28 + (8 : Int32))) fun x31 =>
  tw_bd (tw_nz (16 : Int32)) fun _ =>
 
  fm_laysCan_J97 v2_1 v12_2 sf12 (x31 / (16 : Int32)))
  else (  tw_bd (tw_ld 15 ((((5 : Int32) * v12_2) + x9) - (1 : Int32))) fun x22 =>
  tw_bd (tw_ld 26 ((((24 : Int32) * x22) + (15 : Int32)) + v12_2)) fun x25 =>
 
  fm_laysCan_J97 v2_1 v12_2 sf12 x25)))
def fm_laysCan_L2  (sf2 : Int32 → TM Unit) (v2_1 : Int32) : TM Unit :=
  tw_bd (fm_links) fun x2 =>
  if x2 ≤ v2_1 then (tw_rt ())
  else (tw_lp (fm_laysCan_L12 sf2 v2_1) (fun _ _ => none) tw_fu (0 : Int32))
def fm_laysCan  : TM Unit :=
  tw_lp (fm_laysCan_L2) (fun _ _ => none) tw_fu (0 : Int32)
theorem hdX6_laysCan : yX6_laysCan.cls = "LosslessFabricModel" ∧ (yX6_laysCan.cls ≠ "java/lang/invoke/MethodHandle" ∧ yX6_laysCan.cls ≠ "java/lang/invoke/VarHandle" ∧ (parseMethodDescriptor yX6_laysCan.desc).map (fun d => d.parameters.length) = some 0) := by decide +kernel
set_option maxHeartbeats 4000000 in
theorem mm_laysCan {l : Launch} {X : (Nat → Nat) × (Nat → Nat) × Nat} {D : va_G} {dA : Nat → ClassId} {o : Nat} {ad : Nat → Nat} {A : Nat → Prop} (hD : tw_D o ad A)  (t0 tZ : TS) (r : Unit) (hf : fm_laysCan  t0 = some (r, tZ)) : Met l yX6_laysCan (ws_ yX6_laysCan cX6_laysCan 5 (none)) ({ frames := 2, cells := 0, slots := 0, locals := 35 }) (va_Pc [.ref o] (tw_W X A D dA o ad t0)) (tw_Qv D dA o ad A tZ) 0 0 A := by
  refine Met.ofW (cc := cX6_laysCan) (maxL := 5) (ret := none) (by decide) rfl ?_
  intro p e s m args below meth c s₁ B hml hv
  obtain ⟨rfl, hP, hK, hX⟩ := hv
  have hx := B.exec
  have hb := B.bytes
  have hr := B.returns
  have hts := atoms_spec (ws := (ws_ yX6_laysCan cX6_laysCan 5 (none))) B.pre
  have hts : ∀ w ∈ lw_all, w.before _ s = true := fun w h => hts w (List.mem_cons_of_mem _ h)
  have hown : s.vm.findClass "LosslessFabricModel" = some m.cls := findClass_of_methodNamed B.named
  have hlk := B.notSynchronized
  have C : tw_C X p s m _ c cX6_laysCan D dA o ad A := ⟨hx, hb, hts, hown, hK, hD, hX⟩
  have hS : va_S A s.heap s.heap [] := va_S.rf
  have hl := lv_entry ([.ref o]) (n := 5) (Nat.le_of_ble_eq_true rfl)
  rw [lg_entry_eq]
  generalize (lg_sl ([.ref o]) ++ List.replicate (5 - (lg_sl ([.ref o])).length) Slot.unset).toArray = ls at hl ⊢
  have hl : lv_has ls 5 [(0, .ref o)] := hl
  unfold fm_laysCan at hf
  refine lv_iconst (v := (0 : Int32)) hx hb dX6_laysCan_0 (by decide) ?_
  refine lv_istore_n (lv' := [(1, .int (0 : Int32)), (0, .ref o)]) hx hb dX6_laysCan_1 rfl hl (by decide) rfl (fun ls hl => ?_)
  have k2 : ∀ (n : Nat) (v2_1 : Int32) (t1 : TS) (H : Heap) (locs : List Loc) (ls : Array Slot), tw_P D dA o ad t1 H → va_S A s.heap H locs → lv_has ls 5 [(0, .ref o), (1, .int v2_1)] → tw_lp (fm_laysCan_L2) (fun _ _ => none) n v2_1 t1 = some (r, tZ) → W p l e (headSpec (ws_ yX6_laysCan cX6_laysCan 5 (none)) ({ frames := 2, cells := 0, slots := 0, locals := 35 })).room s m ([.ref o] : List Value).toArray below meth c H locs 0 0 (MQ below (tw_Qv D dA o ad A tZ) ([.ref o] : List Value).toArray s 0 0 A) (F0 m 2 ls []) := by
    intro n
    induction n with
    | zero => intro v2_1 t1 H locs ls hP hS hl hf; exact (tw_no hf).elim
    | succ n ih2 =>
      intro v2_1 t1 H locs ls hP hS hl hf
      obtain ⟨sf2, hs2⟩ : ∃ f, f = tw_lp (fm_laysCan_L2) (fun _ _ => none) n := ⟨_, rfl⟩
      rw [← hs2] at ih2
      have hf : fm_laysCan_L2 sf2 v2_1 t1 = some (r, tZ) := by rw [hs2]; exact hf
      clear hs2
      unfold fm_laysCan_L2 at hf
      refine lv_iload_n hx hb dX6_laysCan_2 rfl (lv_at hl 1 rfl) ?_
      refine lv_aload_n hx hb dX6_laysCan_3 rfl (lv_at hl 0 rfl) ?_
      obtain ⟨x2, t3, e4, hf⟩ := tw_bdE hf
      refine tw_cVi (As := []) (rest := [.int v2_1]) C hml hP hS (mm_links (l := l) (X := X) (D := D) (dA := dA) hD _ _ _ e4) (cwV 0 hts (lw_V q1368 q1370 qs43 q106 q1371) rfl rfl rfl hdX6_links ⟨Nat.le_of_ble_eq_true rfl, Nat.le_of_ble_eq_true rfl⟩) rfl hl.1 rfl (Nat.le_of_ble_eq_true rfl) dX6_laysCan_4 (fun H locs hP hS => ?_)
      refine lv_icmp_ge (tgt := 126) hx hb dX6_laysCan_7 (by decide) (fun hc => ?_) (fun hc => ?_)
      · have hf := tw_ifT hc hf
        exact tw_iretv (tw_rtE hf).2 C hr hP hS hlk dX6_laysCan_126
      · have hf := tw_ifF hc hf
        refine lv_iconst (v := (0 : Int32)) hx hb dX6_laysCan_10 (by decide) ?_
        refine lv_istore_n (lv' := [(2, .int (0 : Int32)), (0, .ref o), (1, .int v2_1)]) hx hb dX6_laysCan_11 rfl hl (by decide) rfl (fun ls hl => ?_)
        have k12 : ∀ (n : Nat) (v12_2 : Int32) (t5 : TS) (H : Heap) (locs : List Loc) (ls : Array Slot), tw_P D dA o ad t5 H → va_S A s.heap H locs → lv_has ls 5 [(0, .ref o), (1, .int v2_1), (2, .int v12_2)] → tw_lp (fm_laysCan_L12 sf2 v2_1) (fun _ _ => none) n v12_2 t5 = some (r, tZ) → W p l e (headSpec (ws_ yX6_laysCan cX6_laysCan 5 (none)) ({ frames := 2, cells := 0, slots := 0, locals := 35 })).room s m ([.ref o] : List Value).toArray below meth c H locs 0 0 (MQ below (tw_Qv D dA o ad A tZ) ([.ref o] : List Value).toArray s 0 0 A) (F0 m 12 ls []) := by
          intro n
          induction n with
          | zero => intro v12_2 t5 H locs ls hP hS hl hf; exact (tw_no hf).elim
          | succ n ih12 =>
            intro v12_2 t5 H locs ls hP hS hl hf
            obtain ⟨sf12, hs12⟩ : ∃ f, f = tw_lp (fm_laysCan_L12 sf2 v2_1) (fun _ _ => none) n := ⟨_, rfl⟩
            rw [← hs12] at ih12
            have hf : fm_laysCan_L12 sf2 v2_1 sf12 v12_2 t5 = some (r, tZ) := by rw [hs12]; exact hf
            clear hs12
            unfold fm_laysCan_L12 at hf
            refine lv_iload_n hx hb dX6_laysCan_12 rfl (lv_at hl 2 rfl) ?_
            refine lv_aload_n hx hb dX6_laysCan_13 rfl (lv_at hl 0 rfl) ?_
            obtain ⟨x6, t7, e8, hf⟩ := tw_bdE hf
            refine tw_cVi (As := []) (rest := [.int v12_2]) C hml hP hS (mm_flows (l := l) (X := X) (D := D) (dA := dA) hD _ _ _ e8) (cwV 0 hts (lw_V q1372 q1374 qs44 q106 q1375) rfl rfl rfl hdX6_flows ⟨Nat.le_of_ble_eq_true rfl, Nat.le_of_ble_eq_true rfl⟩) rfl hl.1 rfl (Nat.le_of_ble_eq_true rfl) dX6_laysCan_14 (fun H locs hP hS => ?_)
            refine lv_icmp_ge (tgt := 120) hx hb dX6_laysCan_17 (by decide) (fun hc => ?_) (fun hc => ?_)
            · have hf := tw_ifT hc hf
              refine lv_iinc (v := (v2_1 + (1 : Int32))) (lv' := [(1, .int (v2_1 + (1 : Int32))), (0, .ref o), (2, .int v12_2)]) hx hb dX6_laysCan_120 hl (k := 1) rfl rfl (by decide) rfl (fun ls hl => ?_)
              refine lv_goto (tgt := 2) hx hb dX6_laysCan_123 (by decide) ?_
              exact ih2 _ _ _ _ _ hP hS (lv_sub hl [1, 0] rfl) hf
            · have hf := tw_ifF hc hf
              refine lv_aload_n hx hb dX6_laysCan_20 rfl (lv_at hl 0 rfl) ?_
              refine lv_iload_n hx hb dX6_laysCan_21 rfl (lv_at hl 2 rfl) ?_
              refine lv_iload_n hx hb dX6_laysCan_22 rfl (lv_at hl 1 rfl) ?_
              obtain ⟨x9, t10, e11, hf⟩ := tw_bdE hf
              refine tw_cVi (As := [.int v12_2, .int v2_1]) (rest := []) C hml hP hS (mm_hopOf (l := l) (X := X) (D := D) (dA := dA) hD _ _ _ _ _ e11) (cwV 2 hts (lw_V q1675 q1677 qs68 q106 q1678) rfl rfl rfl hdX6_hopOf ⟨Nat.le_of_ble_eq_true rfl, Nat.le_of_ble_eq_true rfl⟩) rfl hl.1 rfl (Nat.le_of_ble_eq_true rfl) dX6_laysCan_23 (fun H locs hP hS => ?_)
              refine lv_istore_n (lv' := [(3, .int x9), (0, .ref o), (1, .int v2_1), (2, .int v12_2)]) hx hb dX6_laysCan_26 rfl hl (by decide) rfl (fun ls hl => ?_)
              refine lv_bipush (v := (8 : Int32)) hx hb dX6_laysCan_27 (by decide) ?_
              refine lv_iload_n hx hb dX6_laysCan_29 rfl (lv_at hl 2 rfl) ?_
              refine lv_imul hx hb dX6_laysCan_30 ?_
              refine lv_iload_n hx hb dX6_laysCan_31 rfl (lv_at hl 3 rfl) ?_
              refine lv_iadd hx hb dX6_laysCan_32 ?_
              refine lv_istore (lv' := [(4, .int (((8 : Int32) * v2_1) + v12_2)), (3, .int x9), (0, .ref o), (1, .int v2_1), (2, .int v12_2)]) hx hb dX6_laysCan_33 hl (by decide) rfl (fun ls hl => ?_)
              refine lv_aload_n hx hb dX6_laysCan_35 rfl (lv_at hl 2 rfl) ?_
              refine tw_aget (k := 33) C hP (by decide) (by decide) q1409 dX6_laysCan_36 ?_
              refine lv_iload hx hb dX6_laysCan_39 (lv_at hl 0 rfl) ?_
              refine lv_iload_n hx hb dX6_laysCan_41 rfl (lv_at hl 1 rfl) ?_
              refine lv_iconst (v := (-1 : Int32)) hx hb dX6_laysCan_42 (by decide) ?_
              have k97 : ∀ (w97_0 : Int32) (t12 : TS) (H : Heap) (locs : List Loc) (ls : Array Slot), tw_P D dA o ad t12 H → va_S A s.heap H locs → lv_has ls 5 [(0, .ref o), (1, .int v2_1), (2, .int v12_2), (4, .int (((8 : Int32) * v2_1) + v12_2))] → fm_laysCan_J97 v2_1 v12_2 sf12 w97_0 t12 = some (r, tZ) → W p l e (headSpec (ws_ yX6_laysCan cX6_laysCan 5 (none)) ({ frames := 2, cells := 0, slots := 0, locals := 35 })).room s m ([.ref o] : List Value).toArray below meth c H locs 0 0 (MQ below (tw_Qv D dA o ad A tZ) ([.ref o] : List Value).toArray s 0 0 A) (F0 m 97 ls [.int w97_0, .int (((8 : Int32) * v2_1) + v12_2), .ref (ad 33)]) := by
                intro w97_0 t12 H locs ls hP hS hl hf
                unfold fm_laysCan_J97 at hf
                obtain ⟨x13, t14, e15, hf⟩ := tw_bdE hf
                refine tw_iast C hP hS e15 dX6_laysCan_97 (fun H locs hP hS => ?_)
                refine lv_aload_n hx hb dX6_laysCan_98 rfl (lv_at hl 0 rfl) ?_
                refine tw_aget (k := 34) C hP (by decide) (by decide) q1410 dX6_laysCan_99 ?_
                refine lv_iload hx hb dX6_laysCan_102 (lv_at hl 3 rfl) ?_
                refine lv_iconst (v := (0 : Int32)) hx hb dX6_laysCan_104 (by decide) ?_
                obtain ⟨x16, t17, e18, hf⟩ := tw_bdE hf
                refine tw_iast C hP hS e18 dX6_laysCan_105 (fun H locs hP hS => ?_)
                refine lv_aload_n hx hb dX6_laysCan_106 rfl (lv_at hl 0 rfl) ?_
                refine tw_aget (k := 35) C hP (by decide) (by decide) q1411 dX6_laysCan_107 ?_
                refine lv_iload hx hb dX6_laysCan_110 (lv_at hl 3 rfl) ?_
                refine lv_iconst (v := (0 : Int32)) hx hb dX6_laysCan_112 (by decide) ?_
                obtain ⟨x19, t20, e21, hf⟩ := tw_bdE hf
                refine tw_iast C hP hS e21 dX6_laysCan_113 (fun H locs hP hS => ?_)
                refine lv_iinc (v := (v12_2 + (1 : Int32))) (lv' := [(2, .int (v12_2 + (1 : Int32))), (0, .ref o), (1, .int v2_1), (4, .int (((8 : Int32) * v2_1) + v12_2))]) hx hb dX6_laysCan_114 hl (k := 2) rfl rfl (by decide) rfl (fun ls hl => ?_)
                refine lv_goto (tgt := 12) hx hb dX6_laysCan_117 (by decide) ?_
                exact ih12 _ _ _ _ _ hP hS (lv_sub hl [1, 2, 0] rfl) hf
              refine lv_icmp_ne (tgt := 50) hx hb dX6_laysCan_43 (by decide) (fun hc => ?_) (fun hc => ?_)
              · have hf := tw_ifF hc hf
                refine lv_iload_n hx hb dX6_laysCan_50 rfl (lv_at hl 1 rfl) ?_
                refine lv_if_ne (tgt := 72) hx hb dX6_laysCan_51 (by decide) (fun hc => ?_) (fun hc => ?_)
                · have hf := tw_ifF hc hf
                  refine lv_aload_n hx hb dX6_laysCan_72 rfl (lv_at hl 2 rfl) ?_
                  refine tw_aget (k := 26) C hP (by decide) (by decide) q1402 dX6_laysCan_73 ?_
                  refine lv_bipush (v := (24 : Int32)) hx hb dX6_laysCan_76 (by decide) ?_
                  refine lv_aload_n hx hb dX6_laysCan_78 rfl (lv_at hl 2 rfl) ?_
                  refine tw_aget (k := 15) C hP (by decide) (by decide) q1391 dX6_laysCan_79 ?_
                  refine lv_iconst (v := (5 : Int32)) hx hb dX6_laysCan_82 (by decide) ?_
                  refine lv_iload_n hx hb dX6_laysCan_83 rfl (lv_at hl 4 rfl) ?_
                  refine lv_imul hx hb dX6_laysCan_84 ?_
                  refine lv_iload_n hx hb dX6_laysCan_85 rfl (lv_at hl 1 rfl) ?_
                  refine lv_iadd hx hb dX6_laysCan_86 ?_
                  refine lv_iconst (v := (1 : Int32)) hx hb dX6_laysCan_87 (by decide) ?_
                  refine lv_isub hx hb dX6_laysCan_88 ?_
                  obtain ⟨x22, t23, e24, hf⟩ := tw_bdE hf
                  refine tw_iald C hP e24 dX6_laysCan_89 (fun hP => ?_)
                  refine lv_imul hx hb dX6_laysCan_90 ?_
                  refine lv_bipush (v := (15 : Int32)) hx hb dX6_laysCan_91 (by decide) ?_
                  refine lv_iadd hx hb dX6_laysCan_93 ?_
                  refine lv_iload_n hx hb dX6_laysCan_94 rfl (lv_at hl 4 rfl) ?_
                  refine lv_iadd hx hb dX6_laysCan_95 ?_
                  obtain ⟨x25, t26, e27, hf⟩ := tw_bdE hf
                  refine tw_iald C hP e27 dX6_laysCan_96 (fun hP => ?_)
                  exact k97 _ _ _ _ _ hP hS (lv_sub hl [2, 3, 4, 0] rfl) hf
                · have hf := tw_ifT hc hf
                  refine lv_aload_n hx hb dX6_laysCan_54 rfl (lv_at hl 2 rfl) ?_
                  refine tw_aget (k := 26) C hP (by decide) (by decide) q1402 dX6_laysCan_55 ?_
                  refine lv_iload_n hx hb dX6_laysCan_58 rfl (lv_at hl 4 rfl) ?_
                  obtain ⟨x28, t29, e30, hf⟩ := tw_bdE hf
                  refine tw_cSi (As := [.int v12_2]) (rest := [.ref (ad 26), .int (((8 : Int32) * v2_1) + v12_2), .ref (ad 33)]) C hml hP hS (mm_flowAt (l := l) (X := X) (D := D) (dA := dA) hD _ _ _ _ e30) (va_cwS 1 hts (lw_S q1661 q1662 q106 q1663) rfl rfl rfl hdX6_flowAt ⟨Nat.le_of_ble_eq_true rfl, Nat.le_of_ble_eq_true rfl⟩) rfl hl.1 rfl (Nat.le_of_ble_eq_true rfl) dX6_laysCan_59 (fun H locs hP hS => ?_)
                  refine lv_bipush (v := (8 : Int32)) hx hb dX6_laysCan_62 (by decide) ?_
                  refine lv_iadd hx hb dX6_laysCan_64 ?_
                  obtain ⟨x31, t32, e33, hf⟩ := tw_bdE hf
                  refine tw_iald C hP e33 dX6_laysCan_65 (fun hP => ?_)
                  refine lv_bipush (v := (16 : Int32)) hx hb dX6_laysCan_66 (by decide) ?_
                  obtain ⟨w34, t35, e36, hf⟩ := tw_bdE hf
                  rw [← (tw_nzE e36).2] at hf
                  refine lv_idiv hx hb dX6_laysCan_68 (tw_nzE e36).1 ?_
                  refine lv_goto (tgt := 97) hx hb dX6_laysCan_69 (by decide) ?_
                  exact k97 _ _ _ _ _ hP hS (lv_sub hl [2, 3, 4, 0] rfl) hf
              · have hf := tw_ifT hc hf
                refine lv_iconst (v := (0 : Int32)) hx hb dX6_laysCan_46 (by decide) ?_
                refine lv_goto (tgt := 97) hx hb dX6_laysCan_47 (by decide) ?_
                exact k97 _ _ _ _ _ hP hS (lv_sub hl [2, 3, 4, 0] rfl) hf
        exact k12 _ _ _ _ _ _ hP hS (lv_sub hl [1, 2, 0] rfl) hf
  exact k2 _ _ _ _ _ _ hP hS (lv_sub hl [1, 0] rfl) hf
def fm_climbs_J89 (x1 : Int32) (v89_5 : Int32) : TM Unit :=
    tw_bd (tw_ld 26 (x1 + (1 : Int32))) fun x11 =>
  tw_bd (fm_within (x11 + v89_5) (0 : Int32) (1024 : Int32)) fun x14 =>
  tw_bd (tw_st 26 (x1 + (1 : Int32)) x14) fun _ =>
    tw_bd (tw_ld 26 (x1 + (0 : Int32))) fun x20 =>
   tw_bd (tw_ld 26 (x1 + (1 : Int32))) fun x23 =>
  tw_bd (tw_nz (2 : Int32)) fun _ =>
  tw_bd (tw_st 26 (x1 + (0 : Int32)) ((x20 + x23) / (2 : Int32))) fun _ =>
  tw_rt ()
def fm_climbs_J80 (x1 : Int32)  : TM Unit :=
   tw_bd (tw_ld 3 (7 : Int32)) fun x34 =>
 
  fm_climbs_J89 x1 x34
def fm_climbs_J69 (x4 : Int32) (x1 : Int32) (x7 : Int32)  : TM Unit :=
  if (5 : Int32) < x4 then (fm_climbs_J80 x1)
  else (if x7 ≤ (5 : Int32) then (fm_climbs_J89 x1 (0 : Int32))
  else (fm_climbs_J80 x1))
def fm_climbs_J61 (x1 : Int32) (x37 : Int32) (w61_0 : Int32) : TM Unit :=
  fm_climbs_J89 x1 ((x37 * (2 : Int32)) * (w61_0 - (5 : Int32)))
def fm_climbs (a1 : Int32) : TM Unit :=
  tw_bd (fm_flowAt a1) fun x1 =>
   tw_bd (tw_ld 26 (x1 + (2 : Int32))) fun x4 =>
   tw_bd (tw_ld 26 ((x1 + (2 : Int32)) + (1 : Int32))) fun x7 =>
  if x4 ≤ (5 : Int32) then (fm_climbs_J69 x4 x1 x7)
  else (if x7 ≤ (5 : Int32) then (fm_climbs_J69 x4 x1 x7)
  else ( tw_bd (tw_ld 3 (7 : Int32)) fun x37 =>
  if x7 ≤ x4 then (fm_climbs_J61 x1 x37 x7)
  else (fm_climbs_J61 x1 x37 x4)))
theorem hdX6_climbs : yX6_climbs.cls = "LosslessFabricModel" ∧ (yX6_climbs.cls ≠ "java/lang/invoke/MethodHandle" ∧ yX6_climbs.cls ≠ "java/lang/invoke/VarHandle" ∧ (parseMethodDescriptor yX6_climbs.desc).map (fun d => d.parameters.length) = some 1) := by decide +kernel
set_option maxHeartbeats 4000000 in
theorem mm_climbs {l : Launch} {X : (Nat → Nat) × (Nat → Nat) × Nat} {D : va_G} {dA : Nat → ClassId} {o : Nat} {ad : Nat → Nat} {A : Nat → Prop} (hD : tw_D o ad A) (a1 : Int32) (t0 tZ : TS) (r : Unit) (hf : fm_climbs a1 t0 = some (r, tZ)) : Met l yX6_climbs (ws_ yX6_climbs cX6_climbs 6 (none)) ({ frames := 2, cells := 0, slots := 0, locals := 34 }) (va_Pc [.ref o, .int a1] (tw_W X A D dA o ad t0)) (tw_Qv D dA o ad A tZ) 0 0 A := by
  refine Met.ofW (cc := cX6_climbs) (maxL := 6) (ret := none) (by decide) rfl ?_
  intro p e s m args below meth c s₁ B hml hv
  obtain ⟨rfl, hP, hK, hX⟩ := hv
  have hx := B.exec
  have hb := B.bytes
  have hr := B.returns
  have hts := atoms_spec (ws := (ws_ yX6_climbs cX6_climbs 6 (none))) B.pre
  have hts : ∀ w ∈ lw_all, w.before _ s = true := fun w h => hts w (List.mem_cons_of_mem _ h)
  have hown : s.vm.findClass "LosslessFabricModel" = some m.cls := findClass_of_methodNamed B.named
  have hlk := B.notSynchronized
  have C : tw_C X p s m _ c cX6_climbs D dA o ad A := ⟨hx, hb, hts, hown, hK, hD, hX⟩
  have hS : va_S A s.heap s.heap [] := va_S.rf
  have hl := lv_entry ([.ref o, .int a1]) (n := 6) (Nat.le_of_ble_eq_true rfl)
  rw [lg_entry_eq]
  generalize (lg_sl ([.ref o, .int a1]) ++ List.replicate (6 - (lg_sl ([.ref o, .int a1])).length) Slot.unset).toArray = ls at hl ⊢
  have hl : lv_has ls 6 [(0, .ref o), (1, .int a1)] := hl
  unfold fm_climbs at hf
  refine lv_iload_n hx hb dX6_climbs_0 rfl (lv_at hl 1 rfl) ?_
  obtain ⟨x1, t2, e3, hf⟩ := tw_bdE hf
  refine tw_cSi (As := [.int a1]) (rest := []) C hml hP hS (mm_flowAt (l := l) (X := X) (D := D) (dA := dA) hD _ _ _ _ e3) (va_cwS 1 hts (lw_S q1661 q1662 q106 q1663) rfl rfl rfl hdX6_flowAt ⟨Nat.le_of_ble_eq_true rfl, Nat.le_of_ble_eq_true rfl⟩) rfl hl.1 rfl (Nat.le_of_ble_eq_true rfl) dX6_climbs_1 (fun H locs hP hS => ?_)
  refine lv_istore_n (lv' := [(2, .int x1), (0, .ref o), (1, .int a1)]) hx hb dX6_climbs_4 rfl hl (by decide) rfl (fun ls hl => ?_)
  refine lv_aload_n hx hb dX6_climbs_5 rfl (lv_at hl 1 rfl) ?_
  refine tw_aget (k := 26) C hP (by decide) (by decide) q1402 dX6_climbs_6 ?_
  refine lv_iload_n hx hb dX6_climbs_9 rfl (lv_at hl 0 rfl) ?_
  refine lv_iconst (v := (2 : Int32)) hx hb dX6_climbs_10 (by decide) ?_
  refine lv_iadd hx hb dX6_climbs_11 ?_
  obtain ⟨x4, t5, e6, hf⟩ := tw_bdE hf
  refine tw_iald C hP e6 dX6_climbs_12 (fun hP => ?_)
  refine lv_istore_n (lv' := [(3, .int x4), (2, .int x1), (0, .ref o), (1, .int a1)]) hx hb dX6_climbs_13 rfl hl (by decide) rfl (fun ls hl => ?_)
  refine lv_aload_n hx hb dX6_climbs_14 rfl (lv_at hl 2 rfl) ?_
  refine tw_aget (k := 26) C hP (by decide) (by decide) q1402 dX6_climbs_15 ?_
  refine lv_iload_n hx hb dX6_climbs_18 rfl (lv_at hl 1 rfl) ?_
  refine lv_iconst (v := (2 : Int32)) hx hb dX6_climbs_19 (by decide) ?_
  refine lv_iadd hx hb dX6_climbs_20 ?_
  refine lv_iconst (v := (1 : Int32)) hx hb dX6_climbs_21 (by decide) ?_
  refine lv_iadd hx hb dX6_climbs_22 ?_
  obtain ⟨x7, t8, e9, hf⟩ := tw_bdE hf
  refine tw_iald C hP e9 dX6_climbs_23 (fun hP => ?_)
  refine lv_istore (lv' := [(4, .int x7), (3, .int x4), (2, .int x1), (0, .ref o), (1, .int a1)]) hx hb dX6_climbs_24 hl (by decide) rfl (fun ls hl => ?_)
  refine lv_iconst (v := (0 : Int32)) hx hb dX6_climbs_26 (by decide) ?_
  refine lv_istore (lv' := [(5, .int (0 : Int32)), (4, .int x7), (3, .int x4), (2, .int x1), (0, .ref o), (1, .int a1)]) hx hb dX6_climbs_27 hl (by decide) rfl (fun ls hl => ?_)
  refine lv_iload_n hx hb dX6_climbs_29 rfl (lv_at hl 2 rfl) ?_
  refine lv_iconst (v := (5 : Int32)) hx hb dX6_climbs_30 (by decide) ?_
  have k89 : ∀ (v89_5 : Int32) (t10 : TS) (H : Heap) (locs : List Loc) (ls : Array Slot), tw_P D dA o ad t10 H → va_S A s.heap H locs → lv_has ls 6 [(0, .ref o), (2, .int x1), (5, .int v89_5)] → fm_climbs_J89 x1 v89_5 t10 = some (r, tZ) → W p l e (headSpec (ws_ yX6_climbs cX6_climbs 6 (none)) ({ frames := 2, cells := 0, slots := 0, locals := 34 })).room s m ([.ref o, .int a1] : List Value).toArray below meth c H locs 0 0 (MQ below (tw_Qv D dA o ad A tZ) ([.ref o, .int a1] : List Value).toArray s 0 0 A) (F0 m 89 ls []) := by
    intro v89_5 t10 H locs ls hP hS hl hf
    unfold fm_climbs_J89 at hf
    refine lv_aload_n hx hb dX6_climbs_89 rfl (lv_at hl 0 rfl) ?_
    refine tw_aget (k := 26) C hP (by decide) (by decide) q1402 dX6_climbs_90 ?_
    refine lv_iload_n hx hb dX6_climbs_93 rfl (lv_at hl 1 rfl) ?_
    refine lv_iconst (v := (1 : Int32)) hx hb dX6_climbs_94 (by decide) ?_
    refine lv_iadd hx hb dX6_climbs_95 ?_
    refine lv_aload_n hx hb dX6_climbs_96 rfl (lv_at hl 0 rfl) ?_
    refine tw_aget (k := 26) C hP (by decide) (by decide) q1402 dX6_climbs_97 ?_
    refine lv_iload_n hx hb dX6_climbs_100 rfl (lv_at hl 1 rfl) ?_
    refine lv_iconst (v := (1 : Int32)) hx hb dX6_climbs_101 (by decide) ?_
    refine lv_iadd hx hb dX6_climbs_102 ?_
    obtain ⟨x11, t12, e13, hf⟩ := tw_bdE hf
    refine tw_iald C hP e13 dX6_climbs_103 (fun hP => ?_)
    refine lv_iload hx hb dX6_climbs_104 (lv_at hl 2 rfl) ?_
    refine lv_iadd hx hb dX6_climbs_106 ?_
    refine lv_iconst (v := (0 : Int32)) hx hb dX6_climbs_107 (by decide) ?_
    refine lv_sipush (v := (1024 : Int32)) hx hb dX6_climbs_108 (by decide) ?_
    obtain ⟨x14, t15, e16, hf⟩ := tw_bdE hf
    refine tw_cSi (As := [.int (x11 + v89_5), .int (0 : Int32), .int (1024 : Int32)]) (rest := [.int (x1 + (1 : Int32)), .ref (ad 26)]) C hml hP hS (mm_within (l := l) (X := X) (D := D) (dA := dA) hD _ _ _ _ _ _ e16) (va_cwS 3 hts (lw_S q1668 q1669 q106 q1670) rfl rfl rfl hdX6_within ⟨Nat.le_of_ble_eq_true rfl, Nat.le_of_ble_eq_true rfl⟩) rfl hl.1 rfl (Nat.le_of_ble_eq_true rfl) dX6_climbs_111 (fun H locs hP hS => ?_)
    obtain ⟨x17, t18, e19, hf⟩ := tw_bdE hf
    refine tw_iast C hP hS e19 dX6_climbs_114 (fun H locs hP hS => ?_)
    refine lv_aload_n hx hb dX6_climbs_115 rfl (lv_at hl 0 rfl) ?_
    refine tw_aget (k := 26) C hP (by decide) (by decide) q1402 dX6_climbs_116 ?_
    refine lv_iload_n hx hb dX6_climbs_119 rfl (lv_at hl 1 rfl) ?_
    refine lv_iconst (v := (0 : Int32)) hx hb dX6_climbs_120 (by decide) ?_
    refine lv_iadd hx hb dX6_climbs_121 ?_
    refine lv_aload_n hx hb dX6_climbs_122 rfl (lv_at hl 0 rfl) ?_
    refine tw_aget (k := 26) C hP (by decide) (by decide) q1402 dX6_climbs_123 ?_
    refine lv_iload_n hx hb dX6_climbs_126 rfl (lv_at hl 1 rfl) ?_
    refine lv_iconst (v := (0 : Int32)) hx hb dX6_climbs_127 (by decide) ?_
    refine lv_iadd hx hb dX6_climbs_128 ?_
    obtain ⟨x20, t21, e22, hf⟩ := tw_bdE hf
    refine tw_iald C hP e22 dX6_climbs_129 (fun hP => ?_)
    refine lv_aload_n hx hb dX6_climbs_130 rfl (lv_at hl 0 rfl) ?_
    refine tw_aget (k := 26) C hP (by decide) (by decide) q1402 dX6_climbs_131 ?_
    refine lv_iload_n hx hb dX6_climbs_134 rfl (lv_at hl 1 rfl) ?_
    refine lv_iconst (v := (1 : Int32)) hx hb dX6_climbs_135 (by decide) ?_
    refine lv_iadd hx hb dX6_climbs_136 ?_
    obtain ⟨x23, t24, e25, hf⟩ := tw_bdE hf
    refine tw_iald C hP e25 dX6_climbs_137 (fun hP => ?_)
    refine lv_iadd hx hb dX6_climbs_138 ?_
    refine lv_iconst (v := (2 : Int32)) hx hb dX6_climbs_139 (by decide) ?_
    obtain ⟨w26, t27, e28, hf⟩ := tw_bdE hf
    rw [← (tw_nzE e28).2] at hf
    refine lv_idiv hx hb dX6_climbs_140 (tw_nzE e28).1 ?_
    obtain ⟨x29, t30, e31, hf⟩ := tw_bdE hf
    refine tw_iast C hP hS e31 dX6_climbs_141 (fun H locs hP hS => ?_)
    exact tw_iretv (tw_rtE hf).2 C hr hP hS hlk dX6_climbs_142
  have k69 : ∀  (t32 : TS) (H : Heap) (locs : List Loc) (ls : Array Slot), tw_P D dA o ad t32 H → va_S A s.heap H locs → lv_has ls 6 [(0, .ref o), (2, .int x1), (3, .int x4), (4, .int x7), (5, .int (0 : Int32))] → fm_climbs_J69 x4 x1 x7  t32 = some (r, tZ) → W p l e (headSpec (ws_ yX6_climbs cX6_climbs 6 (none)) ({ frames := 2, cells := 0, slots := 0, locals := 34 })).room s m ([.ref o, .int a1] : List Value).toArray below meth c H locs 0 0 (MQ below (tw_Qv D dA o ad A tZ) ([.ref o, .int a1] : List Value).toArray s 0 0 A) (F0 m 69 ls []) := by
    intro t32 H locs ls hP hS hl hf
    unfold fm_climbs_J69 at hf
    refine lv_iload_n hx hb dX6_climbs_69 rfl (lv_at hl 2 rfl) ?_
    refine lv_iconst (v := (5 : Int32)) hx hb dX6_climbs_70 (by decide) ?_
    have k80 : ∀  (t33 : TS) (H : Heap) (locs : List Loc) (ls : Array Slot), tw_P D dA o ad t33 H → va_S A s.heap H locs → lv_has ls 6 [(0, .ref o), (2, .int x1)] → fm_climbs_J80 x1  t33 = some (r, tZ) → W p l e (headSpec (ws_ yX6_climbs cX6_climbs 6 (none)) ({ frames := 2, cells := 0, slots := 0, locals := 34 })).room s m ([.ref o, .int a1] : List Value).toArray below meth c H locs 0 0 (MQ below (tw_Qv D dA o ad A tZ) ([.ref o, .int a1] : List Value).toArray s 0 0 A) (F0 m 80 ls []) := by
      intro t33 H locs ls hP hS hl hf
      unfold fm_climbs_J80 at hf
      refine lv_aload_n hx hb dX6_climbs_80 rfl (lv_at hl 0 rfl) ?_
      refine tw_aget (k := 3) C hP (by decide) (by decide) q1379 dX6_climbs_81 ?_
      refine lv_bipush (v := (7 : Int32)) hx hb dX6_climbs_84 (by decide) ?_
      obtain ⟨x34, t35, e36, hf⟩ := tw_bdE hf
      refine tw_iald C hP e36 dX6_climbs_86 (fun hP => ?_)
      refine lv_istore (lv' := [(5, .int x34), (0, .ref o), (2, .int x1)]) hx hb dX6_climbs_87 hl (by decide) rfl (fun ls hl => ?_)
      exact k89 _ _ _ _ _ hP hS (lv_sub hl [1, 2, 0] rfl) hf
    refine lv_icmp_gt (tgt := 80) hx hb dX6_climbs_71 (by decide) (fun hc => ?_) (fun hc => ?_)
    · have hf := tw_ifT hc hf
      exact k80 _ _ _ _ hP hS (lv_sub hl [0, 1] rfl) hf
    · have hf := tw_ifF hc hf
      refine lv_iload hx hb dX6_climbs_74 (lv_at hl 3 rfl) ?_
      refine lv_iconst (v := (5 : Int32)) hx hb dX6_climbs_76 (by decide) ?_
      refine lv_icmp_le (tgt := 89) hx hb dX6_climbs_77 (by decide) (fun hc => ?_) (fun hc => ?_)
      · have hf := tw_ifT hc hf
        exact k89 _ _ _ _ _ hP hS (lv_sub hl [0, 1, 4] rfl) hf
      · have hf := tw_ifF hc hf
        exact k80 _ _ _ _ hP hS (lv_sub hl [0, 1] rfl) hf
  refine lv_icmp_le (tgt := 69) hx hb dX6_climbs_31 (by decide) (fun hc => ?_) (fun hc => ?_)
  · have hf := tw_ifT hc hf
    exact k69 _ _ _ _ hP hS (lv_sub hl [4, 3, 2, 1, 0] rfl) hf
  · have hf := tw_ifF hc hf
    refine lv_iload hx hb dX6_climbs_34 (lv_at hl 1 rfl) ?_
    refine lv_iconst (v := (5 : Int32)) hx hb dX6_climbs_36 (by decide) ?_
    refine lv_icmp_le (tgt := 69) hx hb dX6_climbs_37 (by decide) (fun hc => ?_) (fun hc => ?_)
    · have hf := tw_ifT hc hf
      exact k69 _ _ _ _ hP hS (lv_sub hl [4, 3, 2, 1, 0] rfl) hf
    · have hf := tw_ifF hc hf
      refine lv_aload_n hx hb dX6_climbs_40 rfl (lv_at hl 4 rfl) ?_
      refine tw_aget (k := 3) C hP (by decide) (by decide) q1379 dX6_climbs_41 ?_
      refine lv_bipush (v := (7 : Int32)) hx hb dX6_climbs_44 (by decide) ?_
      obtain ⟨x37, t38, e39, hf⟩ := tw_bdE hf
      refine tw_iald C hP e39 dX6_climbs_46 (fun hP => ?_)
      refine lv_iconst (v := (2 : Int32)) hx hb dX6_climbs_47 (by decide) ?_
      refine lv_imul hx hb dX6_climbs_48 ?_
      refine lv_iload_n hx hb dX6_climbs_49 rfl (lv_at hl 2 rfl) ?_
      refine lv_iload hx hb dX6_climbs_50 (lv_at hl 1 rfl) ?_
      have k61 : ∀ (w61_0 : Int32) (t40 : TS) (H : Heap) (locs : List Loc) (ls : Array Slot), tw_P D dA o ad t40 H → va_S A s.heap H locs → lv_has ls 6 [(0, .ref o), (2, .int x1)] → fm_climbs_J61 x1 x37 w61_0 t40 = some (r, tZ) → W p l e (headSpec (ws_ yX6_climbs cX6_climbs 6 (none)) ({ frames := 2, cells := 0, slots := 0, locals := 34 })).room s m ([.ref o, .int a1] : List Value).toArray below meth c H locs 0 0 (MQ below (tw_Qv D dA o ad A tZ) ([.ref o, .int a1] : List Value).toArray s 0 0 A) (F0 m 61 ls [.int w61_0, .int (x37 * (2 : Int32))]) := by
        intro w61_0 t40 H locs ls hP hS hl hf
        unfold fm_climbs_J61 at hf
        refine lv_iconst (v := (5 : Int32)) hx hb dX6_climbs_61 (by decide) ?_
        refine lv_isub hx hb dX6_climbs_62 ?_
        refine lv_imul hx hb dX6_climbs_63 ?_
        refine lv_istore (lv' := [(5, .int ((x37 * (2 : Int32)) * (w61_0 - (5 : Int32)))), (0, .ref o), (2, .int x1)]) hx hb dX6_climbs_64 hl (by decide) rfl (fun ls hl => ?_)
        refine lv_goto (tgt := 89) hx hb dX6_climbs_66 (by decide) ?_
        exact k89 _ _ _ _ _ hP hS (lv_sub hl [1, 2, 0] rfl) hf
      refine lv_icmp_ge (tgt := 59) hx hb dX6_climbs_52 (by decide) (fun hc => ?_) (fun hc => ?_)
      · have hf := tw_ifT hc hf
        refine lv_iload hx hb dX6_climbs_59 (lv_at hl 1 rfl) ?_
        exact k61 _ _ _ _ _ hP hS (lv_sub hl [4, 3] rfl) hf
      · have hf := tw_ifF hc hf
        refine lv_iload_n hx hb dX6_climbs_55 rfl (lv_at hl 2 rfl) ?_
        refine lv_goto (tgt := 61) hx hb dX6_climbs_56 (by decide) ?_
        exact k61 _ _ _ _ _ hP hS (lv_sub hl [4, 3] rfl) hf
def fm_recovers_L35 (x1 : Int32) (a1 : Int32) (sf35 : TM Unit)  : TM Unit :=
   tw_bd (tw_ld 26 (x1 + (9 : Int32))) fun x17 =>
   tw_bd (tw_ld 3 (5 : Int32)) fun x20 =>
  if x17 < x20 then ( tw_bd (tw_ld 26 (x1 + (10 : Int32))) fun x23 =>
  tw_bd (tw_st 26 (x1 + (10 : Int32)) (x23 + (1 : Int32))) fun _ =>
   tw_bd (tw_ld 26 (x1 + (10 : Int32))) fun x29 =>
   tw_bd (tw_ld 3 (6 : Int32)) fun x32 =>
  if x32 ≤ x29 then ( tw_bd (tw_st 26 (x1 + (10 : Int32)) (0 : Int32)) fun _ =>
   tw_bd (tw_ld 26 ((x1 + (2 : Int32)) + (1 : Int32))) fun x38 =>
  tw_bd (tw_st 26 ((x1 + (2 : Int32)) + (1 : Int32)) (x38 + (1 : Int32))) fun _ =>
  tw_bd (fm_climbs a1) fun _ =>
  tw_rt ())
  else (tw_rt ()))
  else ( tw_bd (tw_ld 26 (x1 + (9 : Int32))) fun x47 =>
   tw_bd (tw_ld 3 (5 : Int32)) fun x50 =>
  tw_bd (tw_st 26 (x1 + (9 : Int32)) (x47 - x50)) fun _ =>
   tw_bd (tw_ld 26 (x1 + (2 : Int32))) fun x56 =>
  tw_bd (tw_st 26 (x1 + (2 : Int32)) (x56 + (1 : Int32))) fun _ =>
  tw_bd (fm_climbs a1) fun _ =>
 
  sf35)
def fm_recovers (a1 : Int32) : TM Unit :=
  tw_bd (fm_flowAt a1) fun x1 =>
   tw_bd (tw_ld 26 (x1 + (9 : Int32))) fun x4 =>
    tw_bd (tw_ld 15 ((5 : Int32) * a1)) fun x7 =>
  tw_bd (tw_ld 34 (((8 : Int32) * x7) + a1)) fun x10 =>
  tw_bd (tw_st 26 (x1 + (9 : Int32)) (x4 + x10)) fun _ =>
 
  tw_lp (fm_recovers_L35 x1 a1) (fun _ => none) tw_fu
theorem hdX6_recovers : yX6_recovers.cls = "LosslessFabricModel" ∧ (yX6_recovers.cls ≠ "java/lang/invoke/MethodHandle" ∧ yX6_recovers.cls ≠ "java/lang/invoke/VarHandle" ∧ (parseMethodDescriptor yX6_recovers.desc).map (fun d => d.parameters.length) = some 1) := by decide +kernel
set_option maxHeartbeats 4000000 in
theorem mm_recovers {l : Launch} {X : (Nat → Nat) × (Nat → Nat) × Nat} {D : va_G} {dA : Nat → ClassId} {o : Nat} {ad : Nat → Nat} {A : Nat → Prop} (hD : tw_D o ad A) (a1 : Int32) (t0 tZ : TS) (r : Unit) (hf : fm_recovers a1 t0 = some (r, tZ)) : Met l yX6_recovers (ws_ yX6_recovers cX6_recovers 3 (none)) ({ frames := 3, cells := 0, slots := 0, locals := 59 }) (va_Pc [.ref o, .int a1] (tw_W X A D dA o ad t0)) (tw_Qv D dA o ad A tZ) 0 0 A := by
  refine Met.ofW (cc := cX6_recovers) (maxL := 3) (ret := none) (by decide) rfl ?_
  intro p e s m args below meth c s₁ B hml hv
  obtain ⟨rfl, hP, hK, hX⟩ := hv
  have hx := B.exec
  have hb := B.bytes
  have hr := B.returns
  have hts := atoms_spec (ws := (ws_ yX6_recovers cX6_recovers 3 (none))) B.pre
  have hts : ∀ w ∈ lw_all, w.before _ s = true := fun w h => hts w (List.mem_cons_of_mem _ h)
  have hown : s.vm.findClass "LosslessFabricModel" = some m.cls := findClass_of_methodNamed B.named
  have hlk := B.notSynchronized
  have C : tw_C X p s m _ c cX6_recovers D dA o ad A := ⟨hx, hb, hts, hown, hK, hD, hX⟩
  have hS : va_S A s.heap s.heap [] := va_S.rf
  have hl := lv_entry ([.ref o, .int a1]) (n := 3) (Nat.le_of_ble_eq_true rfl)
  rw [lg_entry_eq]
  generalize (lg_sl ([.ref o, .int a1]) ++ List.replicate (3 - (lg_sl ([.ref o, .int a1])).length) Slot.unset).toArray = ls at hl ⊢
  have hl : lv_has ls 3 [(0, .ref o), (1, .int a1)] := hl
  unfold fm_recovers at hf
  refine lv_iload_n hx hb dX6_recovers_0 rfl (lv_at hl 1 rfl) ?_
  obtain ⟨x1, t2, e3, hf⟩ := tw_bdE hf
  refine tw_cSi (As := [.int a1]) (rest := []) C hml hP hS (mm_flowAt (l := l) (X := X) (D := D) (dA := dA) hD _ _ _ _ e3) (va_cwS 1 hts (lw_S q1661 q1662 q106 q1663) rfl rfl rfl hdX6_flowAt ⟨Nat.le_of_ble_eq_true rfl, Nat.le_of_ble_eq_true rfl⟩) rfl hl.1 rfl (Nat.le_of_ble_eq_true rfl) dX6_recovers_1 (fun H locs hP hS => ?_)
  refine lv_istore_n (lv' := [(2, .int x1), (0, .ref o), (1, .int a1)]) hx hb dX6_recovers_4 rfl hl (by decide) rfl (fun ls hl => ?_)
  refine lv_aload_n hx hb dX6_recovers_5 rfl (lv_at hl 1 rfl) ?_
  refine tw_aget (k := 26) C hP (by decide) (by decide) q1402 dX6_recovers_6 ?_
  refine lv_iload_n hx hb dX6_recovers_9 rfl (lv_at hl 0 rfl) ?_
  refine lv_bipush (v := (9 : Int32)) hx hb dX6_recovers_10 (by decide) ?_
  refine lv_iadd hx hb dX6_recovers_12 ?_
  refine lv_dup2_11 hx hb dX6_recovers_13 rfl rfl ?_
  obtain ⟨x4, t5, e6, hf⟩ := tw_bdE hf
  refine tw_iald C hP e6 dX6_recovers_14 (fun hP => ?_)
  refine lv_aload_n hx hb dX6_recovers_15 rfl (lv_at hl 1 rfl) ?_
  refine tw_aget (k := 34) C hP (by decide) (by decide) q1410 dX6_recovers_16 ?_
  refine lv_bipush (v := (8 : Int32)) hx hb dX6_recovers_19 (by decide) ?_
  refine lv_aload_n hx hb dX6_recovers_21 rfl (lv_at hl 1 rfl) ?_
  refine tw_aget (k := 15) C hP (by decide) (by decide) q1391 dX6_recovers_22 ?_
  refine lv_iconst (v := (5 : Int32)) hx hb dX6_recovers_25 (by decide) ?_
  refine lv_iload_n hx hb dX6_recovers_26 rfl (lv_at hl 2 rfl) ?_
  refine lv_imul hx hb dX6_recovers_27 ?_
  obtain ⟨x7, t8, e9, hf⟩ := tw_bdE hf
  refine tw_iald C hP e9 dX6_recovers_28 (fun hP => ?_)
  refine lv_imul hx hb dX6_recovers_29 ?_
  refine lv_iload_n hx hb dX6_recovers_30 rfl (lv_at hl 2 rfl) ?_
  refine lv_iadd hx hb dX6_recovers_31 ?_
  obtain ⟨x10, t11, e12, hf⟩ := tw_bdE hf
  refine tw_iald C hP e12 dX6_recovers_32 (fun hP => ?_)
  refine lv_iadd hx hb dX6_recovers_33 ?_
  obtain ⟨x13, t14, e15, hf⟩ := tw_bdE hf
  refine tw_iast C hP hS e15 dX6_recovers_34 (fun H locs hP hS => ?_)
  have k35 : ∀ (n : Nat)  (t16 : TS) (H : Heap) (locs : List Loc) (ls : Array Slot), tw_P D dA o ad t16 H → va_S A s.heap H locs → lv_has ls 3 [(0, .ref o), (1, .int a1), (2, .int x1)] → tw_lp (fm_recovers_L35 x1 a1) (fun _ => none) n  t16 = some (r, tZ) → W p l e (headSpec (ws_ yX6_recovers cX6_recovers 3 (none)) ({ frames := 3, cells := 0, slots := 0, locals := 59 })).room s m ([.ref o, .int a1] : List Value).toArray below meth c H locs 0 0 (MQ below (tw_Qv D dA o ad A tZ) ([.ref o, .int a1] : List Value).toArray s 0 0 A) (F0 m 35 ls []) := by
    intro n
    induction n with
    | zero => intro t16 H locs ls hP hS hl hf; exact (tw_no hf).elim
    | succ n ih35 =>
      intro t16 H locs ls hP hS hl hf
      obtain ⟨sf35, hs35⟩ : ∃ f, f = tw_lp (fm_recovers_L35 x1 a1) (fun _ => none) n := ⟨_, rfl⟩
      rw [← hs35] at ih35
      have hf : fm_recovers_L35 x1 a1 sf35  t16 = some (r, tZ) := by rw [hs35]; exact hf
      clear hs35
      unfold fm_recovers_L35 at hf
      refine lv_aload_n hx hb dX6_recovers_35 rfl (lv_at hl 0 rfl) ?_
      refine tw_aget (k := 26) C hP (by decide) (by decide) q1402 dX6_recovers_36 ?_
      refine lv_iload_n hx hb dX6_recovers_39 rfl (lv_at hl 2 rfl) ?_
      refine lv_bipush (v := (9 : Int32)) hx hb dX6_recovers_40 (by decide) ?_
      refine lv_iadd hx hb dX6_recovers_42 ?_
      obtain ⟨x17, t18, e19, hf⟩ := tw_bdE hf
      refine tw_iald C hP e19 dX6_recovers_43 (fun hP => ?_)
      refine lv_aload_n hx hb dX6_recovers_44 rfl (lv_at hl 0 rfl) ?_
      refine tw_aget (k := 3) C hP (by decide) (by decide) q1379 dX6_recovers_45 ?_
      refine lv_iconst (v := (5 : Int32)) hx hb dX6_recovers_48 (by decide) ?_
      obtain ⟨x20, t21, e22, hf⟩ := tw_bdE hf
      refine tw_iald C hP e22 dX6_recovers_49 (fun hP => ?_)
      refine lv_icmp_lt (tgt := 91) hx hb dX6_recovers_50 (by decide) (fun hc => ?_) (fun hc => ?_)
      · have hf := tw_ifT hc hf
        refine lv_aload_n hx hb dX6_recovers_91 rfl (lv_at hl 0 rfl) ?_
        refine tw_aget (k := 26) C hP (by decide) (by decide) q1402 dX6_recovers_92 ?_
        refine lv_iload_n hx hb dX6_recovers_95 rfl (lv_at hl 2 rfl) ?_
        refine lv_bipush (v := (10 : Int32)) hx hb dX6_recovers_96 (by decide) ?_
        refine lv_iadd hx hb dX6_recovers_98 ?_
        refine lv_dup2_11 hx hb dX6_recovers_99 rfl rfl ?_
        obtain ⟨x23, t24, e25, hf⟩ := tw_bdE hf
        refine tw_iald C hP e25 dX6_recovers_100 (fun hP => ?_)
        refine lv_iconst (v := (1 : Int32)) hx hb dX6_recovers_101 (by decide) ?_
        refine lv_iadd hx hb dX6_recovers_102 ?_
        obtain ⟨x26, t27, e28, hf⟩ := tw_bdE hf
        refine tw_iast C hP hS e28 dX6_recovers_103 (fun H locs hP hS => ?_)
        refine lv_aload_n hx hb dX6_recovers_104 rfl (lv_at hl 0 rfl) ?_
        refine tw_aget (k := 26) C hP (by decide) (by decide) q1402 dX6_recovers_105 ?_
        refine lv_iload_n hx hb dX6_recovers_108 rfl (lv_at hl 2 rfl) ?_
        refine lv_bipush (v := (10 : Int32)) hx hb dX6_recovers_109 (by decide) ?_
        refine lv_iadd hx hb dX6_recovers_111 ?_
        obtain ⟨x29, t30, e31, hf⟩ := tw_bdE hf
        refine tw_iald C hP e31 dX6_recovers_112 (fun hP => ?_)
        refine lv_aload_n hx hb dX6_recovers_113 rfl (lv_at hl 0 rfl) ?_
        refine tw_aget (k := 3) C hP (by decide) (by decide) q1379 dX6_recovers_114 ?_
        refine lv_bipush (v := (6 : Int32)) hx hb dX6_recovers_117 (by decide) ?_
        obtain ⟨x32, t33, e34, hf⟩ := tw_bdE hf
        refine tw_iald C hP e34 dX6_recovers_119 (fun hP => ?_)
        refine lv_icmp_ge (tgt := 124) hx hb dX6_recovers_120 (by decide) (fun hc => ?_) (fun hc => ?_)
        · have hf := tw_ifT hc hf
          refine lv_aload_n hx hb dX6_recovers_124 rfl (lv_at hl 0 rfl) ?_
          refine tw_aget (k := 26) C hP (by decide) (by decide) q1402 dX6_recovers_125 ?_
          refine lv_iload_n hx hb dX6_recovers_128 rfl (lv_at hl 2 rfl) ?_
          refine lv_bipush (v := (10 : Int32)) hx hb dX6_recovers_129 (by decide) ?_
          refine lv_iadd hx hb dX6_recovers_131 ?_
          refine lv_iconst (v := (0 : Int32)) hx hb dX6_recovers_132 (by decide) ?_
          obtain ⟨x35, t36, e37, hf⟩ := tw_bdE hf
          refine tw_iast C hP hS e37 dX6_recovers_133 (fun H locs hP hS => ?_)
          refine lv_aload_n hx hb dX6_recovers_134 rfl (lv_at hl 0 rfl) ?_
          refine tw_aget (k := 26) C hP (by decide) (by decide) q1402 dX6_recovers_135 ?_
          refine lv_iload_n hx hb dX6_recovers_138 rfl (lv_at hl 2 rfl) ?_
          refine lv_iconst (v := (2 : Int32)) hx hb dX6_recovers_139 (by decide) ?_
          refine lv_iadd hx hb dX6_recovers_140 ?_
          refine lv_iconst (v := (1 : Int32)) hx hb dX6_recovers_141 (by decide) ?_
          refine lv_iadd hx hb dX6_recovers_142 ?_
          refine lv_dup2_11 hx hb dX6_recovers_143 rfl rfl ?_
          obtain ⟨x38, t39, e40, hf⟩ := tw_bdE hf
          refine tw_iald C hP e40 dX6_recovers_144 (fun hP => ?_)
          refine lv_iconst (v := (1 : Int32)) hx hb dX6_recovers_145 (by decide) ?_
          refine lv_iadd hx hb dX6_recovers_146 ?_
          obtain ⟨x41, t42, e43, hf⟩ := tw_bdE hf
          refine tw_iast C hP hS e43 dX6_recovers_147 (fun H locs hP hS => ?_)
          refine lv_aload_n hx hb dX6_recovers_148 rfl (lv_at hl 0 rfl) ?_
          refine lv_iload_n hx hb dX6_recovers_149 rfl (lv_at hl 1 rfl) ?_
          obtain ⟨x44, t45, e46, hf⟩ := tw_bdE hf
          refine tw_cVv (As := [.int a1]) (rest := []) C hml hP hS (mm_climbs (l := l) (X := X) (D := D) (dA := dA) hD _ _ _ _ e46) (cwV 1 hts (lw_V q1719 q1721 qs79 q106 q1722) rfl rfl rfl hdX6_climbs ⟨Nat.le_of_ble_eq_true rfl, Nat.le_of_ble_eq_true rfl⟩) rfl hl.1 rfl (Nat.le_of_ble_eq_true rfl) dX6_recovers_150 (fun H locs hP hS => ?_)
          exact tw_iretv (tw_rtE hf).2 C hr hP hS hlk dX6_recovers_153
        · have hf := tw_ifF hc hf
          exact tw_iretv (tw_rtE hf).2 C hr hP hS hlk dX6_recovers_123
      · have hf := tw_ifF hc hf
        refine lv_aload_n hx hb dX6_recovers_53 rfl (lv_at hl 0 rfl) ?_
        refine tw_aget (k := 26) C hP (by decide) (by decide) q1402 dX6_recovers_54 ?_
        refine lv_iload_n hx hb dX6_recovers_57 rfl (lv_at hl 2 rfl) ?_
        refine lv_bipush (v := (9 : Int32)) hx hb dX6_recovers_58 (by decide) ?_
        refine lv_iadd hx hb dX6_recovers_60 ?_
        refine lv_dup2_11 hx hb dX6_recovers_61 rfl rfl ?_
        obtain ⟨x47, t48, e49, hf⟩ := tw_bdE hf
        refine tw_iald C hP e49 dX6_recovers_62 (fun hP => ?_)
        refine lv_aload_n hx hb dX6_recovers_63 rfl (lv_at hl 0 rfl) ?_
        refine tw_aget (k := 3) C hP (by decide) (by decide) q1379 dX6_recovers_64 ?_
        refine lv_iconst (v := (5 : Int32)) hx hb dX6_recovers_67 (by decide) ?_
        obtain ⟨x50, t51, e52, hf⟩ := tw_bdE hf
        refine tw_iald C hP e52 dX6_recovers_68 (fun hP => ?_)
        refine lv_isub hx hb dX6_recovers_69 ?_
        obtain ⟨x53, t54, e55, hf⟩ := tw_bdE hf
        refine tw_iast C hP hS e55 dX6_recovers_70 (fun H locs hP hS => ?_)
        refine lv_aload_n hx hb dX6_recovers_71 rfl (lv_at hl 0 rfl) ?_
        refine tw_aget (k := 26) C hP (by decide) (by decide) q1402 dX6_recovers_72 ?_
        refine lv_iload_n hx hb dX6_recovers_75 rfl (lv_at hl 2 rfl) ?_
        refine lv_iconst (v := (2 : Int32)) hx hb dX6_recovers_76 (by decide) ?_
        refine lv_iadd hx hb dX6_recovers_77 ?_
        refine lv_dup2_11 hx hb dX6_recovers_78 rfl rfl ?_
        obtain ⟨x56, t57, e58, hf⟩ := tw_bdE hf
        refine tw_iald C hP e58 dX6_recovers_79 (fun hP => ?_)
        refine lv_iconst (v := (1 : Int32)) hx hb dX6_recovers_80 (by decide) ?_
        refine lv_iadd hx hb dX6_recovers_81 ?_
        obtain ⟨x59, t60, e61, hf⟩ := tw_bdE hf
        refine tw_iast C hP hS e61 dX6_recovers_82 (fun H locs hP hS => ?_)
        refine lv_aload_n hx hb dX6_recovers_83 rfl (lv_at hl 0 rfl) ?_
        refine lv_iload_n hx hb dX6_recovers_84 rfl (lv_at hl 1 rfl) ?_
        obtain ⟨x62, t63, e64, hf⟩ := tw_bdE hf
        refine tw_cVv (As := [.int a1]) (rest := []) C hml hP hS (mm_climbs (l := l) (X := X) (D := D) (dA := dA) hD _ _ _ _ e64) (cwV 1 hts (lw_V q1719 q1721 qs79 q106 q1722) rfl rfl rfl hdX6_climbs ⟨Nat.le_of_ble_eq_true rfl, Nat.le_of_ble_eq_true rfl⟩) rfl hl.1 rfl (Nat.le_of_ble_eq_true rfl) dX6_recovers_85 (fun H locs hP hS => ?_)
        refine lv_goto (tgt := 35) hx hb dX6_recovers_88 (by decide) ?_
        exact ih35 _ _ _ _ hP hS (lv_sub hl [0, 1, 2] rfl) hf
  exact k35 _ _ _ _ _ hP hS (lv_sub hl [1, 2, 0] rfl) hf
def fm_feedbackOf (a1 : Int32) : TM Int32 :=
  tw_bd (fm_queueOf a1) fun x1 =>
   tw_bd (tw_ld 3 (3 : Int32)) fun x4 =>
   tw_bd (tw_ld 3 (4 : Int32)) fun x7 =>
   tw_bd (tw_ld 26 (((24 : Int32) * a1) + (9 : Int32))) fun x10 =>
  tw_rt ((x1 - x4) + (x7 * (x1 - x10)))
theorem hdX6_feedbackOf : yX6_feedbackOf.cls = "LosslessFabricModel" ∧ (yX6_feedbackOf.cls ≠ "java/lang/invoke/MethodHandle" ∧ yX6_feedbackOf.cls ≠ "java/lang/invoke/VarHandle" ∧ (parseMethodDescriptor yX6_feedbackOf.desc).map (fun d => d.parameters.length) = some 1) := by decide +kernel
set_option maxHeartbeats 4000000 in
theorem mm_feedbackOf {l : Launch} {X : (Nat → Nat) × (Nat → Nat) × Nat} {D : va_G} {dA : Nat → ClassId} {o : Nat} {ad : Nat → Nat} {A : Nat → Prop} (hD : tw_D o ad A) (a1 : Int32) (t0 tZ : TS) (r : Int32) (hf : fm_feedbackOf a1 t0 = some (r, tZ)) : Met l yX6_feedbackOf (ws_ yX6_feedbackOf cX6_feedbackOf 3 (some .int)) ({ frames := 2, cells := 0, slots := 0, locals := 35 }) (va_Pc [.ref o, .int a1] (tw_W X A D dA o ad t0)) (tw_Qi D dA o ad A r tZ) 0 0 A := by
  refine Met.ofW (cc := cX6_feedbackOf) (maxL := 3) (ret := some .int) (by decide) rfl ?_
  intro p e s m args below meth c s₁ B hml hv
  obtain ⟨rfl, hP, hK, hX⟩ := hv
  have hx := B.exec
  have hb := B.bytes
  have hr := B.returns
  have hts := atoms_spec (ws := (ws_ yX6_feedbackOf cX6_feedbackOf 3 (some .int))) B.pre
  have hts : ∀ w ∈ lw_all, w.before _ s = true := fun w h => hts w (List.mem_cons_of_mem _ h)
  have hown : s.vm.findClass "LosslessFabricModel" = some m.cls := findClass_of_methodNamed B.named
  have hlk := B.notSynchronized
  have C : tw_C X p s m _ c cX6_feedbackOf D dA o ad A := ⟨hx, hb, hts, hown, hK, hD, hX⟩
  have hS : va_S A s.heap s.heap [] := va_S.rf
  have hl := lv_entry ([.ref o, .int a1]) (n := 3) (Nat.le_of_ble_eq_true rfl)
  rw [lg_entry_eq]
  generalize (lg_sl ([.ref o, .int a1]) ++ List.replicate (3 - (lg_sl ([.ref o, .int a1])).length) Slot.unset).toArray = ls at hl ⊢
  have hl : lv_has ls 3 [(0, .ref o), (1, .int a1)] := hl
  unfold fm_feedbackOf at hf
  refine lv_aload_n hx hb dX6_feedbackOf_0 rfl (lv_at hl 0 rfl) ?_
  refine lv_iload_n hx hb dX6_feedbackOf_1 rfl (lv_at hl 1 rfl) ?_
  obtain ⟨x1, t2, e3, hf⟩ := tw_bdE hf
  refine tw_cVi (As := [.int a1]) (rest := []) C hml hP hS (mm_queueOf (l := l) (X := X) (D := D) (dA := dA) hD _ _ _ _ e3) (cwV 1 hts (lw_V q1691 q1693 qs72 q106 q1694) rfl rfl rfl hdX6_queueOf ⟨Nat.le_of_ble_eq_true rfl, Nat.le_of_ble_eq_true rfl⟩) rfl hl.1 rfl (Nat.le_of_ble_eq_true rfl) dX6_feedbackOf_2 (fun H locs hP hS => ?_)
  refine lv_istore_n (lv' := [(2, .int x1), (0, .ref o), (1, .int a1)]) hx hb dX6_feedbackOf_5 rfl hl (by decide) rfl (fun ls hl => ?_)
  refine lv_iload_n hx hb dX6_feedbackOf_6 rfl (lv_at hl 0 rfl) ?_
  refine lv_aload_n hx hb dX6_feedbackOf_7 rfl (lv_at hl 1 rfl) ?_
  refine tw_aget (k := 3) C hP (by decide) (by decide) q1379 dX6_feedbackOf_8 ?_
  refine lv_iconst (v := (3 : Int32)) hx hb dX6_feedbackOf_11 (by decide) ?_
  obtain ⟨x4, t5, e6, hf⟩ := tw_bdE hf
  refine tw_iald C hP e6 dX6_feedbackOf_12 (fun hP => ?_)
  refine lv_isub hx hb dX6_feedbackOf_13 ?_
  refine lv_aload_n hx hb dX6_feedbackOf_14 rfl (lv_at hl 1 rfl) ?_
  refine tw_aget (k := 3) C hP (by decide) (by decide) q1379 dX6_feedbackOf_15 ?_
  refine lv_iconst (v := (4 : Int32)) hx hb dX6_feedbackOf_18 (by decide) ?_
  obtain ⟨x7, t8, e9, hf⟩ := tw_bdE hf
  refine tw_iald C hP e9 dX6_feedbackOf_19 (fun hP => ?_)
  refine lv_iload_n hx hb dX6_feedbackOf_20 rfl (lv_at hl 0 rfl) ?_
  refine lv_aload_n hx hb dX6_feedbackOf_21 rfl (lv_at hl 1 rfl) ?_
  refine tw_aget (k := 26) C hP (by decide) (by decide) q1402 dX6_feedbackOf_22 ?_
  refine lv_bipush (v := (24 : Int32)) hx hb dX6_feedbackOf_25 (by decide) ?_
  refine lv_iload_n hx hb dX6_feedbackOf_27 rfl (lv_at hl 2 rfl) ?_
  refine lv_imul hx hb dX6_feedbackOf_28 ?_
  refine lv_bipush (v := (9 : Int32)) hx hb dX6_feedbackOf_29 (by decide) ?_
  refine lv_iadd hx hb dX6_feedbackOf_31 ?_
  obtain ⟨x10, t11, e12, hf⟩ := tw_bdE hf
  refine tw_iald C hP e12 dX6_feedbackOf_32 (fun hP => ?_)
  refine lv_isub hx hb dX6_feedbackOf_33 ?_
  refine lv_imul hx hb dX6_feedbackOf_34 ?_
  refine lv_iadd hx hb dX6_feedbackOf_35 ?_
  exact tw_ireti (tw_rtE hf).1 (tw_rtE hf).2 C hr hP hS hlk dX6_feedbackOf_36
def fm_noticeOf_J36  (w36_0 : Int32) : TM Int32 :=
  tw_rt w36_0
def fm_noticeOf (a1 : Int32) : TM Int32 :=
  if 0 < a1 then ( tw_bd (tw_ld 3 (3 : Int32)) fun x2 =>
   tw_bd (tw_ld 3 (4 : Int32)) fun x5 =>
  tw_bd (tw_nz (x2 * ((1 : Int32) + ((2 : Int32) * x5)))) fun _ =>
  tw_bd (fm_within ((a1 * (64 : Int32)) / (x2 * ((1 : Int32) + ((2 : Int32) * x5)))) (1 : Int32) (63 : Int32)) fun x11 =>
 
  fm_noticeOf_J36 x11)
  else (fm_noticeOf_J36 (0 : Int32))
theorem hdX6_noticeOf : yX6_noticeOf.cls = "LosslessFabricModel" ∧ (yX6_noticeOf.cls ≠ "java/lang/invoke/MethodHandle" ∧ yX6_noticeOf.cls ≠ "java/lang/invoke/VarHandle" ∧ (parseMethodDescriptor yX6_noticeOf.desc).map (fun d => d.parameters.length) = some 1) := by decide +kernel
set_option maxHeartbeats 4000000 in
theorem mm_noticeOf {l : Launch} {X : (Nat → Nat) × (Nat → Nat) × Nat} {D : va_G} {dA : Nat → ClassId} {o : Nat} {ad : Nat → Nat} {A : Nat → Prop} (hD : tw_D o ad A) (a1 : Int32) (t0 tZ : TS) (r : Int32) (hf : fm_noticeOf a1 t0 = some (r, tZ)) : Met l yX6_noticeOf (ws_ yX6_noticeOf cX6_noticeOf 2 (some .int)) ({ frames := 2, cells := 0, slots := 0, locals := 34 }) (va_Pc [.ref o, .int a1] (tw_W X A D dA o ad t0)) (tw_Qi D dA o ad A r tZ) 0 0 A := by
  refine Met.ofW (cc := cX6_noticeOf) (maxL := 2) (ret := some .int) (by decide) rfl ?_
  intro p e s m args below meth c s₁ B hml hv
  obtain ⟨rfl, hP, hK, hX⟩ := hv
  have hx := B.exec
  have hb := B.bytes
  have hr := B.returns
  have hts := atoms_spec (ws := (ws_ yX6_noticeOf cX6_noticeOf 2 (some .int))) B.pre
  have hts : ∀ w ∈ lw_all, w.before _ s = true := fun w h => hts w (List.mem_cons_of_mem _ h)
  have hown : s.vm.findClass "LosslessFabricModel" = some m.cls := findClass_of_methodNamed B.named
  have hlk := B.notSynchronized
  have C : tw_C X p s m _ c cX6_noticeOf D dA o ad A := ⟨hx, hb, hts, hown, hK, hD, hX⟩
  have hS : va_S A s.heap s.heap [] := va_S.rf
  have hl := lv_entry ([.ref o, .int a1]) (n := 2) (Nat.le_of_ble_eq_true rfl)
  rw [lg_entry_eq]
  generalize (lg_sl ([.ref o, .int a1]) ++ List.replicate (2 - (lg_sl ([.ref o, .int a1])).length) Slot.unset).toArray = ls at hl ⊢
  have hl : lv_has ls 2 [(0, .ref o), (1, .int a1)] := hl
  unfold fm_noticeOf at hf
  refine lv_iload_n hx hb dX6_noticeOf_0 rfl (lv_at hl 1 rfl) ?_
  have k36 : ∀ (w36_0 : Int32) (t1 : TS) (H : Heap) (locs : List Loc) (ls : Array Slot), tw_P D dA o ad t1 H → va_S A s.heap H locs → lv_has ls 2 [] → fm_noticeOf_J36 w36_0 t1 = some (r, tZ) → W p l e (headSpec (ws_ yX6_noticeOf cX6_noticeOf 2 (some .int)) ({ frames := 2, cells := 0, slots := 0, locals := 34 })).room s m ([.ref o, .int a1] : List Value).toArray below meth c H locs 0 0 (MQ below (tw_Qi D dA o ad A r tZ) ([.ref o, .int a1] : List Value).toArray s 0 0 A) (F0 m 36 ls [.int w36_0]) := by
    intro w36_0 t1 H locs ls hP hS hl hf
    unfold fm_noticeOf_J36 at hf
    exact tw_ireti (tw_rtE hf).1 (tw_rtE hf).2 C hr hP hS hlk dX6_noticeOf_36
  refine lv_if_gt (tgt := 8) hx hb dX6_noticeOf_1 (by decide) (fun hc => ?_) (fun hc => ?_)
  · have hf := tw_ifT hc hf
    refine lv_iload_n hx hb dX6_noticeOf_8 rfl (lv_at hl 1 rfl) ?_
    refine lv_bipush (v := (64 : Int32)) hx hb dX6_noticeOf_9 (by decide) ?_
    refine lv_imul hx hb dX6_noticeOf_11 ?_
    refine lv_aload_n hx hb dX6_noticeOf_12 rfl (lv_at hl 0 rfl) ?_
    refine tw_aget (k := 3) C hP (by decide) (by decide) q1379 dX6_noticeOf_13 ?_
    refine lv_iconst (v := (3 : Int32)) hx hb dX6_noticeOf_16 (by decide) ?_
    obtain ⟨x2, t3, e4, hf⟩ := tw_bdE hf
    refine tw_iald C hP e4 dX6_noticeOf_17 (fun hP => ?_)
    refine lv_iconst (v := (1 : Int32)) hx hb dX6_noticeOf_18 (by decide) ?_
    refine lv_iconst (v := (2 : Int32)) hx hb dX6_noticeOf_19 (by decide) ?_
    refine lv_aload_n hx hb dX6_noticeOf_20 rfl (lv_at hl 0 rfl) ?_
    refine tw_aget (k := 3) C hP (by decide) (by decide) q1379 dX6_noticeOf_21 ?_
    refine lv_iconst (v := (4 : Int32)) hx hb dX6_noticeOf_24 (by decide) ?_
    obtain ⟨x5, t6, e7, hf⟩ := tw_bdE hf
    refine tw_iald C hP e7 dX6_noticeOf_25 (fun hP => ?_)
    refine lv_imul hx hb dX6_noticeOf_26 ?_
    refine lv_iadd hx hb dX6_noticeOf_27 ?_
    refine lv_imul hx hb dX6_noticeOf_28 ?_
    obtain ⟨w8, t9, e10, hf⟩ := tw_bdE hf
    rw [← (tw_nzE e10).2] at hf
    refine lv_idiv hx hb dX6_noticeOf_29 (tw_nzE e10).1 ?_
    refine lv_iconst (v := (1 : Int32)) hx hb dX6_noticeOf_30 (by decide) ?_
    refine lv_bipush (v := (63 : Int32)) hx hb dX6_noticeOf_31 (by decide) ?_
    obtain ⟨x11, t12, e13, hf⟩ := tw_bdE hf
    refine tw_cSi (As := [.int ((a1 * (64 : Int32)) / (x2 * ((1 : Int32) + ((2 : Int32) * x5)))), .int (1 : Int32), .int (63 : Int32)]) (rest := []) C hml hP hS (mm_within (l := l) (X := X) (D := D) (dA := dA) hD _ _ _ _ _ _ e13) (va_cwS 3 hts (lw_S q1668 q1669 q106 q1670) rfl rfl rfl hdX6_within ⟨Nat.le_of_ble_eq_true rfl, Nat.le_of_ble_eq_true rfl⟩) rfl hl.1 rfl (Nat.le_of_ble_eq_true rfl) dX6_noticeOf_33 (fun H locs hP hS => ?_)
    exact k36 _ _ _ _ _ hP hS (lv_sub hl [] rfl) hf
  · have hf := tw_ifF hc hf
    refine lv_iconst (v := (0 : Int32)) hx hb dX6_noticeOf_4 (by decide) ?_
    refine lv_goto (tgt := 36) hx hb dX6_noticeOf_5 (by decide) ?_
    exact k36 _ _ _ _ _ hP hS (lv_sub hl [] rfl) hf
def fm_samples_J69 (sf10 : Int32 → Int32 → TM Unit) (v10_4 : Int32) (v69_3 : Int32) : TM Unit :=
  sf10 v69_3 (v10_4 + (1 : Int32))
def fm_samples_L10 (a1 : Int32) (sf10 : Int32 → Int32 → TM Unit) (v10_3 : Int32) (v10_4 : Int32) : TM Unit :=
  tw_bd (fm_flows) fun x2 =>
  if x2 ≤ v10_4 then (if v10_3 = (-1 : Int32) then (tw_rt ())
  else ( tw_bd (tw_ld 26 (((24 : Int32) * a1) + (8 : Int32))) fun x5 =>
   tw_bd (tw_ld 3 (2 : Int32)) fun x8 =>
  tw_bd (tw_nz x8) fun _ =>
  tw_bd (tw_st 26 (((24 : Int32) * a1) + (8 : Int32)) (x5 - x5 / x8 * x8)) fun _ =>
  tw_bd (fm_feedbackOf a1) fun x17 =>
  tw_bd (fm_noticeOf x17) fun x20 =>
   tw_bd (tw_ld 26 (((24 : Int32) * a1) + (5 : Int32))) fun x23 =>
  tw_bd (tw_st 26 (((24 : Int32) * a1) + (5 : Int32)) (x23 + (1 : Int32))) fun _ =>
   tw_bd (fm_queueOf a1) fun x29 =>
  tw_bd (tw_st 26 (((24 : Int32) * a1) + (9 : Int32)) x29) fun _ =>
  if x20 = 0 then (tw_rt ())
  else ( tw_bd (tw_ld 26 (((24 : Int32) * a1) + (6 : Int32))) fun x35 =>
  tw_bd (tw_st 26 (((24 : Int32) * a1) + (6 : Int32)) (x35 + (1 : Int32))) fun _ =>
   tw_bd (tw_gi 38) fun x41 =>
  tw_bd (tw_st 36 x41 v10_3) fun _ =>
   tw_bd (tw_gi 38) fun x47 =>
  tw_bd (tw_st 37 x47 x20) fun _ =>
  tw_bd (tw_gi 38) fun x53 =>
  tw_bd (tw_pi 38 (x53 + (1 : Int32))) fun _ =>
  tw_rt ())))
  else ( tw_bd (tw_ld 26 (((24 : Int32) * a1) + (8 : Int32))) fun x59 =>
   tw_bd (tw_ld 35 (((8 : Int32) * a1) + v10_4)) fun x62 =>
  tw_bd (tw_st 26 (((24 : Int32) * a1) + (8 : Int32)) (x59 + x62)) fun _ =>
  if v10_3 = (-1 : Int32) then ( tw_bd (tw_ld 26 (((24 : Int32) * a1) + (8 : Int32))) fun x69 =>
   tw_bd (tw_ld 3 (2 : Int32)) fun x72 =>
  if x69 < x72 then (fm_samples_J69 sf10 v10_4 v10_3)
  else (fm_samples_J69 sf10 v10_4 v10_4))
  else (fm_samples_J69 sf10 v10_4 v10_3))
def fm_samples (a1 : Int32) : TM Unit :=
  tw_lp (fm_samples_L10 a1) (fun _ _ _ => none) tw_fu (-1 : Int32) (0 : Int32)
theorem hdX6_samples : yX6_samples.cls = "LosslessFabricModel" ∧ (yX6_samples.cls ≠ "java/lang/invoke/MethodHandle" ∧ yX6_samples.cls ≠ "java/lang/invoke/VarHandle" ∧ (parseMethodDescriptor yX6_samples.desc).map (fun d => d.parameters.length) = some 1) := by decide +kernel
set_option maxHeartbeats 4000000 in
theorem mm_samples {l : Launch} {X : (Nat → Nat) × (Nat → Nat) × Nat} {D : va_G} {dA : Nat → ClassId} {o : Nat} {ad : Nat → Nat} {A : Nat → Prop} (hD : tw_D o ad A) (a1 : Int32) (t0 tZ : TS) (r : Unit) (hf : fm_samples a1 t0 = some (r, tZ)) : Met l yX6_samples (ws_ yX6_samples cX6_samples 5 (none)) ({ frames := 3, cells := 0, slots := 0, locals := 57 }) (va_Pc [.ref o, .int a1] (tw_W X A D dA o ad t0)) (tw_Qv D dA o ad A tZ) 0 0 A := by
  refine Met.ofW (cc := cX6_samples) (maxL := 5) (ret := none) (by decide) rfl ?_
  intro p e s m args below meth c s₁ B hml hv
  obtain ⟨rfl, hP, hK, hX⟩ := hv
  have hx := B.exec
  have hb := B.bytes
  have hr := B.returns
  have hts := atoms_spec (ws := (ws_ yX6_samples cX6_samples 5 (none))) B.pre
  have hts : ∀ w ∈ lw_all, w.before _ s = true := fun w h => hts w (List.mem_cons_of_mem _ h)
  have hown : s.vm.findClass "LosslessFabricModel" = some m.cls := findClass_of_methodNamed B.named
  have hlk := B.notSynchronized
  have C : tw_C X p s m _ c cX6_samples D dA o ad A := ⟨hx, hb, hts, hown, hK, hD, hX⟩
  have hS : va_S A s.heap s.heap [] := va_S.rf
  have hl := lv_entry ([.ref o, .int a1]) (n := 5) (Nat.le_of_ble_eq_true rfl)
  rw [lg_entry_eq]
  generalize (lg_sl ([.ref o, .int a1]) ++ List.replicate (5 - (lg_sl ([.ref o, .int a1])).length) Slot.unset).toArray = ls at hl ⊢
  have hl : lv_has ls 5 [(0, .ref o), (1, .int a1)] := hl
  unfold fm_samples at hf
  refine lv_bipush (v := (24 : Int32)) hx hb dX6_samples_0 (by decide) ?_
  refine lv_iload_n hx hb dX6_samples_2 rfl (lv_at hl 1 rfl) ?_
  refine lv_imul hx hb dX6_samples_3 ?_
  refine lv_istore_n (lv' := [(2, .int ((24 : Int32) * a1)), (0, .ref o), (1, .int a1)]) hx hb dX6_samples_4 rfl hl (by decide) rfl (fun ls hl => ?_)
  refine lv_iconst (v := (-1 : Int32)) hx hb dX6_samples_5 (by decide) ?_
  refine lv_istore_n (lv' := [(3, .int (-1 : Int32)), (2, .int ((24 : Int32) * a1)), (0, .ref o), (1, .int a1)]) hx hb dX6_samples_6 rfl hl (by decide) rfl (fun ls hl => ?_)
  refine lv_iconst (v := (0 : Int32)) hx hb dX6_samples_7 (by decide) ?_
  refine lv_istore (lv' := [(4, .int (0 : Int32)), (3, .int (-1 : Int32)), (2, .int ((24 : Int32) * a1)), (0, .ref o), (1, .int a1)]) hx hb dX6_samples_8 hl (by decide) rfl (fun ls hl => ?_)
  have k10 : ∀ (n : Nat) (v10_3 : Int32) (v10_4 : Int32) (t1 : TS) (H : Heap) (locs : List Loc) (ls : Array Slot), tw_P D dA o ad t1 H → va_S A s.heap H locs → lv_has ls 5 [(0, .ref o), (1, .int a1), (2, .int ((24 : Int32) * a1)), (3, .int v10_3), (4, .int v10_4)] → tw_lp (fm_samples_L10 a1) (fun _ _ _ => none) n v10_3 v10_4 t1 = some (r, tZ) → W p l e (headSpec (ws_ yX6_samples cX6_samples 5 (none)) ({ frames := 3, cells := 0, slots := 0, locals := 57 })).room s m ([.ref o, .int a1] : List Value).toArray below meth c H locs 0 0 (MQ below (tw_Qv D dA o ad A tZ) ([.ref o, .int a1] : List Value).toArray s 0 0 A) (F0 m 10 ls []) := by
    intro n
    induction n with
    | zero => intro v10_3 v10_4 t1 H locs ls hP hS hl hf; exact (tw_no hf).elim
    | succ n ih10 =>
      intro v10_3 v10_4 t1 H locs ls hP hS hl hf
      obtain ⟨sf10, hs10⟩ : ∃ f, f = tw_lp (fm_samples_L10 a1) (fun _ _ _ => none) n := ⟨_, rfl⟩
      rw [← hs10] at ih10
      have hf : fm_samples_L10 a1 sf10 v10_3 v10_4 t1 = some (r, tZ) := by rw [hs10]; exact hf
      clear hs10
      unfold fm_samples_L10 at hf
      refine lv_iload hx hb dX6_samples_10 (lv_at hl 4 rfl) ?_
      refine lv_aload_n hx hb dX6_samples_12 rfl (lv_at hl 0 rfl) ?_
      obtain ⟨x2, t3, e4, hf⟩ := tw_bdE hf
      refine tw_cVi (As := []) (rest := [.int v10_4]) C hml hP hS (mm_flows (l := l) (X := X) (D := D) (dA := dA) hD _ _ _ e4) (cwV 0 hts (lw_V q1372 q1374 qs44 q106 q1375) rfl rfl rfl hdX6_flows ⟨Nat.le_of_ble_eq_true rfl, Nat.le_of_ble_eq_true rfl⟩) rfl hl.1 rfl (Nat.le_of_ble_eq_true rfl) dX6_samples_13 (fun H locs hP hS => ?_)
      refine lv_icmp_ge (tgt := 75) hx hb dX6_samples_16 (by decide) (fun hc => ?_) (fun hc => ?_)
      · have hf := tw_ifT hc hf
        refine lv_iload_n hx hb dX6_samples_75 rfl (lv_at hl 3 rfl) ?_
        refine lv_iconst (v := (-1 : Int32)) hx hb dX6_samples_76 (by decide) ?_
        refine lv_icmp_ne (tgt := 81) hx hb dX6_samples_77 (by decide) (fun hc => ?_) (fun hc => ?_)
        · have hf := tw_ifF hc hf
          refine lv_aload_n hx hb dX6_samples_81 rfl (lv_at hl 0 rfl) ?_
          refine tw_aget (k := 26) C hP (by decide) (by decide) q1402 dX6_samples_82 ?_
          refine lv_iload_n hx hb dX6_samples_85 rfl (lv_at hl 2 rfl) ?_
          refine lv_bipush (v := (8 : Int32)) hx hb dX6_samples_86 (by decide) ?_
          refine lv_iadd hx hb dX6_samples_88 ?_
          refine lv_dup2_11 hx hb dX6_samples_89 rfl rfl ?_
          obtain ⟨x5, t6, e7, hf⟩ := tw_bdE hf
          refine tw_iald C hP e7 dX6_samples_90 (fun hP => ?_)
          refine lv_aload_n hx hb dX6_samples_91 rfl (lv_at hl 0 rfl) ?_
          refine tw_aget (k := 3) C hP (by decide) (by decide) q1379 dX6_samples_92 ?_
          refine lv_iconst (v := (2 : Int32)) hx hb dX6_samples_95 (by decide) ?_
          obtain ⟨x8, t9, e10, hf⟩ := tw_bdE hf
          refine tw_iald C hP e10 dX6_samples_96 (fun hP => ?_)
          obtain ⟨w11, t12, e13, hf⟩ := tw_bdE hf
          rw [← (tw_nzE e13).2] at hf
          refine lv_irem hx hb dX6_samples_97 (tw_nzE e13).1 ?_
          obtain ⟨x14, t15, e16, hf⟩ := tw_bdE hf
          refine tw_iast C hP hS e16 dX6_samples_98 (fun H locs hP hS => ?_)
          refine lv_aload_n hx hb dX6_samples_99 rfl (lv_at hl 0 rfl) ?_
          refine lv_aload_n hx hb dX6_samples_100 rfl (lv_at hl 0 rfl) ?_
          refine lv_iload_n hx hb dX6_samples_101 rfl (lv_at hl 1 rfl) ?_
          obtain ⟨x17, t18, e19, hf⟩ := tw_bdE hf
          refine tw_cVi (As := [.int a1]) (rest := [.ref o]) C hml hP hS (mm_feedbackOf (l := l) (X := X) (D := D) (dA := dA) hD _ _ _ _ e19) (cwV 1 hts (lw_V q1703 q1705 qs75 q106 q1706) rfl rfl rfl hdX6_feedbackOf ⟨Nat.le_of_ble_eq_true rfl, Nat.le_of_ble_eq_true rfl⟩) rfl hl.1 rfl (Nat.le_of_ble_eq_true rfl) dX6_samples_102 (fun H locs hP hS => ?_)
          obtain ⟨x20, t21, e22, hf⟩ := tw_bdE hf
          refine tw_cVi (As := [.int x17]) (rest := []) C hml hP hS (mm_noticeOf (l := l) (X := X) (D := D) (dA := dA) hD _ _ _ _ e22) (cwV 1 hts (lw_V q1707 q1709 qs76 q106 q1710) rfl rfl rfl hdX6_noticeOf ⟨Nat.le_of_ble_eq_true rfl, Nat.le_of_ble_eq_true rfl⟩) rfl hl.1 rfl (Nat.le_of_ble_eq_true rfl) dX6_samples_105 (fun H locs hP hS => ?_)
          refine lv_istore (lv' := [(4, .int x20), (0, .ref o), (1, .int a1), (2, .int ((24 : Int32) * a1)), (3, .int v10_3)]) hx hb dX6_samples_108 hl (by decide) rfl (fun ls hl => ?_)
          refine lv_aload_n hx hb dX6_samples_110 rfl (lv_at hl 1 rfl) ?_
          refine tw_aget (k := 26) C hP (by decide) (by decide) q1402 dX6_samples_111 ?_
          refine lv_iload_n hx hb dX6_samples_114 rfl (lv_at hl 3 rfl) ?_
          refine lv_iconst (v := (5 : Int32)) hx hb dX6_samples_115 (by decide) ?_
          refine lv_iadd hx hb dX6_samples_116 ?_
          refine lv_dup2_11 hx hb dX6_samples_117 rfl rfl ?_
          obtain ⟨x23, t24, e25, hf⟩ := tw_bdE hf
          refine tw_iald C hP e25 dX6_samples_118 (fun hP => ?_)
          refine lv_iconst (v := (1 : Int32)) hx hb dX6_samples_119 (by decide) ?_
          refine lv_iadd hx hb dX6_samples_120 ?_
          obtain ⟨x26, t27, e28, hf⟩ := tw_bdE hf
          refine tw_iast C hP hS e28 dX6_samples_121 (fun H locs hP hS => ?_)
          refine lv_aload_n hx hb dX6_samples_122 rfl (lv_at hl 1 rfl) ?_
          refine tw_aget (k := 26) C hP (by decide) (by decide) q1402 dX6_samples_123 ?_
          refine lv_iload_n hx hb dX6_samples_126 rfl (lv_at hl 3 rfl) ?_
          refine lv_bipush (v := (9 : Int32)) hx hb dX6_samples_127 (by decide) ?_
          refine lv_iadd hx hb dX6_samples_129 ?_
          refine lv_aload_n hx hb dX6_samples_130 rfl (lv_at hl 1 rfl) ?_
          refine lv_iload_n hx hb dX6_samples_131 rfl (lv_at hl 2 rfl) ?_
          obtain ⟨x29, t30, e31, hf⟩ := tw_bdE hf
          refine tw_cVi (As := [.int a1]) (rest := [.int (((24 : Int32) * a1) + (9 : Int32)), .ref (ad 26)]) C hml hP hS (mm_queueOf (l := l) (X := X) (D := D) (dA := dA) hD _ _ _ _ e31) (cwV 1 hts (lw_V q1691 q1693 qs72 q106 q1694) rfl rfl rfl hdX6_queueOf ⟨Nat.le_of_ble_eq_true rfl, Nat.le_of_ble_eq_true rfl⟩) rfl hl.1 rfl (Nat.le_of_ble_eq_true rfl) dX6_samples_132 (fun H locs hP hS => ?_)
          obtain ⟨x32, t33, e34, hf⟩ := tw_bdE hf
          refine tw_iast C hP hS e34 dX6_samples_135 (fun H locs hP hS => ?_)
          refine lv_iload hx hb dX6_samples_136 (lv_at hl 0 rfl) ?_
          refine lv_if_ne (tgt := 142) hx hb dX6_samples_138 (by decide) (fun hc => ?_) (fun hc => ?_)
          · have hf := tw_ifF hc hf
            refine lv_aload_n hx hb dX6_samples_142 rfl (lv_at hl 1 rfl) ?_
            refine tw_aget (k := 26) C hP (by decide) (by decide) q1402 dX6_samples_143 ?_
            refine lv_iload_n hx hb dX6_samples_146 rfl (lv_at hl 3 rfl) ?_
            refine lv_bipush (v := (6 : Int32)) hx hb dX6_samples_147 (by decide) ?_
            refine lv_iadd hx hb dX6_samples_149 ?_
            refine lv_dup2_11 hx hb dX6_samples_150 rfl rfl ?_
            obtain ⟨x35, t36, e37, hf⟩ := tw_bdE hf
            refine tw_iald C hP e37 dX6_samples_151 (fun hP => ?_)
            refine lv_iconst (v := (1 : Int32)) hx hb dX6_samples_152 (by decide) ?_
            refine lv_iadd hx hb dX6_samples_153 ?_
            obtain ⟨x38, t39, e40, hf⟩ := tw_bdE hf
            refine tw_iast C hP hS e40 dX6_samples_154 (fun H locs hP hS => ?_)
            refine lv_aload_n hx hb dX6_samples_155 rfl (lv_at hl 1 rfl) ?_
            refine tw_aget (k := 36) C hP (by decide) (by decide) q1412 dX6_samples_156 ?_
            refine lv_aload_n hx hb dX6_samples_159 rfl (lv_at hl 1 rfl) ?_
            obtain ⟨x41, t42, e43, hf⟩ := tw_bdE hf
            refine tw_iget (k := 38) C hP (by decide) (Or.inl rfl) e43 q1414 dX6_samples_160 (fun hP => ?_)
            refine lv_iload_n hx hb dX6_samples_163 rfl (lv_at hl 4 rfl) ?_
            obtain ⟨x44, t45, e46, hf⟩ := tw_bdE hf
            refine tw_iast C hP hS e46 dX6_samples_164 (fun H locs hP hS => ?_)
            refine lv_aload_n hx hb dX6_samples_165 rfl (lv_at hl 1 rfl) ?_
            refine tw_aget (k := 37) C hP (by decide) (by decide) q1413 dX6_samples_166 ?_
            refine lv_aload_n hx hb dX6_samples_169 rfl (lv_at hl 1 rfl) ?_
            obtain ⟨x47, t48, e49, hf⟩ := tw_bdE hf
            refine tw_iget (k := 38) C hP (by decide) (Or.inl rfl) e49 q1414 dX6_samples_170 (fun hP => ?_)
            refine lv_iload hx hb dX6_samples_173 (lv_at hl 0 rfl) ?_
            obtain ⟨x50, t51, e52, hf⟩ := tw_bdE hf
            refine tw_iast C hP hS e52 dX6_samples_175 (fun H locs hP hS => ?_)
            refine lv_aload_n hx hb dX6_samples_176 rfl (lv_at hl 1 rfl) ?_
            refine lv_dup hx hb dX6_samples_177 rfl ?_
            obtain ⟨x53, t54, e55, hf⟩ := tw_bdE hf
            refine tw_iget (k := 38) C hP (by decide) (Or.inl rfl) e55 q1414 dX6_samples_178 (fun hP => ?_)
            refine lv_iconst (v := (1 : Int32)) hx hb dX6_samples_181 (by decide) ?_
            refine lv_iadd hx hb dX6_samples_182 ?_
            obtain ⟨x56, t57, e58, hf⟩ := tw_bdE hf
            refine tw_iput (k := 38) C hP hS (by decide) rfl e58 q1414 dX6_samples_183 (fun H locs hP hS => ?_)
            exact tw_iretv (tw_rtE hf).2 C hr hP hS hlk dX6_samples_186
          · have hf := tw_ifT hc hf
            exact tw_iretv (tw_rtE hf).2 C hr hP hS hlk dX6_samples_141
        · have hf := tw_ifT hc hf
          exact tw_iretv (tw_rtE hf).2 C hr hP hS hlk dX6_samples_80
      · have hf := tw_ifF hc hf
        refine lv_aload_n hx hb dX6_samples_19 rfl (lv_at hl 0 rfl) ?_
        refine tw_aget (k := 26) C hP (by decide) (by decide) q1402 dX6_samples_20 ?_
        refine lv_iload_n hx hb dX6_samples_23 rfl (lv_at hl 2 rfl) ?_
        refine lv_bipush (v := (8 : Int32)) hx hb dX6_samples_24 (by decide) ?_
        refine lv_iadd hx hb dX6_samples_26 ?_
        refine lv_dup2_11 hx hb dX6_samples_27 rfl rfl ?_
        obtain ⟨x59, t60, e61, hf⟩ := tw_bdE hf
        refine tw_iald C hP e61 dX6_samples_28 (fun hP => ?_)
        refine lv_aload_n hx hb dX6_samples_29 rfl (lv_at hl 0 rfl) ?_
        refine tw_aget (k := 35) C hP (by decide) (by decide) q1411 dX6_samples_30 ?_
        refine lv_bipush (v := (8 : Int32)) hx hb dX6_samples_33 (by decide) ?_
        refine lv_iload_n hx hb dX6_samples_35 rfl (lv_at hl 1 rfl) ?_
        refine lv_imul hx hb dX6_samples_36 ?_
        refine lv_iload hx hb dX6_samples_37 (lv_at hl 4 rfl) ?_
        refine lv_iadd hx hb dX6_samples_39 ?_
        obtain ⟨x62, t63, e64, hf⟩ := tw_bdE hf
        refine tw_iald C hP e64 dX6_samples_40 (fun hP => ?_)
        refine lv_iadd hx hb dX6_samples_41 ?_
        obtain ⟨x65, t66, e67, hf⟩ := tw_bdE hf
        refine tw_iast C hP hS e67 dX6_samples_42 (fun H locs hP hS => ?_)
        refine lv_iload_n hx hb dX6_samples_43 rfl (lv_at hl 3 rfl) ?_
        refine lv_iconst (v := (-1 : Int32)) hx hb dX6_samples_44 (by decide) ?_
        have k69 : ∀ (v69_3 : Int32) (t68 : TS) (H : Heap) (locs : List Loc) (ls : Array Slot), tw_P D dA o ad t68 H → va_S A s.heap H locs → lv_has ls 5 [(0, .ref o), (1, .int a1), (2, .int ((24 : Int32) * a1)), (3, .int v69_3), (4, .int v10_4)] → fm_samples_J69 sf10 v10_4 v69_3 t68 = some (r, tZ) → W p l e (headSpec (ws_ yX6_samples cX6_samples 5 (none)) ({ frames := 3, cells := 0, slots := 0, locals := 57 })).room s m ([.ref o, .int a1] : List Value).toArray below meth c H locs 0 0 (MQ below (tw_Qv D dA o ad A tZ) ([.ref o, .int a1] : List Value).toArray s 0 0 A) (F0 m 69 ls []) := by
          intro v69_3 t68 H locs ls hP hS hl hf
          unfold fm_samples_J69 at hf
          refine lv_iinc (v := (v10_4 + (1 : Int32))) (lv' := [(4, .int (v10_4 + (1 : Int32))), (0, .ref o), (1, .int a1), (2, .int ((24 : Int32) * a1)), (3, .int v69_3)]) hx hb dX6_samples_69 hl (k := 4) rfl rfl (by decide) rfl (fun ls hl => ?_)
          refine lv_goto (tgt := 10) hx hb dX6_samples_72 (by decide) ?_
          exact ih10 _ _ _ _ _ _ hP hS (lv_sub hl [1, 2, 3, 4, 0] rfl) hf
        refine lv_icmp_ne (tgt := 69) hx hb dX6_samples_45 (by decide) (fun hc => ?_) (fun hc => ?_)
        · have hf := tw_ifF hc hf
          exact k69 _ _ _ _ _ hP hS (lv_sub hl [0, 1, 2, 3, 4] rfl) hf
        · have hf := tw_ifT hc hf
          refine lv_aload_n hx hb dX6_samples_48 rfl (lv_at hl 0 rfl) ?_
          refine tw_aget (k := 26) C hP (by decide) (by decide) q1402 dX6_samples_49 ?_
          refine lv_iload_n hx hb dX6_samples_52 rfl (lv_at hl 2 rfl) ?_
          refine lv_bipush (v := (8 : Int32)) hx hb dX6_samples_53 (by decide) ?_
          refine lv_iadd hx hb dX6_samples_55 ?_
          obtain ⟨x69, t70, e71, hf⟩ := tw_bdE hf
          refine tw_iald C hP e71 dX6_samples_56 (fun hP => ?_)
          refine lv_aload_n hx hb dX6_samples_57 rfl (lv_at hl 0 rfl) ?_
          refine tw_aget (k := 3) C hP (by decide) (by decide) q1379 dX6_samples_58 ?_
          refine lv_iconst (v := (2 : Int32)) hx hb dX6_samples_61 (by decide) ?_
          obtain ⟨x72, t73, e74, hf⟩ := tw_bdE hf
          refine tw_iald C hP e74 dX6_samples_62 (fun hP => ?_)
          refine lv_icmp_lt (tgt := 69) hx hb dX6_samples_63 (by decide) (fun hc => ?_) (fun hc => ?_)
          · have hf := tw_ifT hc hf
            exact k69 _ _ _ _ _ hP hS (lv_sub hl [0, 1, 2, 3, 4] rfl) hf
          · have hf := tw_ifF hc hf
            refine lv_iload hx hb dX6_samples_66 (lv_at hl 4 rfl) ?_
            refine lv_istore_n (lv' := [(3, .int v10_4), (0, .ref o), (1, .int a1), (2, .int ((24 : Int32) * a1)), (4, .int v10_4)]) hx hb dX6_samples_68 rfl hl (by decide) rfl (fun ls hl => ?_)
            exact k69 _ _ _ _ _ hP hS (lv_sub hl [1, 2, 3, 0, 4] rfl) hf
  exact k10 _ _ _ _ _ _ _ hP hS (lv_sub hl [3, 4, 2, 1, 0] rfl) hf