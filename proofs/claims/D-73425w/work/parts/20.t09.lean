def fm_inCyclesNow_J33 (sf4 : Int32 → Int32 → TM Int32) (v4_2 : Int32) (v33_1 : Int32) : TM Int32 :=
  sf4 v33_1 (v4_2 + (1 : Int32))
def fm_inCyclesNow_L4  (sf4 : Int32 → Int32 → TM Int32) (v4_1 : Int32) (v4_2 : Int32) : TM Int32 :=
  tw_bd (fm_links) fun x2 =>
  if x2 ≤ v4_2 then (tw_rt v4_1)
  else (tw_bd (fm_laysSteps v4_2) fun _ =>
   tw_bd (tw_ld 40 v4_2) fun x8 =>
  if x8 = (-1 : Int32) then (fm_inCyclesNow_J33 sf4 v4_2 v4_1)
  else (fm_inCyclesNow_J33 sf4 v4_2 (v4_1 ||| ((1 : Int32) <<< (v4_2 &&& 31)))))
def fm_inCyclesNow  : TM Int32 :=
  tw_lp (fm_inCyclesNow_L4) (fun _ _ _ => none) tw_fu (0 : Int32) (0 : Int32)
theorem hdX6_inCyclesNow : yX6_inCyclesNow.cls = "LosslessFabricModel" ∧ (yX6_inCyclesNow.cls ≠ "java/lang/invoke/MethodHandle" ∧ yX6_inCyclesNow.cls ≠ "java/lang/invoke/VarHandle" ∧ (parseMethodDescriptor yX6_inCyclesNow.desc).map (fun d => d.parameters.length) = some 0) := by decide +kernel
set_option maxHeartbeats 4000000 in
theorem mm_inCyclesNow {l : Launch} {X : (Nat → Nat) × (Nat → Nat) × Nat} {D : va_G} {dA : Nat → ClassId} {o : Nat} {ad : Nat → Nat} {A : Nat → Prop} (hD : tw_D o ad A)  (t0 tZ : TS) (r : Int32) (hf : fm_inCyclesNow  t0 = some (r, tZ)) : Met l yX6_inCyclesNow (ws_ yX6_inCyclesNow cX6_inCyclesNow 3 (some .int)) ({ frames := 3, cells := 0, slots := 0, locals := 57 }) (va_Pc [.ref o] (tw_W X A D dA o ad t0)) (tw_Qi D dA o ad A r tZ) 0 0 A := by
  refine Met.ofW (cc := cX6_inCyclesNow) (maxL := 3) (ret := some .int) (by decide) rfl ?_
  intro p e s m args below meth c s₁ B hml hv
  obtain ⟨rfl, hP, hK, hX⟩ := hv
  have hx := B.exec
  have hb := B.bytes
  have hr := B.returns
  have hts := atoms_spec (ws := (ws_ yX6_inCyclesNow cX6_inCyclesNow 3 (some .int))) B.pre
  have hts : ∀ w ∈ lw_all, w.before _ s = true := fun w h => hts w (List.mem_cons_of_mem _ h)
  have hown : s.vm.findClass "LosslessFabricModel" = some m.cls := findClass_of_methodNamed B.named
  have hlk := B.notSynchronized
  have C : tw_C X p s m _ c cX6_inCyclesNow D dA o ad A := ⟨hx, hb, hts, hown, hK, hD, hX⟩
  have hS : va_S A s.heap s.heap [] := va_S.rf
  have hl := lv_entry ([.ref o]) (n := 3) (Nat.le_of_ble_eq_true rfl)
  rw [lg_entry_eq]
  generalize (lg_sl ([.ref o]) ++ List.replicate (3 - (lg_sl ([.ref o])).length) Slot.unset).toArray = ls at hl ⊢
  have hl : lv_has ls 3 [(0, .ref o)] := hl
  unfold fm_inCyclesNow at hf
  refine lv_iconst (v := (0 : Int32)) hx hb dX6_inCyclesNow_0 (by decide) ?_
  refine lv_istore_n (lv' := [(1, .int (0 : Int32)), (0, .ref o)]) hx hb dX6_inCyclesNow_1 rfl hl (by decide) rfl (fun ls hl => ?_)
  refine lv_iconst (v := (0 : Int32)) hx hb dX6_inCyclesNow_2 (by decide) ?_
  refine lv_istore_n (lv' := [(2, .int (0 : Int32)), (1, .int (0 : Int32)), (0, .ref o)]) hx hb dX6_inCyclesNow_3 rfl hl (by decide) rfl (fun ls hl => ?_)
  have k4 : ∀ (n : Nat) (v4_1 : Int32) (v4_2 : Int32) (t1 : TS) (H : Heap) (locs : List Loc) (ls : Array Slot), tw_P D dA o ad t1 H → va_S A s.heap H locs → lv_has ls 3 [(0, .ref o), (1, .int v4_1), (2, .int v4_2)] → tw_lp (fm_inCyclesNow_L4) (fun _ _ _ => none) n v4_1 v4_2 t1 = some (r, tZ) → W p l e (headSpec (ws_ yX6_inCyclesNow cX6_inCyclesNow 3 (some .int)) ({ frames := 3, cells := 0, slots := 0, locals := 57 })).room s m ([.ref o] : List Value).toArray below meth c H locs 0 0 (MQ below (tw_Qi D dA o ad A r tZ) ([.ref o] : List Value).toArray s 0 0 A) (F0 m 4 ls []) := by
    intro n
    induction n with
    | zero => intro v4_1 v4_2 t1 H locs ls hP hS hl hf; exact (tw_no hf).elim
    | succ n ih4 =>
      intro v4_1 v4_2 t1 H locs ls hP hS hl hf
      obtain ⟨sf4, hs4⟩ : ∃ f, f = tw_lp (fm_inCyclesNow_L4) (fun _ _ _ => none) n := ⟨_, rfl⟩
      rw [← hs4] at ih4
      have hf : fm_inCyclesNow_L4 sf4 v4_1 v4_2 t1 = some (r, tZ) := by rw [hs4]; exact hf
      clear hs4
      unfold fm_inCyclesNow_L4 at hf
      refine lv_iload_n hx hb dX6_inCyclesNow_4 rfl (lv_at hl 2 rfl) ?_
      refine lv_aload_n hx hb dX6_inCyclesNow_5 rfl (lv_at hl 0 rfl) ?_
      obtain ⟨x2, t3, e4, hf⟩ := tw_bdE hf
      refine tw_cVi (As := []) (rest := [.int v4_2]) C hml hP hS (mm_links (l := l) (X := X) (D := D) (dA := dA) hD _ _ _ e4) (cwV 0 hts (lw_V q1368 q1370 qs43 q106 q1371) rfl rfl rfl hdX6_links ⟨Nat.le_of_ble_eq_true rfl, Nat.le_of_ble_eq_true rfl⟩) rfl hl.1 rfl (Nat.le_of_ble_eq_true rfl) dX6_inCyclesNow_6 (fun H locs hP hS => ?_)
      refine lv_icmp_ge (tgt := 39) hx hb dX6_inCyclesNow_9 (by decide) (fun hc => ?_) (fun hc => ?_)
      · have hf := tw_ifT hc hf
        refine lv_iload_n hx hb dX6_inCyclesNow_39 rfl (lv_at hl 1 rfl) ?_
        exact tw_ireti (tw_rtE hf).1 (tw_rtE hf).2 C hr hP hS hlk dX6_inCyclesNow_40
      · have hf := tw_ifF hc hf
        refine lv_aload_n hx hb dX6_inCyclesNow_12 rfl (lv_at hl 0 rfl) ?_
        refine lv_iload_n hx hb dX6_inCyclesNow_13 rfl (lv_at hl 2 rfl) ?_
        obtain ⟨x5, t6, e7, hf⟩ := tw_bdE hf
        refine tw_cVv (As := [.int v4_2]) (rest := []) C hml hP hS (mm_laysSteps (l := l) (X := X) (D := D) (dA := dA) hD _ _ _ _ e7) (cwV 1 hts (lw_V q1816 q1818 qs88 q106 q1819) rfl rfl rfl hdX6_laysSteps ⟨Nat.le_of_ble_eq_true rfl, Nat.le_of_ble_eq_true rfl⟩) rfl hl.1 rfl (Nat.le_of_ble_eq_true rfl) dX6_inCyclesNow_14 (fun H locs hP hS => ?_)
        refine lv_aload_n hx hb dX6_inCyclesNow_17 rfl (lv_at hl 0 rfl) ?_
        refine tw_aget (k := 40) C hP (by decide) (by decide) q1416 dX6_inCyclesNow_18 ?_
        refine lv_iload_n hx hb dX6_inCyclesNow_21 rfl (lv_at hl 2 rfl) ?_
        obtain ⟨x8, t9, e10, hf⟩ := tw_bdE hf
        refine tw_iald C hP e10 dX6_inCyclesNow_22 (fun hP => ?_)
        refine lv_iconst (v := (-1 : Int32)) hx hb dX6_inCyclesNow_23 (by decide) ?_
        have k33 : ∀ (v33_1 : Int32) (t11 : TS) (H : Heap) (locs : List Loc) (ls : Array Slot), tw_P D dA o ad t11 H → va_S A s.heap H locs → lv_has ls 3 [(0, .ref o), (1, .int v33_1), (2, .int v4_2)] → fm_inCyclesNow_J33 sf4 v4_2 v33_1 t11 = some (r, tZ) → W p l e (headSpec (ws_ yX6_inCyclesNow cX6_inCyclesNow 3 (some .int)) ({ frames := 3, cells := 0, slots := 0, locals := 57 })).room s m ([.ref o] : List Value).toArray below meth c H locs 0 0 (MQ below (tw_Qi D dA o ad A r tZ) ([.ref o] : List Value).toArray s 0 0 A) (F0 m 33 ls []) := by
          intro v33_1 t11 H locs ls hP hS hl hf
          unfold fm_inCyclesNow_J33 at hf
          refine lv_iinc (v := (v4_2 + (1 : Int32))) (lv' := [(2, .int (v4_2 + (1 : Int32))), (0, .ref o), (1, .int v33_1)]) hx hb dX6_inCyclesNow_33 hl (k := 2) rfl rfl (by decide) rfl (fun ls hl => ?_)
          refine lv_goto (tgt := 4) hx hb dX6_inCyclesNow_36 (by decide) ?_
          exact ih4 _ _ _ _ _ _ hP hS (lv_sub hl [1, 2, 0] rfl) hf
        refine lv_icmp_eq (tgt := 33) hx hb dX6_inCyclesNow_24 (by decide) (fun hc => ?_) (fun hc => ?_)
        · have hf := tw_ifT hc hf
          exact k33 _ _ _ _ _ hP hS (lv_sub hl [0, 1, 2] rfl) hf
        · have hf := tw_ifF hc hf
          refine lv_iload_n hx hb dX6_inCyclesNow_27 rfl (lv_at hl 1 rfl) ?_
          refine lv_iconst (v := (1 : Int32)) hx hb dX6_inCyclesNow_28 (by decide) ?_
          refine lv_iload_n hx hb dX6_inCyclesNow_29 rfl (lv_at hl 2 rfl) ?_
          refine lv_ishl hx hb dX6_inCyclesNow_30 ?_
          refine lv_ior hx hb dX6_inCyclesNow_31 ?_
          refine lv_istore_n (lv' := [(1, .int (v4_1 ||| ((1 : Int32) <<< (v4_2 &&& 31)))), (0, .ref o), (2, .int v4_2)]) hx hb dX6_inCyclesNow_32 rfl hl (by decide) rfl (fun ls hl => ?_)
          exact k33 _ _ _ _ _ hP hS (lv_sub hl [1, 0, 2] rfl) hf
  exact k4 _ _ _ _ _ _ _ hP hS (lv_sub hl [2, 1, 0] rfl) hf
def fm_inCycles_J14   : TM Int32 :=
  tw_rt (-1 : Int32)
def fm_inCycles_J27  (w27_0 : Int32) : TM Int32 :=
  tw_bd (fm_laysWaits w27_0) fun _ =>
  tw_bd (fm_inCyclesNow) fun x9 =>
  tw_rt x9
def fm_inCycles (a1 : Int32) : TM Int32 :=
  tw_bd (tw_pi 0 (0 : Int32)) fun _ =>
  if a1 < 0 then (fm_inCycles_J14)
  else (if a1 ≤ (1 : Int32) then (if a1 = (1 : Int32) then (fm_inCycles_J27 (1 : Int32))
  else (fm_inCycles_J27 (0 : Int32)))
  else (fm_inCycles_J14))
theorem hdX6_inCycles : yX6_inCycles.cls = "LosslessFabricModel" ∧ (yX6_inCycles.cls ≠ "java/lang/invoke/MethodHandle" ∧ yX6_inCycles.cls ≠ "java/lang/invoke/VarHandle" ∧ (parseMethodDescriptor yX6_inCycles.desc).map (fun d => d.parameters.length) = some 1) := by decide +kernel
set_option maxHeartbeats 4000000 in
theorem mm_inCycles {l : Launch} {X : (Nat → Nat) × (Nat → Nat) × Nat} {D : va_G} {dA : Nat → ClassId} {o : Nat} {ad : Nat → Nat} {A : Nat → Prop} (hD : tw_D o ad A) (a1 : Int32) (t0 tZ : TS) (r : Int32) (hf : fm_inCycles a1 t0 = some (r, tZ)) : Met l yX6_inCycles (ws_ yX6_inCycles cX6_inCycles 2 (some .int)) ({ frames := 5, cells := 0, slots := 0, locals := 105 }) (va_Pc [.ref o, .int a1] (tw_W X A D dA o ad t0)) (tw_Qi D dA o ad A r tZ) 0 0 A := by
  refine Met.ofW (cc := cX6_inCycles) (maxL := 2) (ret := some .int) (by decide) rfl ?_
  intro p e s m args below meth c s₁ B hml hv
  obtain ⟨rfl, hP, hK, hX⟩ := hv
  have hx := B.exec
  have hb := B.bytes
  have hr := B.returns
  have hts := atoms_spec (ws := (ws_ yX6_inCycles cX6_inCycles 2 (some .int))) B.pre
  have hts : ∀ w ∈ lw_all, w.before _ s = true := fun w h => hts w (List.mem_cons_of_mem _ h)
  have hown : s.vm.findClass "LosslessFabricModel" = some m.cls := findClass_of_methodNamed B.named
  have hlk := B.notSynchronized
  have C : tw_C X p s m _ c cX6_inCycles D dA o ad A := ⟨hx, hb, hts, hown, hK, hD, hX⟩
  have hS : va_S A s.heap s.heap [] := va_S.rf
  have hl := lv_entry ([.ref o, .int a1]) (n := 2) (Nat.le_of_ble_eq_true rfl)
  rw [lg_entry_eq]
  generalize (lg_sl ([.ref o, .int a1]) ++ List.replicate (2 - (lg_sl ([.ref o, .int a1])).length) Slot.unset).toArray = ls at hl ⊢
  have hl : lv_has ls 2 [(0, .ref o), (1, .int a1)] := hl
  unfold fm_inCycles at hf
  refine lv_aload_n hx hb dX6_inCycles_0 rfl (lv_at hl 0 rfl) ?_
  refine lv_iconst (v := (0 : Int32)) hx hb dX6_inCycles_1 (by decide) ?_
  obtain ⟨x1, t2, e3, hf⟩ := tw_bdE hf
  refine tw_iput (k := 0) C hP hS (by decide) rfl e3 q1376 dX6_inCycles_2 (fun H locs hP hS => ?_)
  refine lv_iload_n hx hb dX6_inCycles_5 rfl (lv_at hl 1 rfl) ?_
  have k14 : ∀  (t4 : TS) (H : Heap) (locs : List Loc) (ls : Array Slot), tw_P D dA o ad t4 H → va_S A s.heap H locs → lv_has ls 2 [] → fm_inCycles_J14  t4 = some (r, tZ) → W p l e (headSpec (ws_ yX6_inCycles cX6_inCycles 2 (some .int)) ({ frames := 5, cells := 0, slots := 0, locals := 105 })).room s m ([.ref o, .int a1] : List Value).toArray below meth c H locs 0 0 (MQ below (tw_Qi D dA o ad A r tZ) ([.ref o, .int a1] : List Value).toArray s 0 0 A) (F0 m 14 ls []) := by
    intro t4 H locs ls hP hS hl hf
    unfold fm_inCycles_J14 at hf
    refine lv_iconst (v := (-1 : Int32)) hx hb dX6_inCycles_14 (by decide) ?_
    exact tw_ireti (tw_rtE hf).1 (tw_rtE hf).2 C hr hP hS hlk dX6_inCycles_15
  refine lv_if_lt (tgt := 14) hx hb dX6_inCycles_6 (by decide) (fun hc => ?_) (fun hc => ?_)
  · have hf := tw_ifT hc hf
    exact k14 _ _ _ _ hP hS (lv_sub hl [] rfl) hf
  · have hf := tw_ifF hc hf
    refine lv_iload_n hx hb dX6_inCycles_9 rfl (lv_at hl 1 rfl) ?_
    refine lv_iconst (v := (1 : Int32)) hx hb dX6_inCycles_10 (by decide) ?_
    refine lv_icmp_le (tgt := 16) hx hb dX6_inCycles_11 (by decide) (fun hc => ?_) (fun hc => ?_)
    · have hf := tw_ifT hc hf
      refine lv_aload_n hx hb dX6_inCycles_16 rfl (lv_at hl 0 rfl) ?_
      refine lv_iload_n hx hb dX6_inCycles_17 rfl (lv_at hl 1 rfl) ?_
      refine lv_iconst (v := (1 : Int32)) hx hb dX6_inCycles_18 (by decide) ?_
      have k27 : ∀ (w27_0 : Int32) (t5 : TS) (H : Heap) (locs : List Loc) (ls : Array Slot), tw_P D dA o ad t5 H → va_S A s.heap H locs → lv_has ls 2 [(0, .ref o)] → fm_inCycles_J27 w27_0 t5 = some (r, tZ) → W p l e (headSpec (ws_ yX6_inCycles cX6_inCycles 2 (some .int)) ({ frames := 5, cells := 0, slots := 0, locals := 105 })).room s m ([.ref o, .int a1] : List Value).toArray below meth c H locs 0 0 (MQ below (tw_Qi D dA o ad A r tZ) ([.ref o, .int a1] : List Value).toArray s 0 0 A) (F0 m 27 ls [.int w27_0, .ref o]) := by
        intro w27_0 t5 H locs ls hP hS hl hf
        unfold fm_inCycles_J27 at hf
        obtain ⟨x6, t7, e8, hf⟩ := tw_bdE hf
        refine tw_cVv (As := [.int w27_0]) (rest := []) C hml hP hS (mm_laysWaits (l := l) (X := X) (D := D) (dA := dA) hD _ _ _ _ e8) (cwV 1 hts (lw_V q1792 q1794 qs83 q106 q1795) rfl rfl rfl hdX6_laysWaits ⟨Nat.le_of_ble_eq_true rfl, Nat.le_of_ble_eq_true rfl⟩) rfl hl.1 rfl (Nat.le_of_ble_eq_true rfl) dX6_inCycles_27 (fun H locs hP hS => ?_)
        refine lv_aload_n hx hb dX6_inCycles_30 rfl (lv_at hl 0 rfl) ?_
        obtain ⟨x9, t10, e11, hf⟩ := tw_bdE hf
        refine tw_cVi (As := []) (rest := []) C hml hP hS (mm_inCyclesNow (l := l) (X := X) (D := D) (dA := dA) hD _ _ _ e11) (cwV 0 hts (lw_V q1812 q1814 qs87 q106 q1815) rfl rfl rfl hdX6_inCyclesNow ⟨Nat.le_of_ble_eq_true rfl, Nat.le_of_ble_eq_true rfl⟩) rfl hl.1 rfl (Nat.le_of_ble_eq_true rfl) dX6_inCycles_31 (fun H locs hP hS => ?_)
        exact tw_ireti (tw_rtE hf).1 (tw_rtE hf).2 C hr hP hS hlk dX6_inCycles_34
      refine lv_icmp_ne (tgt := 26) hx hb dX6_inCycles_19 (by decide) (fun hc => ?_) (fun hc => ?_)
      · have hf := tw_ifF hc hf
        refine lv_iconst (v := (0 : Int32)) hx hb dX6_inCycles_26 (by decide) ?_
        exact k27 _ _ _ _ _ hP hS (lv_sub hl [0] rfl) hf
      · have hf := tw_ifT hc hf
        refine lv_iconst (v := (1 : Int32)) hx hb dX6_inCycles_22 (by decide) ?_
        refine lv_goto (tgt := 27) hx hb dX6_inCycles_23 (by decide) ?_
        exact k27 _ _ _ _ _ hP hS (lv_sub hl [0] rfl) hf
    · have hf := tw_ifF hc hf
      exact k14 _ _ _ _ hP hS (lv_sub hl [] rfl) hf
def fm_laysCycle_J132 (sf56 : Int32 → Int32 → TM Unit) (v76_5 : Int32) (v56_4 : Int32)  : TM Unit :=
  sf56 v76_5 (v56_4 + (1 : Int32))
def fm_laysCycle_J126 (sf76 : Int32 → TM Unit) (v76_5 : Int32)  : TM Unit :=
  sf76 (v76_5 + (1 : Int32))
def fm_laysCycle_L76 (v56_4 : Int32) (sf56 : Int32 → Int32 → TM Unit) (v56_3 : Int32) (v22_2 : Int32) (sf76 : Int32 → TM Unit) (v76_5 : Int32) : TM Unit :=
  tw_bd (tw_gi 42) fun x28 =>
  if x28 ≤ (v56_4 + (1 : Int32)) then (fm_laysCycle_J132 sf56 v76_5 v56_4)
  else ( tw_bd (tw_ld 39 v56_3) fun x32 =>
  if ((x32 >>> (v76_5 &&& 31)) &&& (1 : Int32)) = 0 then (fm_laysCycle_J126 sf76 v76_5)
  else (if v76_5 = v22_2 then (fm_laysCycle_J126 sf76 v76_5)
  else ( tw_bd (tw_ld 40 v76_5) fun x36 =>
  tw_bd (tw_gi 42) fun x39 =>
  if x36 = ((x39 - v56_4) - (1 : Int32)) then (fm_laysCycle_J132 sf56 v76_5 v56_4)
  else (fm_laysCycle_J126 sf76 v76_5))))
def fm_laysCycle_L56 (v22_2 : Int32) (sf56 : Int32 → Int32 → TM Unit) (v56_3 : Int32) (v56_4 : Int32) : TM Unit :=
  tw_bd (tw_gi 42) fun x21 =>
  if x21 ≤ v56_4 then (tw_rt ())
  else ( tw_bd (tw_st 41 v56_4 v56_3) fun _ =>
 
  tw_lp (fm_laysCycle_L76 v56_4 sf56 v56_3 v22_2) (fun _ _ => none) tw_fu (0 : Int32))
def fm_laysCycle_L22 (x7 : Int32) (sf22 : Int32 → TM Unit) (v22_2 : Int32) : TM Unit :=
  if ((x7 >>> (v22_2 &&& 31)) &&& (1 : Int32)) = 0 then (sf22 (v22_2 + (1 : Int32)))
  else (tw_bd (fm_laysSteps v22_2) fun _ =>
   tw_bd (tw_ld 40 v22_2) fun x14 =>
  tw_bd (tw_pi 42 x14) fun _ =>
 
  tw_lp (fm_laysCycle_L56 v22_2) (fun _ _ _ => none) tw_fu v22_2 (0 : Int32))
def fm_laysCycle  : TM Unit :=
  tw_bd (fm_laysWaits (0 : Int32)) fun _ =>
  tw_bd (tw_pi 42 (0 : Int32)) fun _ =>
  tw_bd (fm_inCyclesNow) fun x7 =>
  if x7 = 0 then (tw_rt ())
  else (tw_lp (fm_laysCycle_L22 x7) (fun _ _ => none) tw_fu (0 : Int32))
theorem hdX6_laysCycle : yX6_laysCycle.cls = "LosslessFabricModel" ∧ (yX6_laysCycle.cls ≠ "java/lang/invoke/MethodHandle" ∧ yX6_laysCycle.cls ≠ "java/lang/invoke/VarHandle" ∧ (parseMethodDescriptor yX6_laysCycle.desc).map (fun d => d.parameters.length) = some 0) := by decide +kernel
set_option maxHeartbeats 4000000 in
theorem mm_laysCycle {l : Launch} {X : (Nat → Nat) × (Nat → Nat) × Nat} {D : va_G} {dA : Nat → ClassId} {o : Nat} {ad : Nat → Nat} {A : Nat → Prop} (hD : tw_D o ad A)  (t0 tZ : TS) (r : Unit) (hf : fm_laysCycle  t0 = some (r, tZ)) : Met l yX6_laysCycle (ws_ yX6_laysCycle cX6_laysCycle 6 (none)) ({ frames := 5, cells := 0, slots := 0, locals := 105 }) (va_Pc [.ref o] (tw_W X A D dA o ad t0)) (tw_Qv D dA o ad A tZ) 0 0 A := by
  refine Met.ofW (cc := cX6_laysCycle) (maxL := 6) (ret := none) (by decide) rfl ?_
  intro p e s m args below meth c s₁ B hml hv
  obtain ⟨rfl, hP, hK, hX⟩ := hv
  have hx := B.exec
  have hb := B.bytes
  have hr := B.returns
  have hts := atoms_spec (ws := (ws_ yX6_laysCycle cX6_laysCycle 6 (none))) B.pre
  have hts : ∀ w ∈ lw_all, w.before _ s = true := fun w h => hts w (List.mem_cons_of_mem _ h)
  have hown : s.vm.findClass "LosslessFabricModel" = some m.cls := findClass_of_methodNamed B.named
  have hlk := B.notSynchronized
  have C : tw_C X p s m _ c cX6_laysCycle D dA o ad A := ⟨hx, hb, hts, hown, hK, hD, hX⟩
  have hS : va_S A s.heap s.heap [] := va_S.rf
  have hl := lv_entry ([.ref o]) (n := 6) (Nat.le_of_ble_eq_true rfl)
  rw [lg_entry_eq]
  generalize (lg_sl ([.ref o]) ++ List.replicate (6 - (lg_sl ([.ref o])).length) Slot.unset).toArray = ls at hl ⊢
  have hl : lv_has ls 6 [(0, .ref o)] := hl
  unfold fm_laysCycle at hf
  refine lv_aload_n hx hb dX6_laysCycle_0 rfl (lv_at hl 0 rfl) ?_
  refine lv_iconst (v := (0 : Int32)) hx hb dX6_laysCycle_1 (by decide) ?_
  obtain ⟨x1, t2, e3, hf⟩ := tw_bdE hf
  refine tw_cVv (As := [.int (0 : Int32)]) (rest := []) C hml hP hS (mm_laysWaits (l := l) (X := X) (D := D) (dA := dA) hD _ _ _ _ e3) (cwV 1 hts (lw_V q1792 q1794 qs83 q106 q1795) rfl rfl rfl hdX6_laysWaits ⟨Nat.le_of_ble_eq_true rfl, Nat.le_of_ble_eq_true rfl⟩) rfl hl.1 rfl (Nat.le_of_ble_eq_true rfl) dX6_laysCycle_2 (fun H locs hP hS => ?_)
  refine lv_aload_n hx hb dX6_laysCycle_5 rfl (lv_at hl 0 rfl) ?_
  refine lv_iconst (v := (0 : Int32)) hx hb dX6_laysCycle_6 (by decide) ?_
  obtain ⟨x4, t5, e6, hf⟩ := tw_bdE hf
  refine tw_iput (k := 42) C hP hS (by decide) rfl e6 q1418 dX6_laysCycle_7 (fun H locs hP hS => ?_)
  refine lv_aload_n hx hb dX6_laysCycle_10 rfl (lv_at hl 0 rfl) ?_
  obtain ⟨x7, t8, e9, hf⟩ := tw_bdE hf
  refine tw_cVi (As := []) (rest := []) C hml hP hS (mm_inCyclesNow (l := l) (X := X) (D := D) (dA := dA) hD _ _ _ e9) (cwV 0 hts (lw_V q1812 q1814 qs87 q106 q1815) rfl rfl rfl hdX6_inCyclesNow ⟨Nat.le_of_ble_eq_true rfl, Nat.le_of_ble_eq_true rfl⟩) rfl hl.1 rfl (Nat.le_of_ble_eq_true rfl) dX6_laysCycle_11 (fun H locs hP hS => ?_)
  refine lv_istore_n (lv' := [(1, .int x7), (0, .ref o)]) hx hb dX6_laysCycle_14 rfl hl (by decide) rfl (fun ls hl => ?_)
  refine lv_iload_n hx hb dX6_laysCycle_15 rfl (lv_at hl 0 rfl) ?_
  refine lv_if_ne (tgt := 20) hx hb dX6_laysCycle_16 (by decide) (fun hc => ?_) (fun hc => ?_)
  · have hf := tw_ifF hc hf
    refine lv_iconst (v := (0 : Int32)) hx hb dX6_laysCycle_20 (by decide) ?_
    refine lv_istore_n (lv' := [(2, .int (0 : Int32)), (1, .int x7), (0, .ref o)]) hx hb dX6_laysCycle_21 rfl hl (by decide) rfl (fun ls hl => ?_)
    have k22 : ∀ (n : Nat) (v22_2 : Int32) (t10 : TS) (H : Heap) (locs : List Loc) (ls : Array Slot), tw_P D dA o ad t10 H → va_S A s.heap H locs → lv_has ls 6 [(0, .ref o), (1, .int x7), (2, .int v22_2)] → tw_lp (fm_laysCycle_L22 x7) (fun _ _ => none) n v22_2 t10 = some (r, tZ) → W p l e (headSpec (ws_ yX6_laysCycle cX6_laysCycle 6 (none)) ({ frames := 5, cells := 0, slots := 0, locals := 105 })).room s m ([.ref o] : List Value).toArray below meth c H locs 0 0 (MQ below (tw_Qv D dA o ad A tZ) ([.ref o] : List Value).toArray s 0 0 A) (F0 m 22 ls []) := by
      intro n
      induction n with
      | zero => intro v22_2 t10 H locs ls hP hS hl hf; exact (tw_no hf).elim
      | succ n ih22 =>
        intro v22_2 t10 H locs ls hP hS hl hf
        obtain ⟨sf22, hs22⟩ : ∃ f, f = tw_lp (fm_laysCycle_L22 x7) (fun _ _ => none) n := ⟨_, rfl⟩
        rw [← hs22] at ih22
        have hf : fm_laysCycle_L22 x7 sf22 v22_2 t10 = some (r, tZ) := by rw [hs22]; exact hf
        clear hs22
        unfold fm_laysCycle_L22 at hf
        refine lv_iload_n hx hb dX6_laysCycle_22 rfl (lv_at hl 1 rfl) ?_
        refine lv_iload_n hx hb dX6_laysCycle_23 rfl (lv_at hl 2 rfl) ?_
        refine lv_ishr hx hb dX6_laysCycle_24 ?_
        refine lv_iconst (v := (1 : Int32)) hx hb dX6_laysCycle_25 (by decide) ?_
        refine lv_iand hx hb dX6_laysCycle_26 ?_
        refine lv_if_ne (tgt := 36) hx hb dX6_laysCycle_27 (by decide) (fun hc => ?_) (fun hc => ?_)
        · have hf := tw_ifF hc hf
          refine lv_aload_n hx hb dX6_laysCycle_36 rfl (lv_at hl 0 rfl) ?_
          refine lv_iload_n hx hb dX6_laysCycle_37 rfl (lv_at hl 2 rfl) ?_
          obtain ⟨x11, t12, e13, hf⟩ := tw_bdE hf
          refine tw_cVv (As := [.int v22_2]) (rest := []) C hml hP hS (mm_laysSteps (l := l) (X := X) (D := D) (dA := dA) hD _ _ _ _ e13) (cwV 1 hts (lw_V q1816 q1818 qs88 q106 q1819) rfl rfl rfl hdX6_laysSteps ⟨Nat.le_of_ble_eq_true rfl, Nat.le_of_ble_eq_true rfl⟩) rfl hl.1 rfl (Nat.le_of_ble_eq_true rfl) dX6_laysCycle_38 (fun H locs hP hS => ?_)
          refine lv_aload_n hx hb dX6_laysCycle_41 rfl (lv_at hl 0 rfl) ?_
          refine lv_aload_n hx hb dX6_laysCycle_42 rfl (lv_at hl 0 rfl) ?_
          refine tw_aget (k := 40) C hP (by decide) (by decide) q1416 dX6_laysCycle_43 ?_
          refine lv_iload_n hx hb dX6_laysCycle_46 rfl (lv_at hl 2 rfl) ?_
          obtain ⟨x14, t15, e16, hf⟩ := tw_bdE hf
          refine tw_iald C hP e16 dX6_laysCycle_47 (fun hP => ?_)
          obtain ⟨x17, t18, e19, hf⟩ := tw_bdE hf
          refine tw_iput (k := 42) C hP hS (by decide) rfl e19 q1418 dX6_laysCycle_48 (fun H locs hP hS => ?_)
          refine lv_iload_n hx hb dX6_laysCycle_51 rfl (lv_at hl 2 rfl) ?_
          refine lv_istore_n (lv' := [(3, .int v22_2), (0, .ref o), (1, .int x7), (2, .int v22_2)]) hx hb dX6_laysCycle_52 rfl hl (by decide) rfl (fun ls hl => ?_)
          refine lv_iconst (v := (0 : Int32)) hx hb dX6_laysCycle_53 (by decide) ?_
          refine lv_istore (lv' := [(4, .int (0 : Int32)), (3, .int v22_2), (0, .ref o), (1, .int x7), (2, .int v22_2)]) hx hb dX6_laysCycle_54 hl (by decide) rfl (fun ls hl => ?_)
          have k56 : ∀ (n : Nat) (v56_3 : Int32) (v56_4 : Int32) (t20 : TS) (H : Heap) (locs : List Loc) (ls : Array Slot), tw_P D dA o ad t20 H → va_S A s.heap H locs → lv_has ls 6 [(0, .ref o), (2, .int v22_2), (3, .int v56_3), (4, .int v56_4)] → tw_lp (fm_laysCycle_L56 v22_2) (fun _ _ _ => none) n v56_3 v56_4 t20 = some (r, tZ) → W p l e (headSpec (ws_ yX6_laysCycle cX6_laysCycle 6 (none)) ({ frames := 5, cells := 0, slots := 0, locals := 105 })).room s m ([.ref o] : List Value).toArray below meth c H locs 0 0 (MQ below (tw_Qv D dA o ad A tZ) ([.ref o] : List Value).toArray s 0 0 A) (F0 m 56 ls []) := by
            intro n
            induction n with
            | zero => intro v56_3 v56_4 t20 H locs ls hP hS hl hf; exact (tw_no hf).elim
            | succ n ih56 =>
              intro v56_3 v56_4 t20 H locs ls hP hS hl hf
              obtain ⟨sf56, hs56⟩ : ∃ f, f = tw_lp (fm_laysCycle_L56 v22_2) (fun _ _ _ => none) n := ⟨_, rfl⟩
              rw [← hs56] at ih56
              have hf : fm_laysCycle_L56 v22_2 sf56 v56_3 v56_4 t20 = some (r, tZ) := by rw [hs56]; exact hf
              clear hs56
              unfold fm_laysCycle_L56 at hf
              refine lv_iload hx hb dX6_laysCycle_56 (lv_at hl 3 rfl) ?_
              refine lv_aload_n hx hb dX6_laysCycle_58 rfl (lv_at hl 0 rfl) ?_
              obtain ⟨x21, t22, e23, hf⟩ := tw_bdE hf
              refine tw_iget (k := 42) C hP (by decide) (Or.inl rfl) e23 q1418 dX6_laysCycle_59 (fun hP => ?_)
              refine lv_icmp_ge (tgt := 141) hx hb dX6_laysCycle_62 (by decide) (fun hc => ?_) (fun hc => ?_)
              · have hf := tw_ifT hc hf
                exact tw_iretv (tw_rtE hf).2 C hr hP hS hlk dX6_laysCycle_141
              · have hf := tw_ifF hc hf
                refine lv_aload_n hx hb dX6_laysCycle_65 rfl (lv_at hl 0 rfl) ?_
                refine tw_aget (k := 41) C hP (by decide) (by decide) q1417 dX6_laysCycle_66 ?_
                refine lv_iload hx hb dX6_laysCycle_69 (lv_at hl 3 rfl) ?_
                refine lv_iload_n hx hb dX6_laysCycle_71 rfl (lv_at hl 2 rfl) ?_
                obtain ⟨x24, t25, e26, hf⟩ := tw_bdE hf
                refine tw_iast C hP hS e26 dX6_laysCycle_72 (fun H locs hP hS => ?_)
                refine lv_iconst (v := (0 : Int32)) hx hb dX6_laysCycle_73 (by decide) ?_
                refine lv_istore (lv' := [(5, .int (0 : Int32)), (0, .ref o), (2, .int v22_2), (3, .int v56_3), (4, .int v56_4)]) hx hb dX6_laysCycle_74 hl (by decide) rfl (fun ls hl => ?_)
                have k76 : ∀ (n : Nat) (v76_5 : Int32) (t27 : TS) (H : Heap) (locs : List Loc) (ls : Array Slot), tw_P D dA o ad t27 H → va_S A s.heap H locs → lv_has ls 6 [(0, .ref o), (2, .int v22_2), (3, .int v56_3), (4, .int v56_4), (5, .int v76_5)] → tw_lp (fm_laysCycle_L76 v56_4 sf56 v56_3 v22_2) (fun _ _ => none) n v76_5 t27 = some (r, tZ) → W p l e (headSpec (ws_ yX6_laysCycle cX6_laysCycle 6 (none)) ({ frames := 5, cells := 0, slots := 0, locals := 105 })).room s m ([.ref o] : List Value).toArray below meth c H locs 0 0 (MQ below (tw_Qv D dA o ad A tZ) ([.ref o] : List Value).toArray s 0 0 A) (F0 m 76 ls []) := by
                  intro n
                  induction n with
                  | zero => intro v76_5 t27 H locs ls hP hS hl hf; exact (tw_no hf).elim
                  | succ n ih76 =>
                    intro v76_5 t27 H locs ls hP hS hl hf
                    obtain ⟨sf76, hs76⟩ : ∃ f, f = tw_lp (fm_laysCycle_L76 v56_4 sf56 v56_3 v22_2) (fun _ _ => none) n := ⟨_, rfl⟩
                    rw [← hs76] at ih76
                    have hf : fm_laysCycle_L76 v56_4 sf56 v56_3 v22_2 sf76 v76_5 t27 = some (r, tZ) := by rw [hs76]; exact hf
                    clear hs76
                    unfold fm_laysCycle_L76 at hf
                    refine lv_iload hx hb dX6_laysCycle_76 (lv_at hl 3 rfl) ?_
                    refine lv_iconst (v := (1 : Int32)) hx hb dX6_laysCycle_78 (by decide) ?_
                    refine lv_iadd hx hb dX6_laysCycle_79 ?_
                    refine lv_aload_n hx hb dX6_laysCycle_80 rfl (lv_at hl 0 rfl) ?_
                    obtain ⟨x28, t29, e30, hf⟩ := tw_bdE hf
                    refine tw_iget (k := 42) C hP (by decide) (Or.inl rfl) e30 q1418 dX6_laysCycle_81 (fun hP => ?_)
                    have k132 : ∀  (t31 : TS) (H : Heap) (locs : List Loc) (ls : Array Slot), tw_P D dA o ad t31 H → va_S A s.heap H locs → lv_has ls 6 [(0, .ref o), (2, .int v22_2), (4, .int v56_4), (5, .int v76_5)] → fm_laysCycle_J132 sf56 v76_5 v56_4  t31 = some (r, tZ) → W p l e (headSpec (ws_ yX6_laysCycle cX6_laysCycle 6 (none)) ({ frames := 5, cells := 0, slots := 0, locals := 105 })).room s m ([.ref o] : List Value).toArray below meth c H locs 0 0 (MQ below (tw_Qv D dA o ad A tZ) ([.ref o] : List Value).toArray s 0 0 A) (F0 m 132 ls []) := by
                      intro t31 H locs ls hP hS hl hf
                      unfold fm_laysCycle_J132 at hf
                      refine lv_iload hx hb dX6_laysCycle_132 (lv_at hl 3 rfl) ?_
                      refine lv_istore_n (lv' := [(3, .int v76_5), (0, .ref o), (2, .int v22_2), (4, .int v56_4), (5, .int v76_5)]) hx hb dX6_laysCycle_134 rfl hl (by decide) rfl (fun ls hl => ?_)
                      refine lv_iinc (v := (v56_4 + (1 : Int32))) (lv' := [(4, .int (v56_4 + (1 : Int32))), (3, .int v76_5), (0, .ref o), (2, .int v22_2), (5, .int v76_5)]) hx hb dX6_laysCycle_135 hl (k := 3) rfl rfl (by decide) rfl (fun ls hl => ?_)
                      refine lv_goto (tgt := 56) hx hb dX6_laysCycle_138 (by decide) ?_
                      exact ih56 _ _ _ _ _ _ hP hS (lv_sub hl [2, 3, 1, 0] rfl) hf
                    refine lv_icmp_ge (tgt := 132) hx hb dX6_laysCycle_84 (by decide) (fun hc => ?_) (fun hc => ?_)
                    · have hf := tw_ifT hc hf
                      exact k132 _ _ _ _ hP hS (lv_sub hl [0, 1, 3, 4] rfl) hf
                    · have hf := tw_ifF hc hf
                      refine lv_aload_n hx hb dX6_laysCycle_87 rfl (lv_at hl 0 rfl) ?_
                      refine tw_aget (k := 39) C hP (by decide) (by decide) q1415 dX6_laysCycle_88 ?_
                      refine lv_iload_n hx hb dX6_laysCycle_91 rfl (lv_at hl 2 rfl) ?_
                      obtain ⟨x32, t33, e34, hf⟩ := tw_bdE hf
                      refine tw_iald C hP e34 dX6_laysCycle_92 (fun hP => ?_)
                      refine lv_iload hx hb dX6_laysCycle_93 (lv_at hl 4 rfl) ?_
                      refine lv_ishr hx hb dX6_laysCycle_95 ?_
                      refine lv_iconst (v := (1 : Int32)) hx hb dX6_laysCycle_96 (by decide) ?_
                      refine lv_iand hx hb dX6_laysCycle_97 ?_
                      have k126 : ∀  (t35 : TS) (H : Heap) (locs : List Loc) (ls : Array Slot), tw_P D dA o ad t35 H → va_S A s.heap H locs → lv_has ls 6 [(0, .ref o), (2, .int v22_2), (3, .int v56_3), (4, .int v56_4), (5, .int v76_5)] → fm_laysCycle_J126 sf76 v76_5  t35 = some (r, tZ) → W p l e (headSpec (ws_ yX6_laysCycle cX6_laysCycle 6 (none)) ({ frames := 5, cells := 0, slots := 0, locals := 105 })).room s m ([.ref o] : List Value).toArray below meth c H locs 0 0 (MQ below (tw_Qv D dA o ad A tZ) ([.ref o] : List Value).toArray s 0 0 A) (F0 m 126 ls []) := by
                        intro t35 H locs ls hP hS hl hf
                        unfold fm_laysCycle_J126 at hf
                        refine lv_iinc (v := (v76_5 + (1 : Int32))) (lv' := [(5, .int (v76_5 + (1 : Int32))), (0, .ref o), (2, .int v22_2), (3, .int v56_3), (4, .int v56_4)]) hx hb dX6_laysCycle_126 hl (k := 4) rfl rfl (by decide) rfl (fun ls hl => ?_)
                        refine lv_goto (tgt := 76) hx hb dX6_laysCycle_129 (by decide) ?_
                        exact ih76 _ _ _ _ _ hP hS (lv_sub hl [1, 2, 3, 4, 0] rfl) hf
                      refine lv_if_eq (tgt := 126) hx hb dX6_laysCycle_98 (by decide) (fun hc => ?_) (fun hc => ?_)
                      · have hf := tw_ifT hc hf
                        exact k126 _ _ _ _ hP hS (lv_sub hl [0, 1, 2, 3, 4] rfl) hf
                      · have hf := tw_ifF hc hf
                        refine lv_iload hx hb dX6_laysCycle_101 (lv_at hl 4 rfl) ?_
                        refine lv_iload_n hx hb dX6_laysCycle_103 rfl (lv_at hl 1 rfl) ?_
                        refine lv_icmp_eq (tgt := 126) hx hb dX6_laysCycle_104 (by decide) (fun hc => ?_) (fun hc => ?_)
                        · have hf := tw_ifT hc hf
                          exact k126 _ _ _ _ hP hS (lv_sub hl [0, 1, 2, 3, 4] rfl) hf
                        · have hf := tw_ifF hc hf
                          refine lv_aload_n hx hb dX6_laysCycle_107 rfl (lv_at hl 0 rfl) ?_
                          refine tw_aget (k := 40) C hP (by decide) (by decide) q1416 dX6_laysCycle_108 ?_
                          refine lv_iload hx hb dX6_laysCycle_111 (lv_at hl 4 rfl) ?_
                          obtain ⟨x36, t37, e38, hf⟩ := tw_bdE hf
                          refine tw_iald C hP e38 dX6_laysCycle_113 (fun hP => ?_)
                          refine lv_aload_n hx hb dX6_laysCycle_114 rfl (lv_at hl 0 rfl) ?_
                          obtain ⟨x39, t40, e41, hf⟩ := tw_bdE hf
                          refine tw_iget (k := 42) C hP (by decide) (Or.inl rfl) e41 q1418 dX6_laysCycle_115 (fun hP => ?_)
                          refine lv_iload hx hb dX6_laysCycle_118 (lv_at hl 3 rfl) ?_
                          refine lv_isub hx hb dX6_laysCycle_120 ?_
                          refine lv_iconst (v := (1 : Int32)) hx hb dX6_laysCycle_121 (by decide) ?_
                          refine lv_isub hx hb dX6_laysCycle_122 ?_
                          refine lv_icmp_eq (tgt := 132) hx hb dX6_laysCycle_123 (by decide) (fun hc => ?_) (fun hc => ?_)
                          · have hf := tw_ifT hc hf
                            exact k132 _ _ _ _ hP hS (lv_sub hl [0, 1, 3, 4] rfl) hf
                          · have hf := tw_ifF hc hf
                            exact k126 _ _ _ _ hP hS (lv_sub hl [0, 1, 2, 3, 4] rfl) hf
                exact k76 _ _ _ _ _ _ hP hS (lv_sub hl [1, 2, 3, 4, 0] rfl) hf
          exact k56 _ _ _ _ _ _ _ hP hS (lv_sub hl [2, 4, 1, 0] rfl) hf
        · have hf := tw_ifT hc hf
          refine lv_iinc (v := (v22_2 + (1 : Int32))) (lv' := [(2, .int (v22_2 + (1 : Int32))), (0, .ref o), (1, .int x7)]) hx hb dX6_laysCycle_30 hl (k := 2) rfl rfl (by decide) rfl (fun ls hl => ?_)
          refine lv_goto (tgt := 22) hx hb dX6_laysCycle_33 (by decide) ?_
          exact ih22 _ _ _ _ _ hP hS (lv_sub hl [1, 2, 0] rfl) hf
    exact k22 _ _ _ _ _ _ hP hS (lv_sub hl [2, 1, 0] rfl) hf
  · have hf := tw_ifT hc hf
    exact tw_iretv (tw_rtE hf).2 C hr hP hS hlk dX6_laysCycle_19
def fm_cycle_J34  (w34_0 : Int32) : TM Int32 :=
  tw_rt w34_0
def fm_cycle (a1 : Int32) : TM Int32 :=
  tw_bd (tw_pi 0 (0 : Int32)) fun _ =>
  if 0 ≤ a1 then (tw_bd (fm_laysCycle) fun _ =>
  tw_bd (tw_gi 42) fun x7 =>
  if x7 ≤ a1 then (fm_cycle_J34 (-2 : Int32))
  else ( tw_bd (tw_ld 41 a1) fun x11 =>
 
  fm_cycle_J34 x11))
  else (tw_rt (-1 : Int32))
theorem hdX6_cycle : yX6_cycle.cls = "LosslessFabricModel" ∧ (yX6_cycle.cls ≠ "java/lang/invoke/MethodHandle" ∧ yX6_cycle.cls ≠ "java/lang/invoke/VarHandle" ∧ (parseMethodDescriptor yX6_cycle.desc).map (fun d => d.parameters.length) = some 1) := by decide +kernel
set_option maxHeartbeats 4000000 in
theorem mm_cycle {l : Launch} {X : (Nat → Nat) × (Nat → Nat) × Nat} {D : va_G} {dA : Nat → ClassId} {o : Nat} {ad : Nat → Nat} {A : Nat → Prop} (hD : tw_D o ad A) (a1 : Int32) (t0 tZ : TS) (r : Int32) (hf : fm_cycle a1 t0 = some (r, tZ)) : Met l yX6_cycle (ws_ yX6_cycle cX6_cycle 2 (some .int)) ({ frames := 6, cells := 0, slots := 0, locals := 130 }) (va_Pc [.ref o, .int a1] (tw_W X A D dA o ad t0)) (tw_Qi D dA o ad A r tZ) 0 0 A := by
  refine Met.ofW (cc := cX6_cycle) (maxL := 2) (ret := some .int) (by decide) rfl ?_
  intro p e s m args below meth c s₁ B hml hv
  obtain ⟨rfl, hP, hK, hX⟩ := hv
  have hx := B.exec
  have hb := B.bytes
  have hr := B.returns
  have hts := atoms_spec (ws := (ws_ yX6_cycle cX6_cycle 2 (some .int))) B.pre
  have hts : ∀ w ∈ lw_all, w.before _ s = true := fun w h => hts w (List.mem_cons_of_mem _ h)
  have hown : s.vm.findClass "LosslessFabricModel" = some m.cls := findClass_of_methodNamed B.named
  have hlk := B.notSynchronized
  have C : tw_C X p s m _ c cX6_cycle D dA o ad A := ⟨hx, hb, hts, hown, hK, hD, hX⟩
  have hS : va_S A s.heap s.heap [] := va_S.rf
  have hl := lv_entry ([.ref o, .int a1]) (n := 2) (Nat.le_of_ble_eq_true rfl)
  rw [lg_entry_eq]
  generalize (lg_sl ([.ref o, .int a1]) ++ List.replicate (2 - (lg_sl ([.ref o, .int a1])).length) Slot.unset).toArray = ls at hl ⊢
  have hl : lv_has ls 2 [(0, .ref o), (1, .int a1)] := hl
  unfold fm_cycle at hf
  refine lv_aload_n hx hb dX6_cycle_0 rfl (lv_at hl 0 rfl) ?_
  refine lv_iconst (v := (0 : Int32)) hx hb dX6_cycle_1 (by decide) ?_
  obtain ⟨x1, t2, e3, hf⟩ := tw_bdE hf
  refine tw_iput (k := 0) C hP hS (by decide) rfl e3 q1376 dX6_cycle_2 (fun H locs hP hS => ?_)
  refine lv_iload_n hx hb dX6_cycle_5 rfl (lv_at hl 1 rfl) ?_
  refine lv_if_ge (tgt := 11) hx hb dX6_cycle_6 (by decide) (fun hc => ?_) (fun hc => ?_)
  · have hf := tw_ifT hc hf
    refine lv_aload_n hx hb dX6_cycle_11 rfl (lv_at hl 0 rfl) ?_
    obtain ⟨x4, t5, e6, hf⟩ := tw_bdE hf
    refine tw_cVv (As := []) (rest := []) C hml hP hS (mm_laysCycle (l := l) (X := X) (D := D) (dA := dA) hD _ _ _ e6) (cwV 0 hts (lw_V q1824 q1826 qs89 q106 q1827) rfl rfl rfl hdX6_laysCycle ⟨Nat.le_of_ble_eq_true rfl, Nat.le_of_ble_eq_true rfl⟩) rfl hl.1 rfl (Nat.le_of_ble_eq_true rfl) dX6_cycle_12 (fun H locs hP hS => ?_)
    refine lv_iload_n hx hb dX6_cycle_15 rfl (lv_at hl 1 rfl) ?_
    refine lv_aload_n hx hb dX6_cycle_16 rfl (lv_at hl 0 rfl) ?_
    obtain ⟨x7, t8, e9, hf⟩ := tw_bdE hf
    refine tw_iget (k := 42) C hP (by decide) (Or.inl rfl) e9 q1418 dX6_cycle_17 (fun hP => ?_)
    have k34 : ∀ (w34_0 : Int32) (t10 : TS) (H : Heap) (locs : List Loc) (ls : Array Slot), tw_P D dA o ad t10 H → va_S A s.heap H locs → lv_has ls 2 [] → fm_cycle_J34 w34_0 t10 = some (r, tZ) → W p l e (headSpec (ws_ yX6_cycle cX6_cycle 2 (some .int)) ({ frames := 6, cells := 0, slots := 0, locals := 130 })).room s m ([.ref o, .int a1] : List Value).toArray below meth c H locs 0 0 (MQ below (tw_Qi D dA o ad A r tZ) ([.ref o, .int a1] : List Value).toArray s 0 0 A) (F0 m 34 ls [.int w34_0]) := by
      intro w34_0 t10 H locs ls hP hS hl hf
      unfold fm_cycle_J34 at hf
      exact tw_ireti (tw_rtE hf).1 (tw_rtE hf).2 C hr hP hS hlk dX6_cycle_34
    refine lv_icmp_ge (tgt := 32) hx hb dX6_cycle_20 (by decide) (fun hc => ?_) (fun hc => ?_)
    · have hf := tw_ifT hc hf
      refine lv_bipush (v := (-2 : Int32)) hx hb dX6_cycle_32 (by decide) ?_
      exact k34 _ _ _ _ _ hP hS (lv_sub hl [] rfl) hf
    · have hf := tw_ifF hc hf
      refine lv_aload_n hx hb dX6_cycle_23 rfl (lv_at hl 0 rfl) ?_
      refine tw_aget (k := 41) C hP (by decide) (by decide) q1417 dX6_cycle_24 ?_
      refine lv_iload_n hx hb dX6_cycle_27 rfl (lv_at hl 1 rfl) ?_
      obtain ⟨x11, t12, e13, hf⟩ := tw_bdE hf
      refine tw_iald C hP e13 dX6_cycle_28 (fun hP => ?_)
      refine lv_goto (tgt := 34) hx hb dX6_cycle_29 (by decide) ?_
      exact k34 _ _ _ _ _ hP hS (lv_sub hl [] rfl) hf
  · have hf := tw_ifF hc hf
    refine lv_iconst (v := (-1 : Int32)) hx hb dX6_cycle_9 (by decide) ?_
    exact tw_ireti (tw_rtE hf).1 (tw_rtE hf).2 C hr hP hS hlk dX6_cycle_10
def fm_witness_L42 (a1 : Int32) (x16 : Int32) (sf42 : Int32 → TM Int32) (v42_3 : Int32) : TM Int32 :=
   tw_bd (tw_ld 41 a1) fun x20 =>
  tw_bd (fm_isWaiting x20 v42_3 x16) fun x23 =>
  if x23 = 0 then (sf42 (v42_3 + (1 : Int32)))
  else (tw_rt v42_3)
def fm_witness (a1 : Int32) : TM Int32 :=
  tw_bd (tw_pi 0 (0 : Int32)) fun _ =>
  if 0 ≤ a1 then (tw_bd (fm_laysCycle) fun _ =>
  tw_bd (tw_gi 42) fun x7 =>
  if a1 < x7 then ( tw_bd (tw_gi 42) fun x10 =>
  tw_bd (tw_nz x10) fun _ =>
  tw_bd (tw_ld 41 ((a1 + (1 : Int32)) - (a1 + (1 : Int32)) / x10 * x10)) fun x16 =>
 
  tw_lp (fm_witness_L42 a1 x16) (fun _ _ => none) tw_fu (0 : Int32))
  else (tw_rt (-2 : Int32)))
  else (tw_rt (-1 : Int32))
theorem hdX6_witness : yX6_witness.cls = "LosslessFabricModel" ∧ (yX6_witness.cls ≠ "java/lang/invoke/MethodHandle" ∧ yX6_witness.cls ≠ "java/lang/invoke/VarHandle" ∧ (parseMethodDescriptor yX6_witness.desc).map (fun d => d.parameters.length) = some 1) := by decide +kernel
set_option maxHeartbeats 4000000 in
theorem mm_witness {l : Launch} {X : (Nat → Nat) × (Nat → Nat) × Nat} {D : va_G} {dA : Nat → ClassId} {o : Nat} {ad : Nat → Nat} {A : Nat → Prop} (hD : tw_D o ad A) (a1 : Int32) (t0 tZ : TS) (r : Int32) (hf : fm_witness a1 t0 = some (r, tZ)) : Met l yX6_witness (ws_ yX6_witness cX6_witness 4 (some .int)) ({ frames := 6, cells := 0, slots := 0, locals := 130 }) (va_Pc [.ref o, .int a1] (tw_W X A D dA o ad t0)) (tw_Qi D dA o ad A r tZ) 0 0 A := by
  refine Met.ofW (cc := cX6_witness) (maxL := 4) (ret := some .int) (by decide) rfl ?_
  intro p e s m args below meth c s₁ B hml hv
  obtain ⟨rfl, hP, hK, hX⟩ := hv
  have hx := B.exec
  have hb := B.bytes
  have hr := B.returns
  have hts := atoms_spec (ws := (ws_ yX6_witness cX6_witness 4 (some .int))) B.pre
  have hts : ∀ w ∈ lw_all, w.before _ s = true := fun w h => hts w (List.mem_cons_of_mem _ h)
  have hown : s.vm.findClass "LosslessFabricModel" = some m.cls := findClass_of_methodNamed B.named
  have hlk := B.notSynchronized
  have C : tw_C X p s m _ c cX6_witness D dA o ad A := ⟨hx, hb, hts, hown, hK, hD, hX⟩
  have hS : va_S A s.heap s.heap [] := va_S.rf
  have hl := lv_entry ([.ref o, .int a1]) (n := 4) (Nat.le_of_ble_eq_true rfl)
  rw [lg_entry_eq]
  generalize (lg_sl ([.ref o, .int a1]) ++ List.replicate (4 - (lg_sl ([.ref o, .int a1])).length) Slot.unset).toArray = ls at hl ⊢
  have hl : lv_has ls 4 [(0, .ref o), (1, .int a1)] := hl
  unfold fm_witness at hf
  refine lv_aload_n hx hb dX6_witness_0 rfl (lv_at hl 0 rfl) ?_
  refine lv_iconst (v := (0 : Int32)) hx hb dX6_witness_1 (by decide) ?_
  obtain ⟨x1, t2, e3, hf⟩ := tw_bdE hf
  refine tw_iput (k := 0) C hP hS (by decide) rfl e3 q1376 dX6_witness_2 (fun H locs hP hS => ?_)
  refine lv_iload_n hx hb dX6_witness_5 rfl (lv_at hl 1 rfl) ?_
  refine lv_if_ge (tgt := 11) hx hb dX6_witness_6 (by decide) (fun hc => ?_) (fun hc => ?_)
  · have hf := tw_ifT hc hf
    refine lv_aload_n hx hb dX6_witness_11 rfl (lv_at hl 0 rfl) ?_
    obtain ⟨x4, t5, e6, hf⟩ := tw_bdE hf
    refine tw_cVv (As := []) (rest := []) C hml hP hS (mm_laysCycle (l := l) (X := X) (D := D) (dA := dA) hD _ _ _ e6) (cwV 0 hts (lw_V q1824 q1826 qs89 q106 q1827) rfl rfl rfl hdX6_laysCycle ⟨Nat.le_of_ble_eq_true rfl, Nat.le_of_ble_eq_true rfl⟩) rfl hl.1 rfl (Nat.le_of_ble_eq_true rfl) dX6_witness_12 (fun H locs hP hS => ?_)
    refine lv_iload_n hx hb dX6_witness_15 rfl (lv_at hl 1 rfl) ?_
    refine lv_aload_n hx hb dX6_witness_16 rfl (lv_at hl 0 rfl) ?_
    obtain ⟨x7, t8, e9, hf⟩ := tw_bdE hf
    refine tw_iget (k := 42) C hP (by decide) (Or.inl rfl) e9 q1418 dX6_witness_17 (fun hP => ?_)
    refine lv_icmp_lt (tgt := 26) hx hb dX6_witness_20 (by decide) (fun hc => ?_) (fun hc => ?_)
    · have hf := tw_ifT hc hf
      refine lv_aload_n hx hb dX6_witness_26 rfl (lv_at hl 0 rfl) ?_
      refine tw_aget (k := 41) C hP (by decide) (by decide) q1417 dX6_witness_27 ?_
      refine lv_iload_n hx hb dX6_witness_30 rfl (lv_at hl 1 rfl) ?_
      refine lv_iconst (v := (1 : Int32)) hx hb dX6_witness_31 (by decide) ?_
      refine lv_iadd hx hb dX6_witness_32 ?_
      refine lv_aload_n hx hb dX6_witness_33 rfl (lv_at hl 0 rfl) ?_
      obtain ⟨x10, t11, e12, hf⟩ := tw_bdE hf
      refine tw_iget (k := 42) C hP (by decide) (Or.inl rfl) e12 q1418 dX6_witness_34 (fun hP => ?_)
      obtain ⟨w13, t14, e15, hf⟩ := tw_bdE hf
      rw [← (tw_nzE e15).2] at hf
      refine lv_irem hx hb dX6_witness_37 (tw_nzE e15).1 ?_
      obtain ⟨x16, t17, e18, hf⟩ := tw_bdE hf
      refine tw_iald C hP e18 dX6_witness_38 (fun hP => ?_)
      refine lv_istore_n (lv' := [(2, .int x16), (0, .ref o), (1, .int a1)]) hx hb dX6_witness_39 rfl hl (by decide) rfl (fun ls hl => ?_)
      refine lv_iconst (v := (0 : Int32)) hx hb dX6_witness_40 (by decide) ?_
      refine lv_istore_n (lv' := [(3, .int (0 : Int32)), (2, .int x16), (0, .ref o), (1, .int a1)]) hx hb dX6_witness_41 rfl hl (by decide) rfl (fun ls hl => ?_)
      have k42 : ∀ (n : Nat) (v42_3 : Int32) (t19 : TS) (H : Heap) (locs : List Loc) (ls : Array Slot), tw_P D dA o ad t19 H → va_S A s.heap H locs → lv_has ls 4 [(0, .ref o), (1, .int a1), (2, .int x16), (3, .int v42_3)] → tw_lp (fm_witness_L42 a1 x16) (fun _ _ => none) n v42_3 t19 = some (r, tZ) → W p l e (headSpec (ws_ yX6_witness cX6_witness 4 (some .int)) ({ frames := 6, cells := 0, slots := 0, locals := 130 })).room s m ([.ref o, .int a1] : List Value).toArray below meth c H locs 0 0 (MQ below (tw_Qi D dA o ad A r tZ) ([.ref o, .int a1] : List Value).toArray s 0 0 A) (F0 m 42 ls []) := by
        intro n
        induction n with
        | zero => intro v42_3 t19 H locs ls hP hS hl hf; exact (tw_no hf).elim
        | succ n ih42 =>
          intro v42_3 t19 H locs ls hP hS hl hf
          obtain ⟨sf42, hs42⟩ : ∃ f, f = tw_lp (fm_witness_L42 a1 x16) (fun _ _ => none) n := ⟨_, rfl⟩
          rw [← hs42] at ih42
          have hf : fm_witness_L42 a1 x16 sf42 v42_3 t19 = some (r, tZ) := by rw [hs42]; exact hf
          clear hs42
          unfold fm_witness_L42 at hf
          refine lv_aload_n hx hb dX6_witness_42 rfl (lv_at hl 0 rfl) ?_
          refine lv_aload_n hx hb dX6_witness_43 rfl (lv_at hl 0 rfl) ?_
          refine tw_aget (k := 41) C hP (by decide) (by decide) q1417 dX6_witness_44 ?_
          refine lv_iload_n hx hb dX6_witness_47 rfl (lv_at hl 1 rfl) ?_
          obtain ⟨x20, t21, e22, hf⟩ := tw_bdE hf
          refine tw_iald C hP e22 dX6_witness_48 (fun hP => ?_)
          refine lv_iload_n hx hb dX6_witness_49 rfl (lv_at hl 3 rfl) ?_
          refine lv_iload_n hx hb dX6_witness_50 rfl (lv_at hl 2 rfl) ?_
          obtain ⟨x23, t24, e25, hf⟩ := tw_bdE hf
          refine tw_cVi (As := [.int x20, .int v42_3, .int x16]) (rest := []) C hml hP hS (mm_isWaiting (l := l) (X := X) (D := D) (dA := dA) hD _ _ _ _ _ _ e25) (cwV 3 hts (lw_V q1800 q1802 qs85 q106 q1803) rfl rfl rfl hdX6_isWaiting ⟨Nat.le_of_ble_eq_true rfl, Nat.le_of_ble_eq_true rfl⟩) rfl hl.1 rfl (Nat.le_of_ble_eq_true rfl) dX6_witness_51 (fun H locs hP hS => ?_)
          refine lv_if_ne (tgt := 63) hx hb dX6_witness_54 (by decide) (fun hc => ?_) (fun hc => ?_)
          · have hf := tw_ifF hc hf
            refine lv_iload_n hx hb dX6_witness_63 rfl (lv_at hl 3 rfl) ?_
            exact tw_ireti (tw_rtE hf).1 (tw_rtE hf).2 C hr hP hS hlk dX6_witness_64
          · have hf := tw_ifT hc hf
            refine lv_iinc (v := (v42_3 + (1 : Int32))) (lv' := [(3, .int (v42_3 + (1 : Int32))), (0, .ref o), (1, .int a1), (2, .int x16)]) hx hb dX6_witness_57 hl (k := 3) rfl rfl (by decide) rfl (fun ls hl => ?_)
            refine lv_goto (tgt := 42) hx hb dX6_witness_60 (by decide) ?_
            exact ih42 _ _ _ _ _ hP hS (lv_sub hl [1, 2, 3, 0] rfl) hf
      exact k42 _ _ _ _ _ _ hP hS (lv_sub hl [2, 3, 1, 0] rfl) hf
    · have hf := tw_ifF hc hf
      refine lv_bipush (v := (-2 : Int32)) hx hb dX6_witness_23 (by decide) ?_
      exact tw_ireti (tw_rtE hf).1 (tw_rtE hf).2 C hr hP hS hlk dX6_witness_25
  · have hf := tw_ifF hc hf
    refine lv_iconst (v := (-1 : Int32)) hx hb dX6_witness_9 (by decide) ?_
    exact tw_ireti (tw_rtE hf).1 (tw_rtE hf).2 C hr hP hS hlk dX6_witness_10
def fm_divisor_L17  (sf17 : Int64 → Int64 → TM Int64) (v17_4 : Int64) (v17_6 : Int64) : TM Int64 :=
  if (lg_cmp v17_6 (0 : Int64)) = 0 then (tw_rt v17_4)
  else (tw_bd (tw_nl v17_6) fun _ =>
 
  sf17 v17_6 (v17_4 - v17_4 / v17_6 * v17_6))
def fm_divisor_J12 (a2 : Int64) (w12_0 : Int64) : TM Int64 :=
  tw_lp (fm_divisor_L17) (fun _ _ _ => none) tw_fu w12_0 a2
def fm_divisor (a0 : Int64) (a2 : Int64) : TM Int64 :=
  if 0 ≤ (lg_cmp a0 (0 : Int64)) then (fm_divisor_J12 a2 a0)
  else (fm_divisor_J12 a2 (-a0))
theorem hdX6_divisor : (yX6_divisor.cls ≠ "java/lang/invoke/MethodHandle" ∧ yX6_divisor.cls ≠ "java/lang/invoke/VarHandle" ∧ (parseMethodDescriptor yX6_divisor.desc).map (fun d => d.parameters.length) = some 2) := by decide +kernel
set_option maxHeartbeats 4000000 in
theorem mm_divisor {l : Launch} {X : (Nat → Nat) × (Nat → Nat) × Nat} {D : va_G} {dA : Nat → ClassId} {o : Nat} {ad : Nat → Nat} {A : Nat → Prop} (hD : tw_D o ad A) (a0 : Int64) (a2 : Int64) (t0 tZ : TS) (r : Int64) (hf : fm_divisor a0 a2 t0 = some (r, tZ)) : Met l yX6_divisor (ws_ yX6_divisor cX6_divisor 10 (some .long)) ({ frames := 1, cells := 0, slots := 0, locals := 12 }) (va_Pc [.long a0, .long a2] (tw_W X A D dA o ad t0)) (tw_Ql D dA o ad A r tZ) 0 0 A := by
  refine Met.ofW (cc := cX6_divisor) (maxL := 10) (ret := some .long) (by decide) rfl ?_
  intro p e s m args below meth c s₁ B hml hv
  obtain ⟨rfl, hP, hK, hX⟩ := hv
  have hx := B.exec
  have hb := B.bytes
  have hr := B.returns
  have hts := atoms_spec (ws := (ws_ yX6_divisor cX6_divisor 10 (some .long))) B.pre
  have hts : ∀ w ∈ lw_all, w.before _ s = true := fun w h => hts w (List.mem_cons_of_mem _ h)
  have hown : s.vm.findClass "LosslessFabricModel" = some m.cls := findClass_of_methodNamed B.named
  have hlk := B.notSynchronized
  have C : tw_C X p s m _ c cX6_divisor D dA o ad A := ⟨hx, hb, hts, hown, hK, hD, hX⟩
  have hS : va_S A s.heap s.heap [] := va_S.rf
  have hl := lv_entry ([.long a0, .long a2]) (n := 10) (Nat.le_of_ble_eq_true rfl)
  rw [lg_entry_eq]
  generalize (lg_sl ([.long a0, .long a2]) ++ List.replicate (10 - (lg_sl ([.long a0, .long a2])).length) Slot.unset).toArray = ls at hl ⊢
  have hl : lv_has ls 10 [(0, .long a0), (2, .long a2)] := hl
  unfold fm_divisor at hf
  refine lv_lload_n hx hb dX6_divisor_0 rfl (lv_at hl 0 rfl) ?_
  refine lv_lconst (v := (0 : Int64)) hx hb dX6_divisor_1 (by decide) ?_
  refine W.lcmp hx hb dX6_divisor_2 ?_
  have k12 : ∀ (w12_0 : Int64) (t1 : TS) (H : Heap) (locs : List Loc) (ls : Array Slot), tw_P D dA o ad t1 H → va_S A s.heap H locs → lv_has ls 10 [(2, .long a2)] → fm_divisor_J12 a2 w12_0 t1 = some (r, tZ) → W p l e (headSpec (ws_ yX6_divisor cX6_divisor 10 (some .long)) ({ frames := 1, cells := 0, slots := 0, locals := 12 })).room s m ([.long a0, .long a2] : List Value).toArray below meth c H locs 0 0 (MQ below (tw_Ql D dA o ad A r tZ) ([.long a0, .long a2] : List Value).toArray s 0 0 A) (F0 m 12 ls [.long w12_0]) := by
    intro w12_0 t1 H locs ls hP hS hl hf
    unfold fm_divisor_J12 at hf
    refine lv_lstore (lv' := [(4, .long w12_0), (2, .long a2)]) hx hb dX6_divisor_12 hl (by decide) rfl (fun ls hl => ?_)
    refine lv_lload_n hx hb dX6_divisor_14 rfl (lv_at hl 1 rfl) ?_
    refine lv_lstore (lv' := [(6, .long a2), (4, .long w12_0), (2, .long a2)]) hx hb dX6_divisor_15 hl (by decide) rfl (fun ls hl => ?_)
    have k17 : ∀ (n : Nat) (v17_4 : Int64) (v17_6 : Int64) (t2 : TS) (H : Heap) (locs : List Loc) (ls : Array Slot), tw_P D dA o ad t2 H → va_S A s.heap H locs → lv_has ls 10 [(4, .long v17_4), (6, .long v17_6)] → tw_lp (fm_divisor_L17) (fun _ _ _ => none) n v17_4 v17_6 t2 = some (r, tZ) → W p l e (headSpec (ws_ yX6_divisor cX6_divisor 10 (some .long)) ({ frames := 1, cells := 0, slots := 0, locals := 12 })).room s m ([.long a0, .long a2] : List Value).toArray below meth c H locs 0 0 (MQ below (tw_Ql D dA o ad A r tZ) ([.long a0, .long a2] : List Value).toArray s 0 0 A) (F0 m 17 ls []) := by
      intro n
      induction n with
      | zero => intro v17_4 v17_6 t2 H locs ls hP hS hl hf; exact (tw_no hf).elim
      | succ n ih17 =>
        intro v17_4 v17_6 t2 H locs ls hP hS hl hf
        obtain ⟨sf17, hs17⟩ : ∃ f, f = tw_lp (fm_divisor_L17) (fun _ _ _ => none) n := ⟨_, rfl⟩
        rw [← hs17] at ih17
        have hf : fm_divisor_L17 sf17 v17_4 v17_6 t2 = some (r, tZ) := by rw [hs17]; exact hf
        clear hs17
        unfold fm_divisor_L17 at hf
        refine lv_lload hx hb dX6_divisor_17 (lv_at hl 1 rfl) ?_
        refine lv_lconst (v := (0 : Int64)) hx hb dX6_divisor_19 (by decide) ?_
        refine W.lcmp hx hb dX6_divisor_20 ?_
        refine lv_if_eq (tgt := 42) hx hb dX6_divisor_21 (by decide) (fun hc => ?_) (fun hc => ?_)
        · have hf := tw_ifT hc hf
          refine lv_lload hx hb dX6_divisor_42 (lv_at hl 0 rfl) ?_
          exact tw_iretl (tw_rtE hf).1 (tw_rtE hf).2 C hr hP hS hlk dX6_divisor_44
        · have hf := tw_ifF hc hf
          refine lv_lload hx hb dX6_divisor_24 (lv_at hl 0 rfl) ?_
          refine lv_lload hx hb dX6_divisor_26 (lv_at hl 1 rfl) ?_
          obtain ⟨w3, t4, e5, hf⟩ := tw_bdE hf
          rw [← (tw_nlE e5).2] at hf
          refine lv_lrem hx hb dX6_divisor_28 (tw_nlE e5).1 ?_
          refine lv_lstore (lv' := [(8, .long (v17_4 - v17_4 / v17_6 * v17_6)), (4, .long v17_4), (6, .long v17_6)]) hx hb dX6_divisor_29 hl (by decide) rfl (fun ls hl => ?_)
          refine lv_lload hx hb dX6_divisor_31 (lv_at hl 2 rfl) ?_
          refine lv_lstore (lv' := [(4, .long v17_6), (8, .long (v17_4 - v17_4 / v17_6 * v17_6)), (6, .long v17_6)]) hx hb dX6_divisor_33 hl (by decide) rfl (fun ls hl => ?_)
          refine lv_lload hx hb dX6_divisor_35 (lv_at hl 1 rfl) ?_
          refine lv_lstore (lv' := [(6, .long (v17_4 - v17_4 / v17_6 * v17_6)), (4, .long v17_6), (8, .long (v17_4 - v17_4 / v17_6 * v17_6))]) hx hb dX6_divisor_37 hl (by decide) rfl (fun ls hl => ?_)
          refine lv_goto (tgt := 17) hx hb dX6_divisor_39 (by decide) ?_
          exact ih17 _ _ _ _ _ _ hP hS (lv_sub hl [1, 0] rfl) hf
    exact k17 _ _ _ _ _ _ _ hP hS (lv_sub hl [1, 0] rfl) hf
  refine lv_if_ge (tgt := 11) hx hb dX6_divisor_3 (by decide) (fun hc => ?_) (fun hc => ?_)
  · have hf := tw_ifT hc hf
    refine lv_lload_n hx hb dX6_divisor_11 rfl (lv_at hl 0 rfl) ?_
    exact k12 _ _ _ _ _ hP hS (lv_sub hl [1] rfl) hf
  · have hf := tw_ifF hc hf
    refine lv_lload_n hx hb dX6_divisor_6 rfl (lv_at hl 0 rfl) ?_
    refine lv_lneg hx hb dX6_divisor_7 ?_
    refine lv_goto (tgt := 12) hx hb dX6_divisor_8 (by decide) ?_
    exact k12 _ _ _ _ _ hP hS (lv_sub hl [1] rfl) hf
def fm_tells (a1 : Int64) (a3 : Int64) : TM Unit :=
  tw_bd (fm_divisor a1 a3) fun x1 =>
  tw_bd (tw_nl x1) fun _ =>
  tw_bd (tw_pl 46 (a1 / x1)) fun _ =>
  tw_bd (tw_nl x1) fun _ =>
  tw_bd (tw_pl 47 (a3 / x1)) fun _ =>
  tw_rt ()
theorem hdX6_tells : yX6_tells.cls = "LosslessFabricModel" ∧ (yX6_tells.cls ≠ "java/lang/invoke/MethodHandle" ∧ yX6_tells.cls ≠ "java/lang/invoke/VarHandle" ∧ (parseMethodDescriptor yX6_tells.desc).map (fun d => d.parameters.length) = some 2) := by decide +kernel
set_option maxHeartbeats 4000000 in
theorem mm_tells {l : Launch} {X : (Nat → Nat) × (Nat → Nat) × Nat} {D : va_G} {dA : Nat → ClassId} {o : Nat} {ad : Nat → Nat} {A : Nat → Prop} (hD : tw_D o ad A) (a1 : Int64) (a3 : Int64) (t0 tZ : TS) (r : Unit) (hf : fm_tells a1 a3 t0 = some (r, tZ)) : Met l yX6_tells (ws_ yX6_tells cX6_tells 7 (none)) ({ frames := 2, cells := 0, slots := 0, locals := 41 }) (va_Pc [.ref o, .long a1, .long a3] (tw_W X A D dA o ad t0)) (tw_Qv D dA o ad A tZ) 0 0 A := by
  refine Met.ofW (cc := cX6_tells) (maxL := 7) (ret := none) (by decide) rfl ?_
  intro p e s m args below meth c s₁ B hml hv
  obtain ⟨rfl, hP, hK, hX⟩ := hv
  have hx := B.exec
  have hb := B.bytes
  have hr := B.returns
  have hts := atoms_spec (ws := (ws_ yX6_tells cX6_tells 7 (none))) B.pre
  have hts : ∀ w ∈ lw_all, w.before _ s = true := fun w h => hts w (List.mem_cons_of_mem _ h)
  have hown : s.vm.findClass "LosslessFabricModel" = some m.cls := findClass_of_methodNamed B.named
  have hlk := B.notSynchronized
  have C : tw_C X p s m _ c cX6_tells D dA o ad A := ⟨hx, hb, hts, hown, hK, hD, hX⟩
  have hS : va_S A s.heap s.heap [] := va_S.rf
  have hl := lv_entry ([.ref o, .long a1, .long a3]) (n := 7) (Nat.le_of_ble_eq_true rfl)
  rw [lg_entry_eq]
  generalize (lg_sl ([.ref o, .long a1, .long a3]) ++ List.replicate (7 - (lg_sl ([.ref o, .long a1, .long a3])).length) Slot.unset).toArray = ls at hl ⊢
  have hl : lv_has ls 7 [(0, .ref o), (1, .long a1), (3, .long a3)] := hl
  unfold fm_tells at hf
  refine lv_lload_n hx hb dX6_tells_0 rfl (lv_at hl 1 rfl) ?_
  refine lv_lload_n hx hb dX6_tells_1 rfl (lv_at hl 2 rfl) ?_
  obtain ⟨x1, t2, e3, hf⟩ := tw_bdE hf
  refine tw_cSl (As := [.long a1, .long a3]) (rest := []) C hml hP hS (mm_divisor (l := l) (X := X) (D := D) (dA := dA) hD _ _ _ _ _ e3) (va_cwS 2 hts (lw_S q1849 q1850 q106 q1851) rfl rfl rfl hdX6_divisor ⟨Nat.le_of_ble_eq_true rfl, Nat.le_of_ble_eq_true rfl⟩) rfl hl.1 rfl (Nat.le_of_ble_eq_true rfl) dX6_tells_2 (fun H locs hP hS => ?_)
  refine lv_lstore (lv' := [(5, .long x1), (0, .ref o), (1, .long a1), (3, .long a3)]) hx hb dX6_tells_5 hl (by decide) rfl (fun ls hl => ?_)
  refine lv_aload_n hx hb dX6_tells_7 rfl (lv_at hl 1 rfl) ?_
  refine lv_lload_n hx hb dX6_tells_8 rfl (lv_at hl 2 rfl) ?_
  refine lv_lload hx hb dX6_tells_9 (lv_at hl 0 rfl) ?_
  obtain ⟨w4, t5, e6, hf⟩ := tw_bdE hf
  rw [← (tw_nlE e6).2] at hf
  refine lv_ldiv hx hb dX6_tells_11 (tw_nlE e6).1 ?_
  obtain ⟨x7, t8, e9, hf⟩ := tw_bdE hf
  refine tw_lput (k := 46) C hP hS (by decide) rfl e9 q1422 dX6_tells_12 (fun H locs hP hS => ?_)
  refine lv_aload_n hx hb dX6_tells_15 rfl (lv_at hl 1 rfl) ?_
  refine lv_lload_n hx hb dX6_tells_16 rfl (lv_at hl 3 rfl) ?_
  refine lv_lload hx hb dX6_tells_17 (lv_at hl 0 rfl) ?_
  obtain ⟨w10, t11, e12, hf⟩ := tw_bdE hf
  rw [← (tw_nlE e12).2] at hf
  refine lv_ldiv hx hb dX6_tells_19 (tw_nlE e12).1 ?_
  obtain ⟨x13, t14, e15, hf⟩ := tw_bdE hf
  refine tw_lput (k := 47) C hP hS (by decide) rfl e15 q1423 dX6_tells_20 (fun H locs hP hS => ?_)
  exact tw_iretv (tw_rtE hf).2 C hr hP hS hlk dX6_tells_23
def fm_leftOf_J98 (sf16 : Int32 → Int32 → TM Int32) (v16_3 : Int32) (v98_2 : Int32) : TM Int32 :=
  sf16 v98_2 (v16_3 + (1 : Int32))
def fm_leftOf_L16 (a1 : Int32) (sf16 : Int32 → Int32 → TM Int32) (v16_2 : Int32) (v16_3 : Int32) : TM Int32 :=
  tw_bd (fm_flows) fun x8 =>
  if x8 ≤ v16_3 then (tw_rt v16_2)
  else (tw_bd (fm_isOn v16_3) fun x11 =>
  if x11 = 0 then (fm_leftOf_J98 sf16 v16_3 v16_2)
  else (tw_bd (fm_hopOf v16_3 a1) fun x15 =>
  if x15 = (-1 : Int32) then (fm_leftOf_J98 sf16 v16_3 v16_2)
  else ( tw_bd (tw_lz 45 v16_3) fun x18 =>
  if x18 = 0 then (fm_leftOf_J98 sf16 v16_3 (v16_2 + (1 : Int32)))
  else (tw_bd (tw_gl 46) fun x21 =>
   tw_bd (tw_ll 44 v16_3) fun x24 =>
   tw_bd (tw_ll 43 v16_3) fun x27 =>
  tw_bd (tw_gl 47) fun x30 =>
  tw_bd (tw_gl 47) fun x33 =>
   tw_bd (tw_ll 44 v16_3) fun x36 =>
  tw_bd (fm_tells ((x21 * x24) - (x27 * x30)) (x33 * x36)) fun _ =>
 
  fm_leftOf_J98 sf16 v16_3 v16_2))))
def fm_leftOf (a1 : Int32) : TM Int32 :=
   tw_bd (tw_ld 6 a1) fun x1 =>
  tw_bd (fm_tells (x1.toInt64) (1 : Int64)) fun _ =>
 
  tw_lp (fm_leftOf_L16 a1) (fun _ _ _ => none) tw_fu (0 : Int32) (0 : Int32)
theorem hdX6_leftOf : yX6_leftOf.cls = "LosslessFabricModel" ∧ (yX6_leftOf.cls ≠ "java/lang/invoke/MethodHandle" ∧ yX6_leftOf.cls ≠ "java/lang/invoke/VarHandle" ∧ (parseMethodDescriptor yX6_leftOf.desc).map (fun d => d.parameters.length) = some 1) := by decide +kernel
set_option maxHeartbeats 4000000 in
theorem mm_leftOf {l : Launch} {X : (Nat → Nat) × (Nat → Nat) × Nat} {D : va_G} {dA : Nat → ClassId} {o : Nat} {ad : Nat → Nat} {A : Nat → Prop} (hD : tw_D o ad A) (a1 : Int32) (t0 tZ : TS) (r : Int32) (hf : fm_leftOf a1 t0 = some (r, tZ)) : Met l yX6_leftOf (ws_ yX6_leftOf cX6_leftOf 4 (some .int)) ({ frames := 3, cells := 0, slots := 0, locals := 67 }) (va_Pc [.ref o, .int a1] (tw_W X A D dA o ad t0)) (tw_Qi D dA o ad A r tZ) 0 0 A := by
  refine Met.ofW (cc := cX6_leftOf) (maxL := 4) (ret := some .int) (by decide) rfl ?_
  intro p e s m args below meth c s₁ B hml hv
  obtain ⟨rfl, hP, hK, hX⟩ := hv
  have hx := B.exec
  have hb := B.bytes
  have hr := B.returns
  have hts := atoms_spec (ws := (ws_ yX6_leftOf cX6_leftOf 4 (some .int))) B.pre
  have hts : ∀ w ∈ lw_all, w.before _ s = true := fun w h => hts w (List.mem_cons_of_mem _ h)
  have hown : s.vm.findClass "LosslessFabricModel" = some m.cls := findClass_of_methodNamed B.named
  have hlk := B.notSynchronized
  have C : tw_C X p s m _ c cX6_leftOf D dA o ad A := ⟨hx, hb, hts, hown, hK, hD, hX⟩
  have hS : va_S A s.heap s.heap [] := va_S.rf
  have hl := lv_entry ([.ref o, .int a1]) (n := 4) (Nat.le_of_ble_eq_true rfl)
  rw [lg_entry_eq]
  generalize (lg_sl ([.ref o, .int a1]) ++ List.replicate (4 - (lg_sl ([.ref o, .int a1])).length) Slot.unset).toArray = ls at hl ⊢
  have hl : lv_has ls 4 [(0, .ref o), (1, .int a1)] := hl
  unfold fm_leftOf at hf
  refine lv_aload_n hx hb dX6_leftOf_0 rfl (lv_at hl 0 rfl) ?_
  refine lv_aload_n hx hb dX6_leftOf_1 rfl (lv_at hl 0 rfl) ?_
  refine tw_aget (k := 6) C hP (by decide) (by decide) q1382 dX6_leftOf_2 ?_
  refine lv_iload_n hx hb dX6_leftOf_5 rfl (lv_at hl 1 rfl) ?_
  obtain ⟨x1, t2, e3, hf⟩ := tw_bdE hf
  refine tw_iald C hP e3 dX6_leftOf_6 (fun hP => ?_)
  refine lv_i2l hx hb dX6_leftOf_7 rfl ?_
  refine lv_lconst (v := (1 : Int64)) hx hb dX6_leftOf_8 (by decide) ?_
  obtain ⟨x4, t5, e6, hf⟩ := tw_bdE hf
  refine tw_cVv (As := [.long (x1.toInt64), .long (1 : Int64)]) (rest := []) C hml hP hS (mm_tells (l := l) (X := X) (D := D) (dA := dA) hD _ _ _ _ _ e6) (cwV 2 hts (lw_V q1845 q1847 qs92 q106 q1848) rfl rfl rfl hdX6_tells ⟨Nat.le_of_ble_eq_true rfl, Nat.le_of_ble_eq_true rfl⟩) rfl hl.1 rfl (Nat.le_of_ble_eq_true rfl) dX6_leftOf_9 (fun H locs hP hS => ?_)
  refine lv_iconst (v := (0 : Int32)) hx hb dX6_leftOf_12 (by decide) ?_
  refine lv_istore_n (lv' := [(2, .int (0 : Int32)), (0, .ref o), (1, .int a1)]) hx hb dX6_leftOf_13 rfl hl (by decide) rfl (fun ls hl => ?_)
  refine lv_iconst (v := (0 : Int32)) hx hb dX6_leftOf_14 (by decide) ?_
  refine lv_istore_n (lv' := [(3, .int (0 : Int32)), (2, .int (0 : Int32)), (0, .ref o), (1, .int a1)]) hx hb dX6_leftOf_15 rfl hl (by decide) rfl (fun ls hl => ?_)
  have k16 : ∀ (n : Nat) (v16_2 : Int32) (v16_3 : Int32) (t7 : TS) (H : Heap) (locs : List Loc) (ls : Array Slot), tw_P D dA o ad t7 H → va_S A s.heap H locs → lv_has ls 4 [(0, .ref o), (1, .int a1), (2, .int v16_2), (3, .int v16_3)] → tw_lp (fm_leftOf_L16 a1) (fun _ _ _ => none) n v16_2 v16_3 t7 = some (r, tZ) → W p l e (headSpec (ws_ yX6_leftOf cX6_leftOf 4 (some .int)) ({ frames := 3, cells := 0, slots := 0, locals := 67 })).room s m ([.ref o, .int a1] : List Value).toArray below meth c H locs 0 0 (MQ below (tw_Qi D dA o ad A r tZ) ([.ref o, .int a1] : List Value).toArray s 0 0 A) (F0 m 16 ls []) := by
    intro n
    induction n with
    | zero => intro v16_2 v16_3 t7 H locs ls hP hS hl hf; exact (tw_no hf).elim
    | succ n ih16 =>
      intro v16_2 v16_3 t7 H locs ls hP hS hl hf
      obtain ⟨sf16, hs16⟩ : ∃ f, f = tw_lp (fm_leftOf_L16 a1) (fun _ _ _ => none) n := ⟨_, rfl⟩
      rw [← hs16] at ih16
      have hf : fm_leftOf_L16 a1 sf16 v16_2 v16_3 t7 = some (r, tZ) := by rw [hs16]; exact hf
      clear hs16
      unfold fm_leftOf_L16 at hf
      refine lv_iload_n hx hb dX6_leftOf_16 rfl (lv_at hl 3 rfl) ?_
      refine lv_aload_n hx hb dX6_leftOf_17 rfl (lv_at hl 0 rfl) ?_
      obtain ⟨x8, t9, e10, hf⟩ := tw_bdE hf
      refine tw_cVi (As := []) (rest := [.int v16_3]) C hml hP hS (mm_flows (l := l) (X := X) (D := D) (dA := dA) hD _ _ _ e10) (cwV 0 hts (lw_V q1372 q1374 qs44 q106 q1375) rfl rfl rfl hdX6_flows ⟨Nat.le_of_ble_eq_true rfl, Nat.le_of_ble_eq_true rfl⟩) rfl hl.1 rfl (Nat.le_of_ble_eq_true rfl) dX6_leftOf_18 (fun H locs hP hS => ?_)
      refine lv_icmp_ge (tgt := 104) hx hb dX6_leftOf_21 (by decide) (fun hc => ?_) (fun hc => ?_)
      · have hf := tw_ifT hc hf
        refine lv_iload_n hx hb dX6_leftOf_104 rfl (lv_at hl 2 rfl) ?_
        exact tw_ireti (tw_rtE hf).1 (tw_rtE hf).2 C hr hP hS hlk dX6_leftOf_105
      · have hf := tw_ifF hc hf
        refine lv_aload_n hx hb dX6_leftOf_24 rfl (lv_at hl 0 rfl) ?_
        refine lv_iload_n hx hb dX6_leftOf_25 rfl (lv_at hl 3 rfl) ?_
        obtain ⟨x11, t12, e13, hf⟩ := tw_bdE hf
        refine tw_cVi (As := [.int v16_3]) (rest := []) C hml hP hS (mm_isOn (l := l) (X := X) (D := D) (dA := dA) hD _ _ _ _ e13) (cwV 1 hts (lw_V q1664 q1666 qs66 q106 q1667) rfl rfl rfl hdX6_isOn ⟨Nat.le_of_ble_eq_true rfl, Nat.le_of_ble_eq_true rfl⟩) rfl hl.1 rfl (Nat.le_of_ble_eq_true rfl) dX6_leftOf_26 (fun H locs hP hS => ?_)
        have k98 : ∀ (v98_2 : Int32) (t14 : TS) (H : Heap) (locs : List Loc) (ls : Array Slot), tw_P D dA o ad t14 H → va_S A s.heap H locs → lv_has ls 4 [(0, .ref o), (1, .int a1), (2, .int v98_2), (3, .int v16_3)] → fm_leftOf_J98 sf16 v16_3 v98_2 t14 = some (r, tZ) → W p l e (headSpec (ws_ yX6_leftOf cX6_leftOf 4 (some .int)) ({ frames := 3, cells := 0, slots := 0, locals := 67 })).room s m ([.ref o, .int a1] : List Value).toArray below meth c H locs 0 0 (MQ below (tw_Qi D dA o ad A r tZ) ([.ref o, .int a1] : List Value).toArray s 0 0 A) (F0 m 98 ls []) := by
          intro v98_2 t14 H locs ls hP hS hl hf
          unfold fm_leftOf_J98 at hf
          refine lv_iinc (v := (v16_3 + (1 : Int32))) (lv' := [(3, .int (v16_3 + (1 : Int32))), (0, .ref o), (1, .int a1), (2, .int v98_2)]) hx hb dX6_leftOf_98 hl (k := 3) rfl rfl (by decide) rfl (fun ls hl => ?_)
          refine lv_goto (tgt := 16) hx hb dX6_leftOf_101 (by decide) ?_
          exact ih16 _ _ _ _ _ _ hP hS (lv_sub hl [1, 2, 3, 0] rfl) hf
        refine lv_if_eq (tgt := 98) hx hb dX6_leftOf_29 (by decide) (fun hc => ?_) (fun hc => ?_)
        · have hf := tw_ifT hc hf
          exact k98 _ _ _ _ _ hP hS (lv_sub hl [0, 1, 2, 3] rfl) hf
        · have hf := tw_ifF hc hf
          refine lv_aload_n hx hb dX6_leftOf_32 rfl (lv_at hl 0 rfl) ?_
          refine lv_iload_n hx hb dX6_leftOf_33 rfl (lv_at hl 3 rfl) ?_
          refine lv_iload_n hx hb dX6_leftOf_34 rfl (lv_at hl 1 rfl) ?_
          obtain ⟨x15, t16, e17, hf⟩ := tw_bdE hf
          refine tw_cVi (As := [.int v16_3, .int a1]) (rest := []) C hml hP hS (mm_hopOf (l := l) (X := X) (D := D) (dA := dA) hD _ _ _ _ _ e17) (cwV 2 hts (lw_V q1675 q1677 qs68 q106 q1678) rfl rfl rfl hdX6_hopOf ⟨Nat.le_of_ble_eq_true rfl, Nat.le_of_ble_eq_true rfl⟩) rfl hl.1 rfl (Nat.le_of_ble_eq_true rfl) dX6_leftOf_35 (fun H locs hP hS => ?_)
          refine lv_iconst (v := (-1 : Int32)) hx hb dX6_leftOf_38 (by decide) ?_
          refine lv_icmp_ne (tgt := 45) hx hb dX6_leftOf_39 (by decide) (fun hc => ?_) (fun hc => ?_)
          · have hf := tw_ifF hc hf
            refine lv_aload_n hx hb dX6_leftOf_45 rfl (lv_at hl 0 rfl) ?_
            refine tw_aget (k := 45) C hP (by decide) (by decide) q1421 dX6_leftOf_46 ?_
            refine lv_iload_n hx hb dX6_leftOf_49 rfl (lv_at hl 3 rfl) ?_
            obtain ⟨x18, t19, e20, hf⟩ := tw_bdE hf
            refine tw_zald C hP e20 dX6_leftOf_50 (fun hP => ?_)
            refine lv_if_eq (tgt := 95) hx hb dX6_leftOf_51 (by decide) (fun hc => ?_) (fun hc => ?_)
            · have hf := tw_ifT hc hf
              refine lv_iinc (v := (v16_2 + (1 : Int32))) (lv' := [(2, .int (v16_2 + (1 : Int32))), (0, .ref o), (1, .int a1), (3, .int v16_3)]) hx hb dX6_leftOf_95 hl (k := 2) rfl rfl (by decide) rfl (fun ls hl => ?_)
              exact k98 _ _ _ _ _ hP hS (lv_sub hl [1, 2, 0, 3] rfl) hf
            · have hf := tw_ifF hc hf
              refine lv_aload_n hx hb dX6_leftOf_54 rfl (lv_at hl 0 rfl) ?_
              refine lv_aload_n hx hb dX6_leftOf_55 rfl (lv_at hl 0 rfl) ?_
              obtain ⟨x21, t22, e23, hf⟩ := tw_bdE hf
              refine tw_lget (k := 46) C hP (by decide) rfl e23 q1422 dX6_leftOf_56 (fun hP => ?_)
              refine lv_aload_n hx hb dX6_leftOf_59 rfl (lv_at hl 0 rfl) ?_
              refine tw_aget (k := 44) C hP (by decide) (by decide) q1420 dX6_leftOf_60 ?_
              refine lv_iload_n hx hb dX6_leftOf_63 rfl (lv_at hl 3 rfl) ?_
              obtain ⟨x24, t25, e26, hf⟩ := tw_bdE hf
              refine tw_lald C hP e26 dX6_leftOf_64 (fun hP => ?_)
              refine lv_lmul hx hb dX6_leftOf_65 ?_
              refine lv_aload_n hx hb dX6_leftOf_66 rfl (lv_at hl 0 rfl) ?_
              refine tw_aget (k := 43) C hP (by decide) (by decide) q1419 dX6_leftOf_67 ?_
              refine lv_iload_n hx hb dX6_leftOf_70 rfl (lv_at hl 3 rfl) ?_
              obtain ⟨x27, t28, e29, hf⟩ := tw_bdE hf
              refine tw_lald C hP e29 dX6_leftOf_71 (fun hP => ?_)
              refine lv_aload_n hx hb dX6_leftOf_72 rfl (lv_at hl 0 rfl) ?_
              obtain ⟨x30, t31, e32, hf⟩ := tw_bdE hf
              refine tw_lget (k := 47) C hP (by decide) rfl e32 q1423 dX6_leftOf_73 (fun hP => ?_)
              refine lv_lmul hx hb dX6_leftOf_76 ?_
              refine lv_lsub hx hb dX6_leftOf_77 ?_
              refine lv_aload_n hx hb dX6_leftOf_78 rfl (lv_at hl 0 rfl) ?_
              obtain ⟨x33, t34, e35, hf⟩ := tw_bdE hf
              refine tw_lget (k := 47) C hP (by decide) rfl e35 q1423 dX6_leftOf_79 (fun hP => ?_)
              refine lv_aload_n hx hb dX6_leftOf_82 rfl (lv_at hl 0 rfl) ?_
              refine tw_aget (k := 44) C hP (by decide) (by decide) q1420 dX6_leftOf_83 ?_
              refine lv_iload_n hx hb dX6_leftOf_86 rfl (lv_at hl 3 rfl) ?_
              obtain ⟨x36, t37, e38, hf⟩ := tw_bdE hf
              refine tw_lald C hP e38 dX6_leftOf_87 (fun hP => ?_)
              refine lv_lmul hx hb dX6_leftOf_88 ?_
              obtain ⟨x39, t40, e41, hf⟩ := tw_bdE hf
              refine tw_cVv (As := [.long ((x21 * x24) - (x27 * x30)), .long (x33 * x36)]) (rest := []) C hml hP hS (mm_tells (l := l) (X := X) (D := D) (dA := dA) hD _ _ _ _ _ e41) (cwV 2 hts (lw_V q1845 q1847 qs92 q106 q1848) rfl rfl rfl hdX6_tells ⟨Nat.le_of_ble_eq_true rfl, Nat.le_of_ble_eq_true rfl⟩) rfl hl.1 rfl (Nat.le_of_ble_eq_true rfl) dX6_leftOf_89 (fun H locs hP hS => ?_)
              refine lv_goto (tgt := 98) hx hb dX6_leftOf_92 (by decide) ?_
              exact k98 _ _ _ _ _ hP hS (lv_sub hl [0, 1, 2, 3] rfl) hf
          · have hf := tw_ifT hc hf
            refine lv_goto (tgt := 98) hx hb dX6_leftOf_42 (by decide) ?_
            exact k98 _ _ _ _ _ hP hS (lv_sub hl [0, 1, 2, 3] rfl) hf
  exact k16 _ _ _ _ _ _ _ hP hS (lv_sub hl [2, 3, 1, 0] rfl) hf
def fm_stops_J174 (sf66 : Int32 → TM Unit) (v66_6 : Int32)  : TM Unit :=
  sf66 (v66_6 + (1 : Int32))
def fm_stops_J124 (sf81 : Int32 → Int32 → TM Unit) (v81_8 : Int32) (w124_0 : Int32) : TM Unit :=
  sf81 w124_0 (v81_8 + (1 : Int32))
def fm_stops_J119 (sf81 : Int32 → Int32 → TM Unit) (v81_8 : Int32)  : TM Unit :=
  fm_stops_J124 sf81 v81_8 (1 : Int32)
def fm_stops_L81 (v66_6 : Int32) (sf66 : Int32 → TM Unit) (a1 : Int64) (a3 : Int64) (v6_5 : Int32) (sf81 : Int32 → Int32 → TM Unit) (v81_7 : Int32) (v81_8 : Int32) : TM Unit :=
   tw_bd (tw_ld 14 v66_6) fun x10 =>
  if x10 ≤ v81_8 then ( tw_bd (tw_lz 45 v66_6) fun x13 =>
  if x13 = 0 then (if v81_7 = 0 then (fm_stops_J174 sf66 v66_6)
  else ( tw_bd (tw_sz 45 v66_6 (1 : Int32)) fun _ =>
   tw_bd (tw_sl 43 v66_6 a1) fun _ =>
   tw_bd (tw_sl 44 v66_6 a3) fun _ =>
 
  fm_stops_J174 sf66 v66_6))
  else (fm_stops_J174 sf66 v66_6))
  else (if v81_7 = 0 then ( tw_bd (tw_ld 15 (((5 : Int32) * v66_6) + v81_8)) fun x28 =>
  if ((v6_5 >>> (x28 &&& 31)) &&& (1 : Int32)) = (1 : Int32) then (fm_stops_J119 sf81 v81_8)
  else (fm_stops_J124 sf81 v81_8 (0 : Int32)))
  else (fm_stops_J119 sf81 v81_8))
def fm_stops_L66 (a1 : Int64) (a3 : Int64) (v6_5 : Int32) (sf66 : Int32 → TM Unit) (v66_6 : Int32) : TM Unit :=
  tw_bd (fm_flows) fun x6 =>
  if x6 ≤ v66_6 then (tw_rt ())
  else (tw_lp (fm_stops_L81 v66_6 sf66 a1 a3 v6_5) (fun _ _ _ => none) tw_fu (0 : Int32) (0 : Int32))
def fm_stops_J57 (sf6 : Int32 → Int32 → TM Unit) (v6_6 : Int32) (v57_5 : Int32) : TM Unit :=
  sf6 v57_5 (v6_6 + (1 : Int32))
def fm_stops_L6 (a1 : Int64) (a3 : Int64) (sf6 : Int32 → Int32 → TM Unit) (v6_5 : Int32) (v6_6 : Int32) : TM Unit :=
  tw_bd (fm_links) fun x2 =>
  if x2 ≤ v6_6 then (tw_lp (fm_stops_L66 a1 a3 v6_5) (fun _ _ => none) tw_fu (0 : Int32))
  else (tw_bd (fm_leftOf v6_6) fun x31 =>
  if x31 ≤ 0 then (fm_stops_J57 sf6 v6_6 v6_5)
  else (tw_bd (tw_gl 46) fun x35 =>
  tw_bd (tw_gl 47) fun x38 =>
  if (lg_cmp (x35 * a3) ((a1 * x38) * (x31.toInt64))) = 0 then (fm_stops_J57 sf6 v6_6 (v6_5 ||| ((1 : Int32) <<< (v6_6 &&& 31))))
  else (fm_stops_J57 sf6 v6_6 v6_5)))
def fm_stops (a1 : Int64) (a3 : Int64) : TM Unit :=
  tw_lp (fm_stops_L6 a1 a3) (fun _ _ _ => none) tw_fu (0 : Int32) (0 : Int32)
theorem hdX6_stops : yX6_stops.cls = "LosslessFabricModel" ∧ (yX6_stops.cls ≠ "java/lang/invoke/MethodHandle" ∧ yX6_stops.cls ≠ "java/lang/invoke/VarHandle" ∧ (parseMethodDescriptor yX6_stops.desc).map (fun d => d.parameters.length) = some 2) := by decide +kernel
set_option maxHeartbeats 4000000 in
theorem mm_stops {l : Launch} {X : (Nat → Nat) × (Nat → Nat) × Nat} {D : va_G} {dA : Nat → ClassId} {o : Nat} {ad : Nat → Nat} {A : Nat → Prop} (hD : tw_D o ad A) (a1 : Int64) (a3 : Int64) (t0 tZ : TS) (r : Unit) (hf : fm_stops a1 a3 t0 = some (r, tZ)) : Met l yX6_stops (ws_ yX6_stops cX6_stops 9 (none)) ({ frames := 4, cells := 0, slots := 0, locals := 90 }) (va_Pc [.ref o, .long a1, .long a3] (tw_W X A D dA o ad t0)) (tw_Qv D dA o ad A tZ) 0 0 A := by
  refine Met.ofW (cc := cX6_stops) (maxL := 9) (ret := none) (by decide) rfl ?_
  intro p e s m args below meth c s₁ B hml hv
  obtain ⟨rfl, hP, hK, hX⟩ := hv
  have hx := B.exec
  have hb := B.bytes
  have hr := B.returns
  have hts := atoms_spec (ws := (ws_ yX6_stops cX6_stops 9 (none))) B.pre
  have hts : ∀ w ∈ lw_all, w.before _ s = true := fun w h => hts w (List.mem_cons_of_mem _ h)
  have hown : s.vm.findClass "LosslessFabricModel" = some m.cls := findClass_of_methodNamed B.named
  have hlk := B.notSynchronized
  have C : tw_C X p s m _ c cX6_stops D dA o ad A := ⟨hx, hb, hts, hown, hK, hD, hX⟩
  have hS : va_S A s.heap s.heap [] := va_S.rf
  have hl := lv_entry ([.ref o, .long a1, .long a3]) (n := 9) (Nat.le_of_ble_eq_true rfl)
  rw [lg_entry_eq]
  generalize (lg_sl ([.ref o, .long a1, .long a3]) ++ List.replicate (9 - (lg_sl ([.ref o, .long a1, .long a3])).length) Slot.unset).toArray = ls at hl ⊢
  have hl : lv_has ls 9 [(0, .ref o), (1, .long a1), (3, .long a3)] := hl
  unfold fm_stops at hf
  refine lv_iconst (v := (0 : Int32)) hx hb dX6_stops_0 (by decide) ?_
  refine lv_istore (lv' := [(5, .int (0 : Int32)), (0, .ref o), (1, .long a1), (3, .long a3)]) hx hb dX6_stops_1 hl (by decide) rfl (fun ls hl => ?_)
  refine lv_iconst (v := (0 : Int32)) hx hb dX6_stops_3 (by decide) ?_
  refine lv_istore (lv' := [(6, .int (0 : Int32)), (5, .int (0 : Int32)), (0, .ref o), (1, .long a1), (3, .long a3)]) hx hb dX6_stops_4 hl (by decide) rfl (fun ls hl => ?_)
  have k6 : ∀ (n : Nat) (v6_5 : Int32) (v6_6 : Int32) (t1 : TS) (H : Heap) (locs : List Loc) (ls : Array Slot), tw_P D dA o ad t1 H → va_S A s.heap H locs → lv_has ls 9 [(0, .ref o), (1, .long a1), (3, .long a3), (5, .int v6_5), (6, .int v6_6)] → tw_lp (fm_stops_L6 a1 a3) (fun _ _ _ => none) n v6_5 v6_6 t1 = some (r, tZ) → W p l e (headSpec (ws_ yX6_stops cX6_stops 9 (none)) ({ frames := 4, cells := 0, slots := 0, locals := 90 })).room s m ([.ref o, .long a1, .long a3] : List Value).toArray below meth c H locs 0 0 (MQ below (tw_Qv D dA o ad A tZ) ([.ref o, .long a1, .long a3] : List Value).toArray s 0 0 A) (F0 m 6 ls []) := by
    intro n
    induction n with
    | zero => intro v6_5 v6_6 t1 H locs ls hP hS hl hf; exact (tw_no hf).elim
    | succ n ih6 =>
      intro v6_5 v6_6 t1 H locs ls hP hS hl hf
      obtain ⟨sf6, hs6⟩ : ∃ f, f = tw_lp (fm_stops_L6 a1 a3) (fun _ _ _ => none) n := ⟨_, rfl⟩
      rw [← hs6] at ih6
      have hf : fm_stops_L6 a1 a3 sf6 v6_5 v6_6 t1 = some (r, tZ) := by rw [hs6]; exact hf
      clear hs6
      unfold fm_stops_L6 at hf
      refine lv_iload hx hb dX6_stops_6 (lv_at hl 4 rfl) ?_
      refine lv_aload_n hx hb dX6_stops_8 rfl (lv_at hl 0 rfl) ?_
      obtain ⟨x2, t3, e4, hf⟩ := tw_bdE hf
      refine tw_cVi (As := []) (rest := [.int v6_6]) C hml hP hS (mm_links (l := l) (X := X) (D := D) (dA := dA) hD _ _ _ e4) (cwV 0 hts (lw_V q1368 q1370 qs43 q106 q1371) rfl rfl rfl hdX6_links ⟨Nat.le_of_ble_eq_true rfl, Nat.le_of_ble_eq_true rfl⟩) rfl hl.1 rfl (Nat.le_of_ble_eq_true rfl) dX6_stops_9 (fun H locs hP hS => ?_)
      refine lv_icmp_ge (tgt := 63) hx hb dX6_stops_12 (by decide) (fun hc => ?_) (fun hc => ?_)
      · have hf := tw_ifT hc hf
        refine lv_iconst (v := (0 : Int32)) hx hb dX6_stops_63 (by decide) ?_
        refine lv_istore (lv' := [(6, .int (0 : Int32)), (0, .ref o), (1, .long a1), (3, .long a3), (5, .int v6_5)]) hx hb dX6_stops_64 hl (by decide) rfl (fun ls hl => ?_)
        have k66 : ∀ (n : Nat) (v66_6 : Int32) (t5 : TS) (H : Heap) (locs : List Loc) (ls : Array Slot), tw_P D dA o ad t5 H → va_S A s.heap H locs → lv_has ls 9 [(0, .ref o), (1, .long a1), (3, .long a3), (5, .int v6_5), (6, .int v66_6)] → tw_lp (fm_stops_L66 a1 a3 v6_5) (fun _ _ => none) n v66_6 t5 = some (r, tZ) → W p l e (headSpec (ws_ yX6_stops cX6_stops 9 (none)) ({ frames := 4, cells := 0, slots := 0, locals := 90 })).room s m ([.ref o, .long a1, .long a3] : List Value).toArray below meth c H locs 0 0 (MQ below (tw_Qv D dA o ad A tZ) ([.ref o, .long a1, .long a3] : List Value).toArray s 0 0 A) (F0 m 66 ls []) := by
          intro n
          induction n with
          | zero => intro v66_6 t5 H locs ls hP hS hl hf; exact (tw_no hf).elim
          | succ n ih66 =>
            intro v66_6 t5 H locs ls hP hS hl hf
            obtain ⟨sf66, hs66⟩ : ∃ f, f = tw_lp (fm_stops_L66 a1 a3 v6_5) (fun _ _ => none) n := ⟨_, rfl⟩
            rw [← hs66] at ih66
            have hf : fm_stops_L66 a1 a3 v6_5 sf66 v66_6 t5 = some (r, tZ) := by rw [hs66]; exact hf
            clear hs66
            unfold fm_stops_L66 at hf
            refine lv_iload hx hb dX6_stops_66 (lv_at hl 4 rfl) ?_
            refine lv_aload_n hx hb dX6_stops_68 rfl (lv_at hl 0 rfl) ?_
            obtain ⟨x6, t7, e8, hf⟩ := tw_bdE hf
            refine tw_cVi (As := []) (rest := [.int v66_6]) C hml hP hS (mm_flows (l := l) (X := X) (D := D) (dA := dA) hD _ _ _ e8) (cwV 0 hts (lw_V q1372 q1374 qs44 q106 q1375) rfl rfl rfl hdX6_flows ⟨Nat.le_of_ble_eq_true rfl, Nat.le_of_ble_eq_true rfl⟩) rfl hl.1 rfl (Nat.le_of_ble_eq_true rfl) dX6_stops_69 (fun H locs hP hS => ?_)
            refine lv_icmp_ge (tgt := 180) hx hb dX6_stops_72 (by decide) (fun hc => ?_) (fun hc => ?_)
            · have hf := tw_ifT hc hf
              exact tw_iretv (tw_rtE hf).2 C hr hP hS hlk dX6_stops_180
            · have hf := tw_ifF hc hf
              refine lv_iconst (v := (0 : Int32)) hx hb dX6_stops_75 (by decide) ?_
              refine lv_istore (lv' := [(7, .int (0 : Int32)), (0, .ref o), (1, .long a1), (3, .long a3), (5, .int v6_5), (6, .int v66_6)]) hx hb dX6_stops_76 hl (by decide) rfl (fun ls hl => ?_)
              refine lv_iconst (v := (0 : Int32)) hx hb dX6_stops_78 (by decide) ?_
              refine lv_istore (lv' := [(8, .int (0 : Int32)), (7, .int (0 : Int32)), (0, .ref o), (1, .long a1), (3, .long a3), (5, .int v6_5), (6, .int v66_6)]) hx hb dX6_stops_79 hl (by decide) rfl (fun ls hl => ?_)
              have k81 : ∀ (n : Nat) (v81_7 : Int32) (v81_8 : Int32) (t9 : TS) (H : Heap) (locs : List Loc) (ls : Array Slot), tw_P D dA o ad t9 H → va_S A s.heap H locs → lv_has ls 9 [(0, .ref o), (1, .long a1), (3, .long a3), (5, .int v6_5), (6, .int v66_6), (7, .int v81_7), (8, .int v81_8)] → tw_lp (fm_stops_L81 v66_6 sf66 a1 a3 v6_5) (fun _ _ _ => none) n v81_7 v81_8 t9 = some (r, tZ) → W p l e (headSpec (ws_ yX6_stops cX6_stops 9 (none)) ({ frames := 4, cells := 0, slots := 0, locals := 90 })).room s m ([.ref o, .long a1, .long a3] : List Value).toArray below meth c H locs 0 0 (MQ below (tw_Qv D dA o ad A tZ) ([.ref o, .long a1, .long a3] : List Value).toArray s 0 0 A) (F0 m 81 ls []) := by
                intro n
                induction n with
                | zero => intro v81_7 v81_8 t9 H locs ls hP hS hl hf; exact (tw_no hf).elim
                | succ n ih81 =>
                  intro v81_7 v81_8 t9 H locs ls hP hS hl hf
                  obtain ⟨sf81, hs81⟩ : ∃ f, f = tw_lp (fm_stops_L81 v66_6 sf66 a1 a3 v6_5) (fun _ _ _ => none) n := ⟨_, rfl⟩
                  rw [← hs81] at ih81
                  have hf : fm_stops_L81 v66_6 sf66 a1 a3 v6_5 sf81 v81_7 v81_8 t9 = some (r, tZ) := by rw [hs81]; exact hf
                  clear hs81
                  unfold fm_stops_L81 at hf
                  refine lv_iload hx hb dX6_stops_81 (lv_at hl 6 rfl) ?_
                  refine lv_aload_n hx hb dX6_stops_83 rfl (lv_at hl 0 rfl) ?_
                  refine tw_aget (k := 14) C hP (by decide) (by decide) q1390 dX6_stops_84 ?_
                  refine lv_iload hx hb dX6_stops_87 (lv_at hl 4 rfl) ?_
                  obtain ⟨x10, t11, e12, hf⟩ := tw_bdE hf
                  refine tw_iald C hP e12 dX6_stops_89 (fun hP => ?_)
                  refine lv_icmp_ge (tgt := 132) hx hb dX6_stops_90 (by decide) (fun hc => ?_) (fun hc => ?_)
                  · have hf := tw_ifT hc hf
                    refine lv_aload_n hx hb dX6_stops_132 rfl (lv_at hl 0 rfl) ?_
                    refine tw_aget (k := 45) C hP (by decide) (by decide) q1421 dX6_stops_133 ?_
                    refine lv_iload hx hb dX6_stops_136 (lv_at hl 4 rfl) ?_
                    obtain ⟨x13, t14, e15, hf⟩ := tw_bdE hf
                    refine tw_zald C hP e15 dX6_stops_138 (fun hP => ?_)
                    have k174 : ∀  (t16 : TS) (H : Heap) (locs : List Loc) (ls : Array Slot), tw_P D dA o ad t16 H → va_S A s.heap H locs → lv_has ls 9 [(0, .ref o), (1, .long a1), (3, .long a3), (5, .int v6_5), (6, .int v66_6)] → fm_stops_J174 sf66 v66_6  t16 = some (r, tZ) → W p l e (headSpec (ws_ yX6_stops cX6_stops 9 (none)) ({ frames := 4, cells := 0, slots := 0, locals := 90 })).room s m ([.ref o, .long a1, .long a3] : List Value).toArray below meth c H locs 0 0 (MQ below (tw_Qv D dA o ad A tZ) ([.ref o, .long a1, .long a3] : List Value).toArray s 0 0 A) (F0 m 174 ls []) := by
                      intro t16 H locs ls hP hS hl hf
                      unfold fm_stops_J174 at hf
                      refine lv_iinc (v := (v66_6 + (1 : Int32))) (lv' := [(6, .int (v66_6 + (1 : Int32))), (0, .ref o), (1, .long a1), (3, .long a3), (5, .int v6_5)]) hx hb dX6_stops_174 hl (k := 4) rfl rfl (by decide) rfl (fun ls hl => ?_)
                      refine lv_goto (tgt := 66) hx hb dX6_stops_177 (by decide) ?_
                      exact ih66 _ _ _ _ _ hP hS (lv_sub hl [1, 2, 3, 4, 0] rfl) hf
                    refine lv_if_ne (tgt := 174) hx hb dX6_stops_139 (by decide) (fun hc => ?_) (fun hc => ?_)
                    · have hf := tw_ifF hc hf
                      exact k174 _ _ _ _ hP hS (lv_sub hl [0, 1, 2, 3, 4] rfl) hf
                    · have hf := tw_ifT hc hf
                      refine lv_iload hx hb dX6_stops_142 (lv_at hl 5 rfl) ?_
                      refine lv_if_ne (tgt := 150) hx hb dX6_stops_144 (by decide) (fun hc => ?_) (fun hc => ?_)
                      · have hf := tw_ifF hc hf
                        refine lv_aload_n hx hb dX6_stops_150 rfl (lv_at hl 0 rfl) ?_
                        refine tw_aget (k := 45) C hP (by decide) (by decide) q1421 dX6_stops_151 ?_
                        refine lv_iload hx hb dX6_stops_154 (lv_at hl 4 rfl) ?_
                        refine lv_iconst (v := (1 : Int32)) hx hb dX6_stops_156 (by decide) ?_
                        obtain ⟨x17, t18, e19, hf⟩ := tw_bdE hf
                        refine tw_zast C hP hS e19 dX6_stops_157 (fun H locs hP hS => ?_)
                        refine lv_aload_n hx hb dX6_stops_158 rfl (lv_at hl 0 rfl) ?_
                        refine tw_aget (k := 43) C hP (by decide) (by decide) q1419 dX6_stops_159 ?_
                        refine lv_iload hx hb dX6_stops_162 (lv_at hl 4 rfl) ?_
                        refine lv_lload_n hx hb dX6_stops_164 rfl (lv_at hl 1 rfl) ?_
                        obtain ⟨x20, t21, e22, hf⟩ := tw_bdE hf
                        refine tw_last C hP hS e22 dX6_stops_165 (fun H locs hP hS => ?_)
                        refine lv_aload_n hx hb dX6_stops_166 rfl (lv_at hl 0 rfl) ?_
                        refine tw_aget (k := 44) C hP (by decide) (by decide) q1420 dX6_stops_167 ?_
                        refine lv_iload hx hb dX6_stops_170 (lv_at hl 4 rfl) ?_
                        refine lv_lload_n hx hb dX6_stops_172 rfl (lv_at hl 2 rfl) ?_
                        obtain ⟨x23, t24, e25, hf⟩ := tw_bdE hf
                        refine tw_last C hP hS e25 dX6_stops_173 (fun H locs hP hS => ?_)
                        exact k174 _ _ _ _ hP hS (lv_sub hl [0, 1, 2, 3, 4] rfl) hf
                      · have hf := tw_ifT hc hf
                        refine lv_goto (tgt := 174) hx hb dX6_stops_147 (by decide) ?_
                        exact k174 _ _ _ _ hP hS (lv_sub hl [0, 1, 2, 3, 4] rfl) hf
                  · have hf := tw_ifF hc hf
                    refine lv_iload hx hb dX6_stops_93 (lv_at hl 5 rfl) ?_
                    have k124 : ∀ (w124_0 : Int32) (t26 : TS) (H : Heap) (locs : List Loc) (ls : Array Slot), tw_P D dA o ad t26 H → va_S A s.heap H locs → lv_has ls 9 [(0, .ref o), (1, .long a1), (3, .long a3), (5, .int v6_5), (6, .int v66_6), (8, .int v81_8)] → fm_stops_J124 sf81 v81_8 w124_0 t26 = some (r, tZ) → W p l e (headSpec (ws_ yX6_stops cX6_stops 9 (none)) ({ frames := 4, cells := 0, slots := 0, locals := 90 })).room s m ([.ref o, .long a1, .long a3] : List Value).toArray below meth c H locs 0 0 (MQ below (tw_Qv D dA o ad A tZ) ([.ref o, .long a1, .long a3] : List Value).toArray s 0 0 A) (F0 m 124 ls [.int w124_0]) := by
                      intro w124_0 t26 H locs ls hP hS hl hf
                      unfold fm_stops_J124 at hf
                      refine lv_istore (lv' := [(7, .int w124_0), (0, .ref o), (1, .long a1), (3, .long a3), (5, .int v6_5), (6, .int v66_6), (8, .int v81_8)]) hx hb dX6_stops_124 hl (by decide) rfl (fun ls hl => ?_)
                      refine lv_iinc (v := (v81_8 + (1 : Int32))) (lv' := [(8, .int (v81_8 + (1 : Int32))), (7, .int w124_0), (0, .ref o), (1, .long a1), (3, .long a3), (5, .int v6_5), (6, .int v66_6)]) hx hb dX6_stops_126 hl (k := 6) rfl rfl (by decide) rfl (fun ls hl => ?_)
                      refine lv_goto (tgt := 81) hx hb dX6_stops_129 (by decide) ?_
                      exact ih81 _ _ _ _ _ _ hP hS (lv_sub hl [2, 3, 4, 5, 6, 1, 0] rfl) hf
                    have k119 : ∀  (t27 : TS) (H : Heap) (locs : List Loc) (ls : Array Slot), tw_P D dA o ad t27 H → va_S A s.heap H locs → lv_has ls 9 [(0, .ref o), (1, .long a1), (3, .long a3), (5, .int v6_5), (6, .int v66_6), (8, .int v81_8)] → fm_stops_J119 sf81 v81_8  t27 = some (r, tZ) → W p l e (headSpec (ws_ yX6_stops cX6_stops 9 (none)) ({ frames := 4, cells := 0, slots := 0, locals := 90 })).room s m ([.ref o, .long a1, .long a3] : List Value).toArray below meth c H locs 0 0 (MQ below (tw_Qv D dA o ad A tZ) ([.ref o, .long a1, .long a3] : List Value).toArray s 0 0 A) (F0 m 119 ls []) := by
                      intro t27 H locs ls hP hS hl hf
                      unfold fm_stops_J119 at hf
                      refine lv_iconst (v := (1 : Int32)) hx hb dX6_stops_119 (by decide) ?_
                      refine lv_goto (tgt := 124) hx hb dX6_stops_120 (by decide) ?_
                      exact k124 _ _ _ _ _ hP hS (lv_sub hl [0, 1, 2, 3, 4, 5] rfl) hf
                    refine lv_if_ne (tgt := 119) hx hb dX6_stops_95 (by decide) (fun hc => ?_) (fun hc => ?_)
                    · have hf := tw_ifF hc hf
                      exact k119 _ _ _ _ hP hS (lv_sub hl [0, 1, 2, 3, 4, 6] rfl) hf
                    · have hf := tw_ifT hc hf
                      refine lv_iload hx hb dX6_stops_98 (lv_at hl 3 rfl) ?_
                      refine lv_aload_n hx hb dX6_stops_100 rfl (lv_at hl 0 rfl) ?_
                      refine tw_aget (k := 15) C hP (by decide) (by decide) q1391 dX6_stops_101 ?_
                      refine lv_iconst (v := (5 : Int32)) hx hb dX6_stops_104 (by decide) ?_
                      refine lv_iload hx hb dX6_stops_105 (lv_at hl 4 rfl) ?_
                      refine lv_imul hx hb dX6_stops_107 ?_
                      refine lv_iload hx hb dX6_stops_108 (lv_at hl 6 rfl) ?_
                      refine lv_iadd hx hb dX6_stops_110 ?_
                      obtain ⟨x28, t29, e30, hf⟩ := tw_bdE hf
                      refine tw_iald C hP e30 dX6_stops_111 (fun hP => ?_)
                      refine lv_ishr hx hb dX6_stops_112 ?_
                      refine lv_iconst (v := (1 : Int32)) hx hb dX6_stops_113 (by decide) ?_
                      refine lv_iand hx hb dX6_stops_114 ?_
                      refine lv_iconst (v := (1 : Int32)) hx hb dX6_stops_115 (by decide) ?_
                      refine lv_icmp_ne (tgt := 123) hx hb dX6_stops_116 (by decide) (fun hc => ?_) (fun hc => ?_)
                      · have hf := tw_ifF hc hf
                        refine lv_iconst (v := (0 : Int32)) hx hb dX6_stops_123 (by decide) ?_
                        exact k124 _ _ _ _ _ hP hS (lv_sub hl [0, 1, 2, 3, 4, 6] rfl) hf
                      · have hf := tw_ifT hc hf
                        exact k119 _ _ _ _ hP hS (lv_sub hl [0, 1, 2, 3, 4, 6] rfl) hf
              exact k81 _ _ _ _ _ _ _ hP hS (lv_sub hl [2, 3, 4, 5, 6, 1, 0] rfl) hf
        exact k66 _ _ _ _ _ _ hP hS (lv_sub hl [1, 2, 3, 4, 0] rfl) hf
      · have hf := tw_ifF hc hf
        refine lv_aload_n hx hb dX6_stops_15 rfl (lv_at hl 0 rfl) ?_
        refine lv_iload hx hb dX6_stops_16 (lv_at hl 4 rfl) ?_
        obtain ⟨x31, t32, e33, hf⟩ := tw_bdE hf
        refine tw_cVi (As := [.int v6_6]) (rest := []) C hml hP hS (mm_leftOf (l := l) (X := X) (D := D) (dA := dA) hD _ _ _ _ e33) (cwV 1 hts (lw_V q1841 q1843 qs91 q106 q1844) rfl rfl rfl hdX6_leftOf ⟨Nat.le_of_ble_eq_true rfl, Nat.le_of_ble_eq_true rfl⟩) rfl hl.1 rfl (Nat.le_of_ble_eq_true rfl) dX6_stops_18 (fun H locs hP hS => ?_)
        refine lv_istore (lv' := [(7, .int x31), (0, .ref o), (1, .long a1), (3, .long a3), (5, .int v6_5), (6, .int v6_6)]) hx hb dX6_stops_21 hl (by decide) rfl (fun ls hl => ?_)
        refine lv_iload hx hb dX6_stops_23 (lv_at hl 0 rfl) ?_
        have k57 : ∀ (v57_5 : Int32) (t34 : TS) (H : Heap) (locs : List Loc) (ls : Array Slot), tw_P D dA o ad t34 H → va_S A s.heap H locs → lv_has ls 9 [(0, .ref o), (1, .long a1), (3, .long a3), (5, .int v57_5), (6, .int v6_6)] → fm_stops_J57 sf6 v6_6 v57_5 t34 = some (r, tZ) → W p l e (headSpec (ws_ yX6_stops cX6_stops 9 (none)) ({ frames := 4, cells := 0, slots := 0, locals := 90 })).room s m ([.ref o, .long a1, .long a3] : List Value).toArray below meth c H locs 0 0 (MQ below (tw_Qv D dA o ad A tZ) ([.ref o, .long a1, .long a3] : List Value).toArray s 0 0 A) (F0 m 57 ls []) := by
          intro v57_5 t34 H locs ls hP hS hl hf
          unfold fm_stops_J57 at hf
          refine lv_iinc (v := (v6_6 + (1 : Int32))) (lv' := [(6, .int (v6_6 + (1 : Int32))), (0, .ref o), (1, .long a1), (3, .long a3), (5, .int v57_5)]) hx hb dX6_stops_57 hl (k := 4) rfl rfl (by decide) rfl (fun ls hl => ?_)
          refine lv_goto (tgt := 6) hx hb dX6_stops_60 (by decide) ?_
          exact ih6 _ _ _ _ _ _ hP hS (lv_sub hl [1, 2, 3, 4, 0] rfl) hf
        refine lv_if_le (tgt := 57) hx hb dX6_stops_25 (by decide) (fun hc => ?_) (fun hc => ?_)
        · have hf := tw_ifT hc hf
          exact k57 _ _ _ _ _ hP hS (lv_sub hl [1, 2, 3, 4, 5] rfl) hf
        · have hf := tw_ifF hc hf
          refine lv_aload_n hx hb dX6_stops_28 rfl (lv_at hl 1 rfl) ?_
          obtain ⟨x35, t36, e37, hf⟩ := tw_bdE hf
          refine tw_lget (k := 46) C hP (by decide) rfl e37 q1422 dX6_stops_29 (fun hP => ?_)
          refine lv_lload_n hx hb dX6_stops_32 rfl (lv_at hl 3 rfl) ?_
          refine lv_lmul hx hb dX6_stops_33 ?_
          refine lv_lload_n hx hb dX6_stops_34 rfl (lv_at hl 2 rfl) ?_
          refine lv_aload_n hx hb dX6_stops_35 rfl (lv_at hl 1 rfl) ?_
          obtain ⟨x38, t39, e40, hf⟩ := tw_bdE hf
          refine tw_lget (k := 47) C hP (by decide) rfl e40 q1423 dX6_stops_36 (fun hP => ?_)
          refine lv_lmul hx hb dX6_stops_39 ?_
          refine lv_iload hx hb dX6_stops_40 (lv_at hl 0 rfl) ?_
          refine lv_i2l hx hb dX6_stops_42 rfl ?_
          refine lv_lmul hx hb dX6_stops_43 ?_
          refine W.lcmp hx hb dX6_stops_44 ?_
          refine lv_if_ne (tgt := 57) hx hb dX6_stops_45 (by decide) (fun hc => ?_) (fun hc => ?_)
          · have hf := tw_ifF hc hf
            exact k57 _ _ _ _ _ hP hS (lv_sub hl [1, 2, 3, 4, 5] rfl) hf
          · have hf := tw_ifT hc hf
            refine lv_iload hx hb dX6_stops_48 (lv_at hl 4 rfl) ?_
            refine lv_iconst (v := (1 : Int32)) hx hb dX6_stops_50 (by decide) ?_
            refine lv_iload hx hb dX6_stops_51 (lv_at hl 5 rfl) ?_
            refine lv_ishl hx hb dX6_stops_53 ?_
            refine lv_ior hx hb dX6_stops_54 ?_
            refine lv_istore (lv' := [(5, .int (v6_5 ||| ((1 : Int32) <<< (v6_6 &&& 31)))), (7, .int x31), (0, .ref o), (1, .long a1), (3, .long a3), (6, .int v6_6)]) hx hb dX6_stops_55 hl (by decide) rfl (fun ls hl => ?_)
            exact k57 _ _ _ _ _ hP hS (lv_sub hl [2, 3, 4, 0, 5] rfl) hf
  exact k6 _ _ _ _ _ _ _ hP hS (lv_sub hl [2, 3, 4, 1, 0] rfl) hf