def fm_headroomOf (a1 : Int32) : TM Int32 :=
   tw_bd (tw_ld 26 (((24 : Int32) * a1) + (0 : Int32))) fun x1 =>
   tw_bd (tw_ld 6 a1) fun x4 =>
   tw_bd (tw_ld 7 a1) fun x7 =>
  tw_rt ((x1 - (1 : Int32)) + (x4 * (x7 + (1 : Int32))))
theorem hdX6_headroomOf : yX6_headroomOf.cls = "LosslessFabricModel" ∧ (yX6_headroomOf.cls ≠ "java/lang/invoke/MethodHandle" ∧ yX6_headroomOf.cls ≠ "java/lang/invoke/VarHandle" ∧ (parseMethodDescriptor yX6_headroomOf.desc).map (fun d => d.parameters.length) = some 1) := by decide +kernel
set_option maxHeartbeats 4000000 in
theorem mm_headroomOf {l : Launch} {X : (Nat → Nat) × (Nat → Nat) × Nat} {D : va_G} {dA : Nat → ClassId} {o : Nat} {ad : Nat → Nat} {A : Nat → Prop} (hD : tw_D o ad A) (a1 : Int32) (t0 tZ : TS) (r : Int32) (hf : fm_headroomOf a1 t0 = some (r, tZ)) : Met l yX6_headroomOf (ws_ yX6_headroomOf cX6_headroomOf 2 (some .int)) ({ frames := 1, cells := 0, slots := 0, locals := 12 }) (va_Pc [.ref o, .int a1] (tw_W X A D dA o ad t0)) (tw_Qi D dA o ad A r tZ) 0 0 A := by
  refine Met.ofW (cc := cX6_headroomOf) (maxL := 2) (ret := some .int) (by decide) rfl ?_
  intro p e s m args below meth c s₁ B hml hv
  obtain ⟨rfl, hP, hK, hX⟩ := hv
  have hx := B.exec
  have hb := B.bytes
  have hr := B.returns
  have hts := atoms_spec (ws := (ws_ yX6_headroomOf cX6_headroomOf 2 (some .int))) B.pre
  have hts : ∀ w ∈ lw_all, w.before _ s = true := fun w h => hts w (List.mem_cons_of_mem _ h)
  have hown : s.vm.findClass "LosslessFabricModel" = some m.cls := findClass_of_methodNamed B.named
  have hlk := B.notSynchronized
  have C : tw_C X p s m _ c cX6_headroomOf D dA o ad A := ⟨hx, hb, hts, hown, hK, hD, hX⟩
  have hS : va_S A s.heap s.heap [] := va_S.rf
  have hl := lv_entry ([.ref o, .int a1]) (n := 2) (Nat.le_of_ble_eq_true rfl)
  rw [lg_entry_eq]
  generalize (lg_sl ([.ref o, .int a1]) ++ List.replicate (2 - (lg_sl ([.ref o, .int a1])).length) Slot.unset).toArray = ls at hl ⊢
  have hl : lv_has ls 2 [(0, .ref o), (1, .int a1)] := hl
  unfold fm_headroomOf at hf
  refine lv_aload_n hx hb dX6_headroomOf_0 rfl (lv_at hl 0 rfl) ?_
  refine tw_aget (k := 26) C hP (by decide) (by decide) q1402 dX6_headroomOf_1 ?_
  refine lv_bipush (v := (24 : Int32)) hx hb dX6_headroomOf_4 (by decide) ?_
  refine lv_iload_n hx hb dX6_headroomOf_6 rfl (lv_at hl 1 rfl) ?_
  refine lv_imul hx hb dX6_headroomOf_7 ?_
  refine lv_iconst (v := (0 : Int32)) hx hb dX6_headroomOf_8 (by decide) ?_
  refine lv_iadd hx hb dX6_headroomOf_9 ?_
  obtain ⟨x1, t2, e3, hf⟩ := tw_bdE hf
  refine tw_iald C hP e3 dX6_headroomOf_10 (fun hP => ?_)
  refine lv_iconst (v := (1 : Int32)) hx hb dX6_headroomOf_11 (by decide) ?_
  refine lv_isub hx hb dX6_headroomOf_12 ?_
  refine lv_aload_n hx hb dX6_headroomOf_13 rfl (lv_at hl 0 rfl) ?_
  refine tw_aget (k := 6) C hP (by decide) (by decide) q1382 dX6_headroomOf_14 ?_
  refine lv_iload_n hx hb dX6_headroomOf_17 rfl (lv_at hl 1 rfl) ?_
  obtain ⟨x4, t5, e6, hf⟩ := tw_bdE hf
  refine tw_iald C hP e6 dX6_headroomOf_18 (fun hP => ?_)
  refine lv_aload_n hx hb dX6_headroomOf_19 rfl (lv_at hl 0 rfl) ?_
  refine tw_aget (k := 7) C hP (by decide) (by decide) q1383 dX6_headroomOf_20 ?_
  refine lv_iload_n hx hb dX6_headroomOf_23 rfl (lv_at hl 1 rfl) ?_
  obtain ⟨x7, t8, e9, hf⟩ := tw_bdE hf
  refine tw_iald C hP e9 dX6_headroomOf_24 (fun hP => ?_)
  refine lv_iconst (v := (1 : Int32)) hx hb dX6_headroomOf_25 (by decide) ?_
  refine lv_iadd hx hb dX6_headroomOf_26 ?_
  refine lv_imul hx hb dX6_headroomOf_27 ?_
  refine lv_iadd hx hb dX6_headroomOf_28 ?_
  exact tw_ireti (tw_rtE hf).1 (tw_rtE hf).2 C hr hP hS hlk dX6_headroomOf_29
def fm_headroom_J22  (w22_0 : Int32) : TM Int32 :=
  tw_rt w22_0
def fm_headroom (a1 : Int32) : TM Int32 :=
  tw_bd (tw_pi 0 (0 : Int32)) fun _ =>
  tw_bd (fm_isLink a1) fun x4 =>
  if x4 = 0 then (fm_headroom_J22 (-1 : Int32))
  else (tw_bd (fm_headroomOf a1) fun x8 =>
 
  fm_headroom_J22 x8)
theorem hdX6_headroom : yX6_headroom.cls = "LosslessFabricModel" ∧ (yX6_headroom.cls ≠ "java/lang/invoke/MethodHandle" ∧ yX6_headroom.cls ≠ "java/lang/invoke/VarHandle" ∧ (parseMethodDescriptor yX6_headroom.desc).map (fun d => d.parameters.length) = some 1) := by decide +kernel
set_option maxHeartbeats 4000000 in
theorem mm_headroom {l : Launch} {X : (Nat → Nat) × (Nat → Nat) × Nat} {D : va_G} {dA : Nat → ClassId} {o : Nat} {ad : Nat → Nat} {A : Nat → Prop} (hD : tw_D o ad A) (a1 : Int32) (t0 tZ : TS) (r : Int32) (hf : fm_headroom a1 t0 = some (r, tZ)) : Met l yX6_headroom (ws_ yX6_headroom cX6_headroom 2 (some .int)) ({ frames := 3, cells := 0, slots := 0, locals := 53 }) (va_Pc [.ref o, .int a1] (tw_W X A D dA o ad t0)) (tw_Qi D dA o ad A r tZ) 0 0 A := by
  refine Met.ofW (cc := cX6_headroom) (maxL := 2) (ret := some .int) (by decide) rfl ?_
  intro p e s m args below meth c s₁ B hml hv
  obtain ⟨rfl, hP, hK, hX⟩ := hv
  have hx := B.exec
  have hb := B.bytes
  have hr := B.returns
  have hts := atoms_spec (ws := (ws_ yX6_headroom cX6_headroom 2 (some .int))) B.pre
  have hts : ∀ w ∈ lw_all, w.before _ s = true := fun w h => hts w (List.mem_cons_of_mem _ h)
  have hown : s.vm.findClass "LosslessFabricModel" = some m.cls := findClass_of_methodNamed B.named
  have hlk := B.notSynchronized
  have C : tw_C X p s m _ c cX6_headroom D dA o ad A := ⟨hx, hb, hts, hown, hK, hD, hX⟩
  have hS : va_S A s.heap s.heap [] := va_S.rf
  have hl := lv_entry ([.ref o, .int a1]) (n := 2) (Nat.le_of_ble_eq_true rfl)
  rw [lg_entry_eq]
  generalize (lg_sl ([.ref o, .int a1]) ++ List.replicate (2 - (lg_sl ([.ref o, .int a1])).length) Slot.unset).toArray = ls at hl ⊢
  have hl : lv_has ls 2 [(0, .ref o), (1, .int a1)] := hl
  unfold fm_headroom at hf
  refine lv_aload_n hx hb dX6_headroom_0 rfl (lv_at hl 0 rfl) ?_
  refine lv_iconst (v := (0 : Int32)) hx hb dX6_headroom_1 (by decide) ?_
  obtain ⟨x1, t2, e3, hf⟩ := tw_bdE hf
  refine tw_iput (k := 0) C hP hS (by decide) rfl e3 q1376 dX6_headroom_2 (fun H locs hP hS => ?_)
  refine lv_aload_n hx hb dX6_headroom_5 rfl (lv_at hl 0 rfl) ?_
  refine lv_iload_n hx hb dX6_headroom_6 rfl (lv_at hl 1 rfl) ?_
  obtain ⟨x4, t5, e6, hf⟩ := tw_bdE hf
  refine tw_cVi (As := [.int a1]) (rest := []) C hml hP hS (mm_isLink (l := l) (X := X) (D := D) (dA := dA) hD _ _ _ _ e6) (cwV 1 hts (lw_V q1739 q1741 qs81 q106 q1742) rfl rfl rfl hdX6_isLink ⟨Nat.le_of_ble_eq_true rfl, Nat.le_of_ble_eq_true rfl⟩) rfl hl.1 rfl (Nat.le_of_ble_eq_true rfl) dX6_headroom_7 (fun H locs hP hS => ?_)
  have k22 : ∀ (w22_0 : Int32) (t7 : TS) (H : Heap) (locs : List Loc) (ls : Array Slot), tw_P D dA o ad t7 H → va_S A s.heap H locs → lv_has ls 2 [] → fm_headroom_J22 w22_0 t7 = some (r, tZ) → W p l e (headSpec (ws_ yX6_headroom cX6_headroom 2 (some .int)) ({ frames := 3, cells := 0, slots := 0, locals := 53 })).room s m ([.ref o, .int a1] : List Value).toArray below meth c H locs 0 0 (MQ below (tw_Qi D dA o ad A r tZ) ([.ref o, .int a1] : List Value).toArray s 0 0 A) (F0 m 22 ls [.int w22_0]) := by
    intro w22_0 t7 H locs ls hP hS hl hf
    unfold fm_headroom_J22 at hf
    exact tw_ireti (tw_rtE hf).1 (tw_rtE hf).2 C hr hP hS hlk dX6_headroom_22
  refine lv_if_eq (tgt := 21) hx hb dX6_headroom_10 (by decide) (fun hc => ?_) (fun hc => ?_)
  · have hf := tw_ifT hc hf
    refine lv_iconst (v := (-1 : Int32)) hx hb dX6_headroom_21 (by decide) ?_
    exact k22 _ _ _ _ _ hP hS (lv_sub hl [] rfl) hf
  · have hf := tw_ifF hc hf
    refine lv_aload_n hx hb dX6_headroom_13 rfl (lv_at hl 0 rfl) ?_
    refine lv_iload_n hx hb dX6_headroom_14 rfl (lv_at hl 1 rfl) ?_
    obtain ⟨x8, t9, e10, hf⟩ := tw_bdE hf
    refine tw_cVi (As := [.int a1]) (rest := []) C hml hP hS (mm_headroomOf (l := l) (X := X) (D := D) (dA := dA) hD _ _ _ _ e10) (cwV 1 hts (lw_V q1776 q1778 qs82 q106 q1779) rfl rfl rfl hdX6_headroomOf ⟨Nat.le_of_ble_eq_true rfl, Nat.le_of_ble_eq_true rfl⟩) rfl hl.1 rfl (Nat.le_of_ble_eq_true rfl) dX6_headroom_15 (fun H locs hP hS => ?_)
    refine lv_goto (tgt := 22) hx hb dX6_headroom_18 (by decide) ?_
    exact k22 _ _ _ _ _ hP hS (lv_sub hl [] rfl) hf
def fm_safe_J42 (sf9 : Int32 → Int32 → TM Int32) (v9_2 : Int32) (v42_1 : Int32) : TM Int32 :=
  sf9 v42_1 (v9_2 + (1 : Int32))
def fm_safe_L9  (sf9 : Int32 → Int32 → TM Int32) (v9_1 : Int32) (v9_2 : Int32) : TM Int32 :=
  tw_bd (fm_links) fun x5 =>
  if x5 ≤ v9_2 then (tw_rt v9_1)
  else (tw_bd (fm_headroomOf v9_2) fun x8 =>
   tw_bd (tw_ld 26 (((24 : Int32) * v9_2) + (2 : Int32))) fun x11 =>
  if x11 < x8 then (fm_safe_J42 sf9 v9_2 v9_1)
  else (fm_safe_J42 sf9 v9_2 (v9_1 ||| ((1 : Int32) <<< (v9_2 &&& 31)))))
def fm_safe  : TM Int32 :=
  tw_bd (tw_pi 0 (0 : Int32)) fun _ =>
 
  tw_lp (fm_safe_L9) (fun _ _ _ => none) tw_fu (0 : Int32) (0 : Int32)
theorem hdX6_safe : yX6_safe.cls = "LosslessFabricModel" ∧ (yX6_safe.cls ≠ "java/lang/invoke/MethodHandle" ∧ yX6_safe.cls ≠ "java/lang/invoke/VarHandle" ∧ (parseMethodDescriptor yX6_safe.desc).map (fun d => d.parameters.length) = some 0) := by decide +kernel
set_option maxHeartbeats 4000000 in
theorem mm_safe {l : Launch} {X : (Nat → Nat) × (Nat → Nat) × Nat} {D : va_G} {dA : Nat → ClassId} {o : Nat} {ad : Nat → Nat} {A : Nat → Prop} (hD : tw_D o ad A)  (t0 tZ : TS) (r : Int32) (hf : fm_safe  t0 = some (r, tZ)) : Met l yX6_safe (ws_ yX6_safe cX6_safe 3 (some .int)) ({ frames := 2, cells := 0, slots := 0, locals := 33 }) (va_Pc [.ref o] (tw_W X A D dA o ad t0)) (tw_Qi D dA o ad A r tZ) 0 0 A := by
  refine Met.ofW (cc := cX6_safe) (maxL := 3) (ret := some .int) (by decide) rfl ?_
  intro p e s m args below meth c s₁ B hml hv
  obtain ⟨rfl, hP, hK, hX⟩ := hv
  have hx := B.exec
  have hb := B.bytes
  have hr := B.returns
  have hts := atoms_spec (ws := (ws_ yX6_safe cX6_safe 3 (some .int))) B.pre
  have hts : ∀ w ∈ lw_all, w.before _ s = true := fun w h => hts w (List.mem_cons_of_mem _ h)
  have hown : s.vm.findClass "LosslessFabricModel" = some m.cls := findClass_of_methodNamed B.named
  have hlk := B.notSynchronized
  have C : tw_C X p s m _ c cX6_safe D dA o ad A := ⟨hx, hb, hts, hown, hK, hD, hX⟩
  have hS : va_S A s.heap s.heap [] := va_S.rf
  have hl := lv_entry ([.ref o]) (n := 3) (Nat.le_of_ble_eq_true rfl)
  rw [lg_entry_eq]
  generalize (lg_sl ([.ref o]) ++ List.replicate (3 - (lg_sl ([.ref o])).length) Slot.unset).toArray = ls at hl ⊢
  have hl : lv_has ls 3 [(0, .ref o)] := hl
  unfold fm_safe at hf
  refine lv_aload_n hx hb dX6_safe_0 rfl (lv_at hl 0 rfl) ?_
  refine lv_iconst (v := (0 : Int32)) hx hb dX6_safe_1 (by decide) ?_
  obtain ⟨x1, t2, e3, hf⟩ := tw_bdE hf
  refine tw_iput (k := 0) C hP hS (by decide) rfl e3 q1376 dX6_safe_2 (fun H locs hP hS => ?_)
  refine lv_iconst (v := (0 : Int32)) hx hb dX6_safe_5 (by decide) ?_
  refine lv_istore_n (lv' := [(1, .int (0 : Int32)), (0, .ref o)]) hx hb dX6_safe_6 rfl hl (by decide) rfl (fun ls hl => ?_)
  refine lv_iconst (v := (0 : Int32)) hx hb dX6_safe_7 (by decide) ?_
  refine lv_istore_n (lv' := [(2, .int (0 : Int32)), (1, .int (0 : Int32)), (0, .ref o)]) hx hb dX6_safe_8 rfl hl (by decide) rfl (fun ls hl => ?_)
  have k9 : ∀ (n : Nat) (v9_1 : Int32) (v9_2 : Int32) (t4 : TS) (H : Heap) (locs : List Loc) (ls : Array Slot), tw_P D dA o ad t4 H → va_S A s.heap H locs → lv_has ls 3 [(0, .ref o), (1, .int v9_1), (2, .int v9_2)] → tw_lp (fm_safe_L9) (fun _ _ _ => none) n v9_1 v9_2 t4 = some (r, tZ) → W p l e (headSpec (ws_ yX6_safe cX6_safe 3 (some .int)) ({ frames := 2, cells := 0, slots := 0, locals := 33 })).room s m ([.ref o] : List Value).toArray below meth c H locs 0 0 (MQ below (tw_Qi D dA o ad A r tZ) ([.ref o] : List Value).toArray s 0 0 A) (F0 m 9 ls []) := by
    intro n
    induction n with
    | zero => intro v9_1 v9_2 t4 H locs ls hP hS hl hf; exact (tw_no hf).elim
    | succ n ih9 =>
      intro v9_1 v9_2 t4 H locs ls hP hS hl hf
      obtain ⟨sf9, hs9⟩ : ∃ f, f = tw_lp (fm_safe_L9) (fun _ _ _ => none) n := ⟨_, rfl⟩
      rw [← hs9] at ih9
      have hf : fm_safe_L9 sf9 v9_1 v9_2 t4 = some (r, tZ) := by rw [hs9]; exact hf
      clear hs9
      unfold fm_safe_L9 at hf
      refine lv_iload_n hx hb dX6_safe_9 rfl (lv_at hl 2 rfl) ?_
      refine lv_aload_n hx hb dX6_safe_10 rfl (lv_at hl 0 rfl) ?_
      obtain ⟨x5, t6, e7, hf⟩ := tw_bdE hf
      refine tw_cVi (As := []) (rest := [.int v9_2]) C hml hP hS (mm_links (l := l) (X := X) (D := D) (dA := dA) hD _ _ _ e7) (cwV 0 hts (lw_V q1368 q1370 qs43 q106 q1371) rfl rfl rfl hdX6_links ⟨Nat.le_of_ble_eq_true rfl, Nat.le_of_ble_eq_true rfl⟩) rfl hl.1 rfl (Nat.le_of_ble_eq_true rfl) dX6_safe_11 (fun H locs hP hS => ?_)
      refine lv_icmp_ge (tgt := 48) hx hb dX6_safe_14 (by decide) (fun hc => ?_) (fun hc => ?_)
      · have hf := tw_ifT hc hf
        refine lv_iload_n hx hb dX6_safe_48 rfl (lv_at hl 1 rfl) ?_
        exact tw_ireti (tw_rtE hf).1 (tw_rtE hf).2 C hr hP hS hlk dX6_safe_49
      · have hf := tw_ifF hc hf
        refine lv_aload_n hx hb dX6_safe_17 rfl (lv_at hl 0 rfl) ?_
        refine lv_iload_n hx hb dX6_safe_18 rfl (lv_at hl 2 rfl) ?_
        obtain ⟨x8, t9, e10, hf⟩ := tw_bdE hf
        refine tw_cVi (As := [.int v9_2]) (rest := []) C hml hP hS (mm_headroomOf (l := l) (X := X) (D := D) (dA := dA) hD _ _ _ _ e10) (cwV 1 hts (lw_V q1776 q1778 qs82 q106 q1779) rfl rfl rfl hdX6_headroomOf ⟨Nat.le_of_ble_eq_true rfl, Nat.le_of_ble_eq_true rfl⟩) rfl hl.1 rfl (Nat.le_of_ble_eq_true rfl) dX6_safe_19 (fun H locs hP hS => ?_)
        refine lv_aload_n hx hb dX6_safe_22 rfl (lv_at hl 0 rfl) ?_
        refine tw_aget (k := 26) C hP (by decide) (by decide) q1402 dX6_safe_23 ?_
        refine lv_bipush (v := (24 : Int32)) hx hb dX6_safe_26 (by decide) ?_
        refine lv_iload_n hx hb dX6_safe_28 rfl (lv_at hl 2 rfl) ?_
        refine lv_imul hx hb dX6_safe_29 ?_
        refine lv_iconst (v := (2 : Int32)) hx hb dX6_safe_30 (by decide) ?_
        refine lv_iadd hx hb dX6_safe_31 ?_
        obtain ⟨x11, t12, e13, hf⟩ := tw_bdE hf
        refine tw_iald C hP e13 dX6_safe_32 (fun hP => ?_)
        have k42 : ∀ (v42_1 : Int32) (t14 : TS) (H : Heap) (locs : List Loc) (ls : Array Slot), tw_P D dA o ad t14 H → va_S A s.heap H locs → lv_has ls 3 [(0, .ref o), (1, .int v42_1), (2, .int v9_2)] → fm_safe_J42 sf9 v9_2 v42_1 t14 = some (r, tZ) → W p l e (headSpec (ws_ yX6_safe cX6_safe 3 (some .int)) ({ frames := 2, cells := 0, slots := 0, locals := 33 })).room s m ([.ref o] : List Value).toArray below meth c H locs 0 0 (MQ below (tw_Qi D dA o ad A r tZ) ([.ref o] : List Value).toArray s 0 0 A) (F0 m 42 ls []) := by
          intro v42_1 t14 H locs ls hP hS hl hf
          unfold fm_safe_J42 at hf
          refine lv_iinc (v := (v9_2 + (1 : Int32))) (lv' := [(2, .int (v9_2 + (1 : Int32))), (0, .ref o), (1, .int v42_1)]) hx hb dX6_safe_42 hl (k := 2) rfl rfl (by decide) rfl (fun ls hl => ?_)
          refine lv_goto (tgt := 9) hx hb dX6_safe_45 (by decide) ?_
          exact ih9 _ _ _ _ _ _ hP hS (lv_sub hl [1, 2, 0] rfl) hf
        refine lv_icmp_gt (tgt := 42) hx hb dX6_safe_33 (by decide) (fun hc => ?_) (fun hc => ?_)
        · have hf := tw_ifT hc hf
          exact k42 _ _ _ _ _ hP hS (lv_sub hl [0, 1, 2] rfl) hf
        · have hf := tw_ifF hc hf
          refine lv_iload_n hx hb dX6_safe_36 rfl (lv_at hl 1 rfl) ?_
          refine lv_iconst (v := (1 : Int32)) hx hb dX6_safe_37 (by decide) ?_
          refine lv_iload_n hx hb dX6_safe_38 rfl (lv_at hl 2 rfl) ?_
          refine lv_ishl hx hb dX6_safe_39 ?_
          refine lv_ior hx hb dX6_safe_40 ?_
          refine lv_istore_n (lv' := [(1, .int (v9_1 ||| ((1 : Int32) <<< (v9_2 &&& 31)))), (0, .ref o), (2, .int v9_2)]) hx hb dX6_safe_41 rfl hl (by decide) rfl (fun ls hl => ?_)
          exact k42 _ _ _ _ _ hP hS (lv_sub hl [1, 0, 2] rfl) hf
  exact k9 _ _ _ _ _ _ _ hP hS (lv_sub hl [2, 1, 0] rfl) hf
def fm_onWay_J53  (w53_0 : Int32) : TM Int32 :=
  tw_rt w53_0
def fm_onWay (a1 : Int32) : TM Int32 :=
  tw_bd (tw_pi 0 (0 : Int32)) fun _ =>
  tw_bd (fm_isFlow a1) fun x4 =>
  if x4 = 0 then (fm_onWay_J53 (-1 : Int32))
  else ( tw_bd (fm_flowAt a1) fun x8 =>
  tw_bd (tw_ld 26 (x8 + (4 : Int32))) fun x11 =>
   tw_bd (fm_flowAt a1) fun x14 =>
  tw_bd (tw_ld 26 (x14 + (5 : Int32))) fun x17 =>
   tw_bd (fm_flowAt a1) fun x20 =>
  tw_bd (tw_ld 26 (x20 + (11 : Int32))) fun x23 =>
 
  fm_onWay_J53 ((x11 - x17) - x23))
theorem hdX6_onWay : yX6_onWay.cls = "LosslessFabricModel" ∧ (yX6_onWay.cls ≠ "java/lang/invoke/MethodHandle" ∧ yX6_onWay.cls ≠ "java/lang/invoke/VarHandle" ∧ (parseMethodDescriptor yX6_onWay.desc).map (fun d => d.parameters.length) = some 1) := by decide +kernel
set_option maxHeartbeats 4000000 in
theorem mm_onWay {l : Launch} {X : (Nat → Nat) × (Nat → Nat) × Nat} {D : va_G} {dA : Nat → ClassId} {o : Nat} {ad : Nat → Nat} {A : Nat → Prop} (hD : tw_D o ad A) (a1 : Int32) (t0 tZ : TS) (r : Int32) (hf : fm_onWay a1 t0 = some (r, tZ)) : Met l yX6_onWay (ws_ yX6_onWay cX6_onWay 2 (some .int)) ({ frames := 3, cells := 0, slots := 0, locals := 53 }) (va_Pc [.ref o, .int a1] (tw_W X A D dA o ad t0)) (tw_Qi D dA o ad A r tZ) 0 0 A := by
  refine Met.ofW (cc := cX6_onWay) (maxL := 2) (ret := some .int) (by decide) rfl ?_
  intro p e s m args below meth c s₁ B hml hv
  obtain ⟨rfl, hP, hK, hX⟩ := hv
  have hx := B.exec
  have hb := B.bytes
  have hr := B.returns
  have hts := atoms_spec (ws := (ws_ yX6_onWay cX6_onWay 2 (some .int))) B.pre
  have hts : ∀ w ∈ lw_all, w.before _ s = true := fun w h => hts w (List.mem_cons_of_mem _ h)
  have hown : s.vm.findClass "LosslessFabricModel" = some m.cls := findClass_of_methodNamed B.named
  have hlk := B.notSynchronized
  have C : tw_C X p s m _ c cX6_onWay D dA o ad A := ⟨hx, hb, hts, hown, hK, hD, hX⟩
  have hS : va_S A s.heap s.heap [] := va_S.rf
  have hl := lv_entry ([.ref o, .int a1]) (n := 2) (Nat.le_of_ble_eq_true rfl)
  rw [lg_entry_eq]
  generalize (lg_sl ([.ref o, .int a1]) ++ List.replicate (2 - (lg_sl ([.ref o, .int a1])).length) Slot.unset).toArray = ls at hl ⊢
  have hl : lv_has ls 2 [(0, .ref o), (1, .int a1)] := hl
  unfold fm_onWay at hf
  refine lv_aload_n hx hb dX6_onWay_0 rfl (lv_at hl 0 rfl) ?_
  refine lv_iconst (v := (0 : Int32)) hx hb dX6_onWay_1 (by decide) ?_
  obtain ⟨x1, t2, e3, hf⟩ := tw_bdE hf
  refine tw_iput (k := 0) C hP hS (by decide) rfl e3 q1376 dX6_onWay_2 (fun H locs hP hS => ?_)
  refine lv_aload_n hx hb dX6_onWay_5 rfl (lv_at hl 0 rfl) ?_
  refine lv_iload_n hx hb dX6_onWay_6 rfl (lv_at hl 1 rfl) ?_
  obtain ⟨x4, t5, e6, hf⟩ := tw_bdE hf
  refine tw_cVi (As := [.int a1]) (rest := []) C hml hP hS (mm_isFlow (l := l) (X := X) (D := D) (dA := dA) hD _ _ _ _ e6) (cwV 1 hts (lw_V q1727 q1729 qs80 q106 q1730) rfl rfl rfl hdX6_isFlow ⟨Nat.le_of_ble_eq_true rfl, Nat.le_of_ble_eq_true rfl⟩) rfl hl.1 rfl (Nat.le_of_ble_eq_true rfl) dX6_onWay_7 (fun H locs hP hS => ?_)
  have k53 : ∀ (w53_0 : Int32) (t7 : TS) (H : Heap) (locs : List Loc) (ls : Array Slot), tw_P D dA o ad t7 H → va_S A s.heap H locs → lv_has ls 2 [] → fm_onWay_J53 w53_0 t7 = some (r, tZ) → W p l e (headSpec (ws_ yX6_onWay cX6_onWay 2 (some .int)) ({ frames := 3, cells := 0, slots := 0, locals := 53 })).room s m ([.ref o, .int a1] : List Value).toArray below meth c H locs 0 0 (MQ below (tw_Qi D dA o ad A r tZ) ([.ref o, .int a1] : List Value).toArray s 0 0 A) (F0 m 53 ls [.int w53_0]) := by
    intro w53_0 t7 H locs ls hP hS hl hf
    unfold fm_onWay_J53 at hf
    exact tw_ireti (tw_rtE hf).1 (tw_rtE hf).2 C hr hP hS hlk dX6_onWay_53
  refine lv_if_eq (tgt := 52) hx hb dX6_onWay_10 (by decide) (fun hc => ?_) (fun hc => ?_)
  · have hf := tw_ifT hc hf
    refine lv_iconst (v := (-1 : Int32)) hx hb dX6_onWay_52 (by decide) ?_
    exact k53 _ _ _ _ _ hP hS (lv_sub hl [] rfl) hf
  · have hf := tw_ifF hc hf
    refine lv_aload_n hx hb dX6_onWay_13 rfl (lv_at hl 0 rfl) ?_
    refine tw_aget (k := 26) C hP (by decide) (by decide) q1402 dX6_onWay_14 ?_
    refine lv_iload_n hx hb dX6_onWay_17 rfl (lv_at hl 1 rfl) ?_
    obtain ⟨x8, t9, e10, hf⟩ := tw_bdE hf
    refine tw_cSi (As := [.int a1]) (rest := [.ref (ad 26)]) C hml hP hS (mm_flowAt (l := l) (X := X) (D := D) (dA := dA) hD _ _ _ _ e10) (va_cwS 1 hts (lw_S q1661 q1662 q106 q1663) rfl rfl rfl hdX6_flowAt ⟨Nat.le_of_ble_eq_true rfl, Nat.le_of_ble_eq_true rfl⟩) rfl hl.1 rfl (Nat.le_of_ble_eq_true rfl) dX6_onWay_18 (fun H locs hP hS => ?_)
    refine lv_iconst (v := (4 : Int32)) hx hb dX6_onWay_21 (by decide) ?_
    refine lv_iadd hx hb dX6_onWay_22 ?_
    obtain ⟨x11, t12, e13, hf⟩ := tw_bdE hf
    refine tw_iald C hP e13 dX6_onWay_23 (fun hP => ?_)
    refine lv_aload_n hx hb dX6_onWay_24 rfl (lv_at hl 0 rfl) ?_
    refine tw_aget (k := 26) C hP (by decide) (by decide) q1402 dX6_onWay_25 ?_
    refine lv_iload_n hx hb dX6_onWay_28 rfl (lv_at hl 1 rfl) ?_
    obtain ⟨x14, t15, e16, hf⟩ := tw_bdE hf
    refine tw_cSi (As := [.int a1]) (rest := [.ref (ad 26), .int x11]) C hml hP hS (mm_flowAt (l := l) (X := X) (D := D) (dA := dA) hD _ _ _ _ e16) (va_cwS 1 hts (lw_S q1661 q1662 q106 q1663) rfl rfl rfl hdX6_flowAt ⟨Nat.le_of_ble_eq_true rfl, Nat.le_of_ble_eq_true rfl⟩) rfl hl.1 rfl (Nat.le_of_ble_eq_true rfl) dX6_onWay_29 (fun H locs hP hS => ?_)
    refine lv_iconst (v := (5 : Int32)) hx hb dX6_onWay_32 (by decide) ?_
    refine lv_iadd hx hb dX6_onWay_33 ?_
    obtain ⟨x17, t18, e19, hf⟩ := tw_bdE hf
    refine tw_iald C hP e19 dX6_onWay_34 (fun hP => ?_)
    refine lv_isub hx hb dX6_onWay_35 ?_
    refine lv_aload_n hx hb dX6_onWay_36 rfl (lv_at hl 0 rfl) ?_
    refine tw_aget (k := 26) C hP (by decide) (by decide) q1402 dX6_onWay_37 ?_
    refine lv_iload_n hx hb dX6_onWay_40 rfl (lv_at hl 1 rfl) ?_
    obtain ⟨x20, t21, e22, hf⟩ := tw_bdE hf
    refine tw_cSi (As := [.int a1]) (rest := [.ref (ad 26), .int (x11 - x17)]) C hml hP hS (mm_flowAt (l := l) (X := X) (D := D) (dA := dA) hD _ _ _ _ e22) (va_cwS 1 hts (lw_S q1661 q1662 q106 q1663) rfl rfl rfl hdX6_flowAt ⟨Nat.le_of_ble_eq_true rfl, Nat.le_of_ble_eq_true rfl⟩) rfl hl.1 rfl (Nat.le_of_ble_eq_true rfl) dX6_onWay_41 (fun H locs hP hS => ?_)
    refine lv_bipush (v := (11 : Int32)) hx hb dX6_onWay_44 (by decide) ?_
    refine lv_iadd hx hb dX6_onWay_46 ?_
    obtain ⟨x23, t24, e25, hf⟩ := tw_bdE hf
    refine tw_iald C hP e25 dX6_onWay_47 (fun hP => ?_)
    refine lv_isub hx hb dX6_onWay_48 ?_
    refine lv_goto (tgt := 53) hx hb dX6_onWay_49 (by decide) ?_
    exact k53 _ _ _ _ _ hP hS (lv_sub hl [] rfl) hf
def fm_asked_J21  (w21_0 : Int32) : TM Int32 :=
  tw_rz w21_0
def fm_asked (a1 : Int32) : TM Int32 :=
   tw_bd (tw_ld 26 (((24 : Int32) * a1) + (10 : Int32))) fun x1 =>
  if x1 = (1 : Int32) then (fm_asked_J21 (1 : Int32))
  else (fm_asked_J21 (0 : Int32))
theorem hdX6_asked : yX6_asked.cls = "LosslessFabricModel" ∧ (yX6_asked.cls ≠ "java/lang/invoke/MethodHandle" ∧ yX6_asked.cls ≠ "java/lang/invoke/VarHandle" ∧ (parseMethodDescriptor yX6_asked.desc).map (fun d => d.parameters.length) = some 1) := by decide +kernel
set_option maxHeartbeats 4000000 in
theorem mm_asked {l : Launch} {X : (Nat → Nat) × (Nat → Nat) × Nat} {D : va_G} {dA : Nat → ClassId} {o : Nat} {ad : Nat → Nat} {A : Nat → Prop} (hD : tw_D o ad A) (a1 : Int32) (t0 tZ : TS) (r : Int32) (hf : fm_asked a1 t0 = some (r, tZ)) : Met l yX6_asked (ws_ yX6_asked cX6_asked 2 (some .boolean)) ({ frames := 1, cells := 0, slots := 0, locals := 12 }) (va_Pc [.ref o, .int a1] (tw_W X A D dA o ad t0)) (tw_Qi D dA o ad A r tZ) 0 0 A := by
  refine Met.ofW (cc := cX6_asked) (maxL := 2) (ret := some .boolean) (by decide) rfl ?_
  intro p e s m args below meth c s₁ B hml hv
  obtain ⟨rfl, hP, hK, hX⟩ := hv
  have hx := B.exec
  have hb := B.bytes
  have hr := B.returns
  have hts := atoms_spec (ws := (ws_ yX6_asked cX6_asked 2 (some .boolean))) B.pre
  have hts : ∀ w ∈ lw_all, w.before _ s = true := fun w h => hts w (List.mem_cons_of_mem _ h)
  have hown : s.vm.findClass "LosslessFabricModel" = some m.cls := findClass_of_methodNamed B.named
  have hlk := B.notSynchronized
  have C : tw_C X p s m _ c cX6_asked D dA o ad A := ⟨hx, hb, hts, hown, hK, hD, hX⟩
  have hS : va_S A s.heap s.heap [] := va_S.rf
  have hl := lv_entry ([.ref o, .int a1]) (n := 2) (Nat.le_of_ble_eq_true rfl)
  rw [lg_entry_eq]
  generalize (lg_sl ([.ref o, .int a1]) ++ List.replicate (2 - (lg_sl ([.ref o, .int a1])).length) Slot.unset).toArray = ls at hl ⊢
  have hl : lv_has ls 2 [(0, .ref o), (1, .int a1)] := hl
  unfold fm_asked at hf
  refine lv_aload_n hx hb dX6_asked_0 rfl (lv_at hl 0 rfl) ?_
  refine tw_aget (k := 26) C hP (by decide) (by decide) q1402 dX6_asked_1 ?_
  refine lv_bipush (v := (24 : Int32)) hx hb dX6_asked_4 (by decide) ?_
  refine lv_iload_n hx hb dX6_asked_6 rfl (lv_at hl 1 rfl) ?_
  refine lv_imul hx hb dX6_asked_7 ?_
  refine lv_bipush (v := (10 : Int32)) hx hb dX6_asked_8 (by decide) ?_
  refine lv_iadd hx hb dX6_asked_10 ?_
  obtain ⟨x1, t2, e3, hf⟩ := tw_bdE hf
  refine tw_iald C hP e3 dX6_asked_11 (fun hP => ?_)
  refine lv_iconst (v := (1 : Int32)) hx hb dX6_asked_12 (by decide) ?_
  have k21 : ∀ (w21_0 : Int32) (t4 : TS) (H : Heap) (locs : List Loc) (ls : Array Slot), tw_P D dA o ad t4 H → va_S A s.heap H locs → lv_has ls 2 [] → fm_asked_J21 w21_0 t4 = some (r, tZ) → W p l e (headSpec (ws_ yX6_asked cX6_asked 2 (some .boolean)) ({ frames := 1, cells := 0, slots := 0, locals := 12 })).room s m ([.ref o, .int a1] : List Value).toArray below meth c H locs 0 0 (MQ below (tw_Qi D dA o ad A r tZ) ([.ref o, .int a1] : List Value).toArray s 0 0 A) (F0 m 21 ls [.int w21_0]) := by
    intro w21_0 t4 H locs ls hP hS hl hf
    unfold fm_asked_J21 at hf
    exact tw_iretz hf C hr hP hS hlk dX6_asked_21
  refine lv_icmp_ne (tgt := 20) hx hb dX6_asked_13 (by decide) (fun hc => ?_) (fun hc => ?_)
  · have hf := tw_ifF hc hf
    refine lv_iconst (v := (0 : Int32)) hx hb dX6_asked_20 (by decide) ?_
    exact k21 _ _ _ _ _ hP hS (lv_sub hl [] rfl) hf
  · have hf := tw_ifT hc hf
    refine lv_iconst (v := (1 : Int32)) hx hb dX6_asked_16 (by decide) ?_
    refine lv_goto (tgt := 21) hx hb dX6_asked_17 (by decide) ?_
    exact k21 _ _ _ _ _ hP hS (lv_sub hl [] rfl) hf
def fm_nextOf_J40  (w40_0 : Int32) : TM Int32 :=
  tw_rt w40_0
def fm_nextOf_J24   : TM Int32 :=
  fm_nextOf_J40 (-1 : Int32)
def fm_nextOf (a1 : Int32) (a2 : Int32) : TM Int32 :=
  tw_bd (fm_hopOf a1 a2) fun x1 =>
  if x1 = (-1 : Int32) then (fm_nextOf_J24)
  else ( tw_bd (tw_ld 14 a1) fun x6 =>
  if x1 = (x6 - (1 : Int32)) then (fm_nextOf_J24)
  else ( tw_bd (tw_ld 15 ((((5 : Int32) * a1) + x1) + (1 : Int32))) fun x9 =>
 
  fm_nextOf_J40 x9))
theorem hdX6_nextOf : yX6_nextOf.cls = "LosslessFabricModel" ∧ (yX6_nextOf.cls ≠ "java/lang/invoke/MethodHandle" ∧ yX6_nextOf.cls ≠ "java/lang/invoke/VarHandle" ∧ (parseMethodDescriptor yX6_nextOf.desc).map (fun d => d.parameters.length) = some 2) := by decide +kernel
set_option maxHeartbeats 4000000 in
theorem mm_nextOf {l : Launch} {X : (Nat → Nat) × (Nat → Nat) × Nat} {D : va_G} {dA : Nat → ClassId} {o : Nat} {ad : Nat → Nat} {A : Nat → Prop} (hD : tw_D o ad A) (a1 : Int32) (a2 : Int32) (t0 tZ : TS) (r : Int32) (hf : fm_nextOf a1 a2 t0 = some (r, tZ)) : Met l yX6_nextOf (ws_ yX6_nextOf cX6_nextOf 4 (some .int)) ({ frames := 2, cells := 0, slots := 0, locals := 35 }) (va_Pc [.ref o, .int a1, .int a2] (tw_W X A D dA o ad t0)) (tw_Qi D dA o ad A r tZ) 0 0 A := by
  refine Met.ofW (cc := cX6_nextOf) (maxL := 4) (ret := some .int) (by decide) rfl ?_
  intro p e s m args below meth c s₁ B hml hv
  obtain ⟨rfl, hP, hK, hX⟩ := hv
  have hx := B.exec
  have hb := B.bytes
  have hr := B.returns
  have hts := atoms_spec (ws := (ws_ yX6_nextOf cX6_nextOf 4 (some .int))) B.pre
  have hts : ∀ w ∈ lw_all, w.before _ s = true := fun w h => hts w (List.mem_cons_of_mem _ h)
  have hown : s.vm.findClass "LosslessFabricModel" = some m.cls := findClass_of_methodNamed B.named
  have hlk := B.notSynchronized
  have C : tw_C X p s m _ c cX6_nextOf D dA o ad A := ⟨hx, hb, hts, hown, hK, hD, hX⟩
  have hS : va_S A s.heap s.heap [] := va_S.rf
  have hl := lv_entry ([.ref o, .int a1, .int a2]) (n := 4) (Nat.le_of_ble_eq_true rfl)
  rw [lg_entry_eq]
  generalize (lg_sl ([.ref o, .int a1, .int a2]) ++ List.replicate (4 - (lg_sl ([.ref o, .int a1, .int a2])).length) Slot.unset).toArray = ls at hl ⊢
  have hl : lv_has ls 4 [(0, .ref o), (1, .int a1), (2, .int a2)] := hl
  unfold fm_nextOf at hf
  refine lv_aload_n hx hb dX6_nextOf_0 rfl (lv_at hl 0 rfl) ?_
  refine lv_iload_n hx hb dX6_nextOf_1 rfl (lv_at hl 1 rfl) ?_
  refine lv_iload_n hx hb dX6_nextOf_2 rfl (lv_at hl 2 rfl) ?_
  obtain ⟨x1, t2, e3, hf⟩ := tw_bdE hf
  refine tw_cVi (As := [.int a1, .int a2]) (rest := []) C hml hP hS (mm_hopOf (l := l) (X := X) (D := D) (dA := dA) hD _ _ _ _ _ e3) (cwV 2 hts (lw_V q1675 q1677 qs68 q106 q1678) rfl rfl rfl hdX6_hopOf ⟨Nat.le_of_ble_eq_true rfl, Nat.le_of_ble_eq_true rfl⟩) rfl hl.1 rfl (Nat.le_of_ble_eq_true rfl) dX6_nextOf_3 (fun H locs hP hS => ?_)
  refine lv_istore_n (lv' := [(3, .int x1), (0, .ref o), (1, .int a1), (2, .int a2)]) hx hb dX6_nextOf_6 rfl hl (by decide) rfl (fun ls hl => ?_)
  refine lv_iload_n hx hb dX6_nextOf_7 rfl (lv_at hl 0 rfl) ?_
  refine lv_iconst (v := (-1 : Int32)) hx hb dX6_nextOf_8 (by decide) ?_
  have k40 : ∀ (w40_0 : Int32) (t4 : TS) (H : Heap) (locs : List Loc) (ls : Array Slot), tw_P D dA o ad t4 H → va_S A s.heap H locs → lv_has ls 4 [] → fm_nextOf_J40 w40_0 t4 = some (r, tZ) → W p l e (headSpec (ws_ yX6_nextOf cX6_nextOf 4 (some .int)) ({ frames := 2, cells := 0, slots := 0, locals := 35 })).room s m ([.ref o, .int a1, .int a2] : List Value).toArray below meth c H locs 0 0 (MQ below (tw_Qi D dA o ad A r tZ) ([.ref o, .int a1, .int a2] : List Value).toArray s 0 0 A) (F0 m 40 ls [.int w40_0]) := by
    intro w40_0 t4 H locs ls hP hS hl hf
    unfold fm_nextOf_J40 at hf
    exact tw_ireti (tw_rtE hf).1 (tw_rtE hf).2 C hr hP hS hlk dX6_nextOf_40
  have k24 : ∀  (t5 : TS) (H : Heap) (locs : List Loc) (ls : Array Slot), tw_P D dA o ad t5 H → va_S A s.heap H locs → lv_has ls 4 [] → fm_nextOf_J24  t5 = some (r, tZ) → W p l e (headSpec (ws_ yX6_nextOf cX6_nextOf 4 (some .int)) ({ frames := 2, cells := 0, slots := 0, locals := 35 })).room s m ([.ref o, .int a1, .int a2] : List Value).toArray below meth c H locs 0 0 (MQ below (tw_Qi D dA o ad A r tZ) ([.ref o, .int a1, .int a2] : List Value).toArray s 0 0 A) (F0 m 24 ls []) := by
    intro t5 H locs ls hP hS hl hf
    unfold fm_nextOf_J24 at hf
    refine lv_iconst (v := (-1 : Int32)) hx hb dX6_nextOf_24 (by decide) ?_
    refine lv_goto (tgt := 40) hx hb dX6_nextOf_25 (by decide) ?_
    exact k40 _ _ _ _ _ hP hS (lv_sub hl [] rfl) hf
  refine lv_icmp_eq (tgt := 24) hx hb dX6_nextOf_9 (by decide) (fun hc => ?_) (fun hc => ?_)
  · have hf := tw_ifT hc hf
    exact k24 _ _ _ _ hP hS (lv_sub hl [] rfl) hf
  · have hf := tw_ifF hc hf
    refine lv_iload_n hx hb dX6_nextOf_12 rfl (lv_at hl 0 rfl) ?_
    refine lv_aload_n hx hb dX6_nextOf_13 rfl (lv_at hl 1 rfl) ?_
    refine tw_aget (k := 14) C hP (by decide) (by decide) q1390 dX6_nextOf_14 ?_
    refine lv_iload_n hx hb dX6_nextOf_17 rfl (lv_at hl 2 rfl) ?_
    obtain ⟨x6, t7, e8, hf⟩ := tw_bdE hf
    refine tw_iald C hP e8 dX6_nextOf_18 (fun hP => ?_)
    refine lv_iconst (v := (1 : Int32)) hx hb dX6_nextOf_19 (by decide) ?_
    refine lv_isub hx hb dX6_nextOf_20 ?_
    refine lv_icmp_ne (tgt := 28) hx hb dX6_nextOf_21 (by decide) (fun hc => ?_) (fun hc => ?_)
    · have hf := tw_ifF hc hf
      refine lv_aload_n hx hb dX6_nextOf_28 rfl (lv_at hl 1 rfl) ?_
      refine tw_aget (k := 15) C hP (by decide) (by decide) q1391 dX6_nextOf_29 ?_
      refine lv_iconst (v := (5 : Int32)) hx hb dX6_nextOf_32 (by decide) ?_
      refine lv_iload_n hx hb dX6_nextOf_33 rfl (lv_at hl 2 rfl) ?_
      refine lv_imul hx hb dX6_nextOf_34 ?_
      refine lv_iload_n hx hb dX6_nextOf_35 rfl (lv_at hl 0 rfl) ?_
      refine lv_iadd hx hb dX6_nextOf_36 ?_
      refine lv_iconst (v := (1 : Int32)) hx hb dX6_nextOf_37 (by decide) ?_
      refine lv_iadd hx hb dX6_nextOf_38 ?_
      obtain ⟨x9, t10, e11, hf⟩ := tw_bdE hf
      refine tw_iald C hP e11 dX6_nextOf_39 (fun hP => ?_)
      exact k40 _ _ _ _ _ hP hS (lv_sub hl [] rfl) hf
    · have hf := tw_ifT hc hf
      exact k24 _ _ _ _ hP hS (lv_sub hl [] rfl) hf
def fm_isWaiting_J48  (w48_0 : Int32) : TM Int32 :=
  tw_rz w48_0
def fm_isWaiting_J47   : TM Int32 :=
  fm_isWaiting_J48 (0 : Int32)
def fm_isWaiting (a1 : Int32) (a2 : Int32) (a3 : Int32) : TM Int32 :=
  tw_bd (fm_asked a1) fun x1 =>
  if x1 = 0 then (fm_isWaiting_J47)
  else ( tw_bd (tw_ld 26 ((((24 : Int32) * a1) + (15 : Int32)) + a2)) fun x6 =>
  if x6 ≤ 0 then (fm_isWaiting_J47)
  else (tw_bd (fm_nextOf a2 a1) fun x9 =>
  if x9 = a3 then (tw_bd (fm_asked a3) fun x12 =>
  if x12 = 0 then (fm_isWaiting_J47)
  else (fm_isWaiting_J48 (1 : Int32)))
  else (fm_isWaiting_J47)))
theorem hdX6_isWaiting : yX6_isWaiting.cls = "LosslessFabricModel" ∧ (yX6_isWaiting.cls ≠ "java/lang/invoke/MethodHandle" ∧ yX6_isWaiting.cls ≠ "java/lang/invoke/VarHandle" ∧ (parseMethodDescriptor yX6_isWaiting.desc).map (fun d => d.parameters.length) = some 3) := by decide +kernel
set_option maxHeartbeats 4000000 in
theorem mm_isWaiting {l : Launch} {X : (Nat → Nat) × (Nat → Nat) × Nat} {D : va_G} {dA : Nat → ClassId} {o : Nat} {ad : Nat → Nat} {A : Nat → Prop} (hD : tw_D o ad A) (a1 : Int32) (a2 : Int32) (a3 : Int32) (t0 tZ : TS) (r : Int32) (hf : fm_isWaiting a1 a2 a3 t0 = some (r, tZ)) : Met l yX6_isWaiting (ws_ yX6_isWaiting cX6_isWaiting 4 (some .boolean)) ({ frames := 3, cells := 0, slots := 0, locals := 58 }) (va_Pc [.ref o, .int a1, .int a2, .int a3] (tw_W X A D dA o ad t0)) (tw_Qi D dA o ad A r tZ) 0 0 A := by
  refine Met.ofW (cc := cX6_isWaiting) (maxL := 4) (ret := some .boolean) (by decide) rfl ?_
  intro p e s m args below meth c s₁ B hml hv
  obtain ⟨rfl, hP, hK, hX⟩ := hv
  have hx := B.exec
  have hb := B.bytes
  have hr := B.returns
  have hts := atoms_spec (ws := (ws_ yX6_isWaiting cX6_isWaiting 4 (some .boolean))) B.pre
  have hts : ∀ w ∈ lw_all, w.before _ s = true := fun w h => hts w (List.mem_cons_of_mem _ h)
  have hown : s.vm.findClass "LosslessFabricModel" = some m.cls := findClass_of_methodNamed B.named
  have hlk := B.notSynchronized
  have C : tw_C X p s m _ c cX6_isWaiting D dA o ad A := ⟨hx, hb, hts, hown, hK, hD, hX⟩
  have hS : va_S A s.heap s.heap [] := va_S.rf
  have hl := lv_entry ([.ref o, .int a1, .int a2, .int a3]) (n := 4) (Nat.le_of_ble_eq_true rfl)
  rw [lg_entry_eq]
  generalize (lg_sl ([.ref o, .int a1, .int a2, .int a3]) ++ List.replicate (4 - (lg_sl ([.ref o, .int a1, .int a2, .int a3])).length) Slot.unset).toArray = ls at hl ⊢
  have hl : lv_has ls 4 [(0, .ref o), (1, .int a1), (2, .int a2), (3, .int a3)] := hl
  unfold fm_isWaiting at hf
  refine lv_aload_n hx hb dX6_isWaiting_0 rfl (lv_at hl 0 rfl) ?_
  refine lv_iload_n hx hb dX6_isWaiting_1 rfl (lv_at hl 1 rfl) ?_
  obtain ⟨x1, t2, e3, hf⟩ := tw_bdE hf
  refine tw_cVi (As := [.int a1]) (rest := []) C hml hP hS (mm_asked (l := l) (X := X) (D := D) (dA := dA) hD _ _ _ _ e3) (cwV 1 hts (lw_V q1804 q1806 qs86 q106 q1807) rfl rfl rfl hdX6_asked ⟨Nat.le_of_ble_eq_true rfl, Nat.le_of_ble_eq_true rfl⟩) rfl hl.1 rfl (Nat.le_of_ble_eq_true rfl) dX6_isWaiting_2 (fun H locs hP hS => ?_)
  have k48 : ∀ (w48_0 : Int32) (t4 : TS) (H : Heap) (locs : List Loc) (ls : Array Slot), tw_P D dA o ad t4 H → va_S A s.heap H locs → lv_has ls 4 [] → fm_isWaiting_J48 w48_0 t4 = some (r, tZ) → W p l e (headSpec (ws_ yX6_isWaiting cX6_isWaiting 4 (some .boolean)) ({ frames := 3, cells := 0, slots := 0, locals := 58 })).room s m ([.ref o, .int a1, .int a2, .int a3] : List Value).toArray below meth c H locs 0 0 (MQ below (tw_Qi D dA o ad A r tZ) ([.ref o, .int a1, .int a2, .int a3] : List Value).toArray s 0 0 A) (F0 m 48 ls [.int w48_0]) := by
    intro w48_0 t4 H locs ls hP hS hl hf
    unfold fm_isWaiting_J48 at hf
    exact tw_iretz hf C hr hP hS hlk dX6_isWaiting_48
  have k47 : ∀  (t5 : TS) (H : Heap) (locs : List Loc) (ls : Array Slot), tw_P D dA o ad t5 H → va_S A s.heap H locs → lv_has ls 4 [] → fm_isWaiting_J47  t5 = some (r, tZ) → W p l e (headSpec (ws_ yX6_isWaiting cX6_isWaiting 4 (some .boolean)) ({ frames := 3, cells := 0, slots := 0, locals := 58 })).room s m ([.ref o, .int a1, .int a2, .int a3] : List Value).toArray below meth c H locs 0 0 (MQ below (tw_Qi D dA o ad A r tZ) ([.ref o, .int a1, .int a2, .int a3] : List Value).toArray s 0 0 A) (F0 m 47 ls []) := by
    intro t5 H locs ls hP hS hl hf
    unfold fm_isWaiting_J47 at hf
    refine lv_iconst (v := (0 : Int32)) hx hb dX6_isWaiting_47 (by decide) ?_
    exact k48 _ _ _ _ _ hP hS (lv_sub hl [] rfl) hf
  refine lv_if_eq (tgt := 47) hx hb dX6_isWaiting_5 (by decide) (fun hc => ?_) (fun hc => ?_)
  · have hf := tw_ifT hc hf
    exact k47 _ _ _ _ hP hS (lv_sub hl [] rfl) hf
  · have hf := tw_ifF hc hf
    refine lv_aload_n hx hb dX6_isWaiting_8 rfl (lv_at hl 0 rfl) ?_
    refine tw_aget (k := 26) C hP (by decide) (by decide) q1402 dX6_isWaiting_9 ?_
    refine lv_bipush (v := (24 : Int32)) hx hb dX6_isWaiting_12 (by decide) ?_
    refine lv_iload_n hx hb dX6_isWaiting_14 rfl (lv_at hl 1 rfl) ?_
    refine lv_imul hx hb dX6_isWaiting_15 ?_
    refine lv_bipush (v := (15 : Int32)) hx hb dX6_isWaiting_16 (by decide) ?_
    refine lv_iadd hx hb dX6_isWaiting_18 ?_
    refine lv_iload_n hx hb dX6_isWaiting_19 rfl (lv_at hl 2 rfl) ?_
    refine lv_iadd hx hb dX6_isWaiting_20 ?_
    obtain ⟨x6, t7, e8, hf⟩ := tw_bdE hf
    refine tw_iald C hP e8 dX6_isWaiting_21 (fun hP => ?_)
    refine lv_if_le (tgt := 47) hx hb dX6_isWaiting_22 (by decide) (fun hc => ?_) (fun hc => ?_)
    · have hf := tw_ifT hc hf
      exact k47 _ _ _ _ hP hS (lv_sub hl [] rfl) hf
    · have hf := tw_ifF hc hf
      refine lv_aload_n hx hb dX6_isWaiting_25 rfl (lv_at hl 0 rfl) ?_
      refine lv_iload_n hx hb dX6_isWaiting_26 rfl (lv_at hl 2 rfl) ?_
      refine lv_iload_n hx hb dX6_isWaiting_27 rfl (lv_at hl 1 rfl) ?_
      obtain ⟨x9, t10, e11, hf⟩ := tw_bdE hf
      refine tw_cVi (As := [.int a2, .int a1]) (rest := []) C hml hP hS (mm_nextOf (l := l) (X := X) (D := D) (dA := dA) hD _ _ _ _ _ e11) (cwV 2 hts (lw_V q1796 q1798 qs84 q106 q1799) rfl rfl rfl hdX6_nextOf ⟨Nat.le_of_ble_eq_true rfl, Nat.le_of_ble_eq_true rfl⟩) rfl hl.1 rfl (Nat.le_of_ble_eq_true rfl) dX6_isWaiting_28 (fun H locs hP hS => ?_)
      refine lv_iload_n hx hb dX6_isWaiting_31 rfl (lv_at hl 3 rfl) ?_
      refine lv_icmp_ne (tgt := 47) hx hb dX6_isWaiting_32 (by decide) (fun hc => ?_) (fun hc => ?_)
      · have hf := tw_ifF hc hf
        exact k47 _ _ _ _ hP hS (lv_sub hl [] rfl) hf
      · have hf := tw_ifT hc hf
        refine lv_aload_n hx hb dX6_isWaiting_35 rfl (lv_at hl 0 rfl) ?_
        refine lv_iload_n hx hb dX6_isWaiting_36 rfl (lv_at hl 3 rfl) ?_
        obtain ⟨x12, t13, e14, hf⟩ := tw_bdE hf
        refine tw_cVi (As := [.int a3]) (rest := []) C hml hP hS (mm_asked (l := l) (X := X) (D := D) (dA := dA) hD _ _ _ _ e14) (cwV 1 hts (lw_V q1804 q1806 qs86 q106 q1807) rfl rfl rfl hdX6_asked ⟨Nat.le_of_ble_eq_true rfl, Nat.le_of_ble_eq_true rfl⟩) rfl hl.1 rfl (Nat.le_of_ble_eq_true rfl) dX6_isWaiting_37 (fun H locs hP hS => ?_)
        refine lv_if_eq (tgt := 47) hx hb dX6_isWaiting_40 (by decide) (fun hc => ?_) (fun hc => ?_)
        · have hf := tw_ifT hc hf
          exact k47 _ _ _ _ hP hS (lv_sub hl [] rfl) hf
        · have hf := tw_ifF hc hf
          refine lv_iconst (v := (1 : Int32)) hx hb dX6_isWaiting_43 (by decide) ?_
          refine lv_goto (tgt := 48) hx hb dX6_isWaiting_44 (by decide) ?_
          exact k48 _ _ _ _ _ hP hS (lv_sub hl [] rfl) hf
def fm_laysWaits_J69 (sf19 : Int32 → TM Unit) (v19_3 : Int32)  : TM Unit :=
  sf19 (v19_3 + (1 : Int32))
def fm_laysWaits_J56 (v2_2 : Int32) (x12 : Int32) (sf19 : Int32 → TM Unit) (v19_3 : Int32)  : TM Unit :=
   tw_bd (tw_ld 39 v2_2) fun x17 =>
  tw_bd (tw_st 39 v2_2 (x17 ||| ((1 : Int32) <<< (x12 &&& 31)))) fun _ =>
 
  fm_laysWaits_J69 sf19 v19_3
def fm_laysWaits_L19 (sf2 : Int32 → TM Unit) (v2_2 : Int32) (a1 : Int32) (sf19 : Int32 → TM Unit) (v19_3 : Int32) : TM Unit :=
  tw_bd (fm_flows) fun x9 =>
  if x9 ≤ v19_3 then (sf2 (v2_2 + (1 : Int32)))
  else (tw_bd (fm_nextOf v19_3 v2_2) fun x12 =>
  if x12 = (-1 : Int32) then (fm_laysWaits_J69 sf19 v19_3)
  else (if a1 = 0 then (tw_bd (fm_isWaiting v2_2 v19_3 x12) fun x23 =>
  if x23 = 0 then (fm_laysWaits_J69 sf19 v19_3)
  else (fm_laysWaits_J56 v2_2 x12 sf19 v19_3))
  else (fm_laysWaits_J56 v2_2 x12 sf19 v19_3)))
def fm_laysWaits_L2 (a1 : Int32) (sf2 : Int32 → TM Unit) (v2_2 : Int32) : TM Unit :=
  tw_bd (fm_links) fun x2 =>
  if x2 ≤ v2_2 then (tw_rt ())
  else ( tw_bd (tw_st 39 v2_2 (0 : Int32)) fun _ =>
 
  tw_lp (fm_laysWaits_L19 sf2 v2_2 a1) (fun _ _ => none) tw_fu (0 : Int32))
def fm_laysWaits (a1 : Int32) : TM Unit :=
  tw_lp (fm_laysWaits_L2 a1) (fun _ _ => none) tw_fu (0 : Int32)
theorem hdX6_laysWaits : yX6_laysWaits.cls = "LosslessFabricModel" ∧ (yX6_laysWaits.cls ≠ "java/lang/invoke/MethodHandle" ∧ yX6_laysWaits.cls ≠ "java/lang/invoke/VarHandle" ∧ (parseMethodDescriptor yX6_laysWaits.desc).map (fun d => d.parameters.length) = some 1) := by decide +kernel
set_option maxHeartbeats 4000000 in
theorem mm_laysWaits {l : Launch} {X : (Nat → Nat) × (Nat → Nat) × Nat} {D : va_G} {dA : Nat → ClassId} {o : Nat} {ad : Nat → Nat} {A : Nat → Prop} (hD : tw_D o ad A) (a1 : Int32) (t0 tZ : TS) (r : Unit) (hf : fm_laysWaits a1 t0 = some (r, tZ)) : Met l yX6_laysWaits (ws_ yX6_laysWaits cX6_laysWaits 5 (none)) ({ frames := 4, cells := 0, slots := 0, locals := 81 }) (va_Pc [.ref o, .int a1] (tw_W X A D dA o ad t0)) (tw_Qv D dA o ad A tZ) 0 0 A := by
  refine Met.ofW (cc := cX6_laysWaits) (maxL := 5) (ret := none) (by decide) rfl ?_
  intro p e s m args below meth c s₁ B hml hv
  obtain ⟨rfl, hP, hK, hX⟩ := hv
  have hx := B.exec
  have hb := B.bytes
  have hr := B.returns
  have hts := atoms_spec (ws := (ws_ yX6_laysWaits cX6_laysWaits 5 (none))) B.pre
  have hts : ∀ w ∈ lw_all, w.before _ s = true := fun w h => hts w (List.mem_cons_of_mem _ h)
  have hown : s.vm.findClass "LosslessFabricModel" = some m.cls := findClass_of_methodNamed B.named
  have hlk := B.notSynchronized
  have C : tw_C X p s m _ c cX6_laysWaits D dA o ad A := ⟨hx, hb, hts, hown, hK, hD, hX⟩
  have hS : va_S A s.heap s.heap [] := va_S.rf
  have hl := lv_entry ([.ref o, .int a1]) (n := 5) (Nat.le_of_ble_eq_true rfl)
  rw [lg_entry_eq]
  generalize (lg_sl ([.ref o, .int a1]) ++ List.replicate (5 - (lg_sl ([.ref o, .int a1])).length) Slot.unset).toArray = ls at hl ⊢
  have hl : lv_has ls 5 [(0, .ref o), (1, .int a1)] := hl
  unfold fm_laysWaits at hf
  refine lv_iconst (v := (0 : Int32)) hx hb dX6_laysWaits_0 (by decide) ?_
  refine lv_istore_n (lv' := [(2, .int (0 : Int32)), (0, .ref o), (1, .int a1)]) hx hb dX6_laysWaits_1 rfl hl (by decide) rfl (fun ls hl => ?_)
  have k2 : ∀ (n : Nat) (v2_2 : Int32) (t1 : TS) (H : Heap) (locs : List Loc) (ls : Array Slot), tw_P D dA o ad t1 H → va_S A s.heap H locs → lv_has ls 5 [(0, .ref o), (1, .int a1), (2, .int v2_2)] → tw_lp (fm_laysWaits_L2 a1) (fun _ _ => none) n v2_2 t1 = some (r, tZ) → W p l e (headSpec (ws_ yX6_laysWaits cX6_laysWaits 5 (none)) ({ frames := 4, cells := 0, slots := 0, locals := 81 })).room s m ([.ref o, .int a1] : List Value).toArray below meth c H locs 0 0 (MQ below (tw_Qv D dA o ad A tZ) ([.ref o, .int a1] : List Value).toArray s 0 0 A) (F0 m 2 ls []) := by
    intro n
    induction n with
    | zero => intro v2_2 t1 H locs ls hP hS hl hf; exact (tw_no hf).elim
    | succ n ih2 =>
      intro v2_2 t1 H locs ls hP hS hl hf
      obtain ⟨sf2, hs2⟩ : ∃ f, f = tw_lp (fm_laysWaits_L2 a1) (fun _ _ => none) n := ⟨_, rfl⟩
      rw [← hs2] at ih2
      have hf : fm_laysWaits_L2 a1 sf2 v2_2 t1 = some (r, tZ) := by rw [hs2]; exact hf
      clear hs2
      unfold fm_laysWaits_L2 at hf
      refine lv_iload_n hx hb dX6_laysWaits_2 rfl (lv_at hl 2 rfl) ?_
      refine lv_aload_n hx hb dX6_laysWaits_3 rfl (lv_at hl 0 rfl) ?_
      obtain ⟨x2, t3, e4, hf⟩ := tw_bdE hf
      refine tw_cVi (As := []) (rest := [.int v2_2]) C hml hP hS (mm_links (l := l) (X := X) (D := D) (dA := dA) hD _ _ _ e4) (cwV 0 hts (lw_V q1368 q1370 qs43 q106 q1371) rfl rfl rfl hdX6_links ⟨Nat.le_of_ble_eq_true rfl, Nat.le_of_ble_eq_true rfl⟩) rfl hl.1 rfl (Nat.le_of_ble_eq_true rfl) dX6_laysWaits_4 (fun H locs hP hS => ?_)
      refine lv_icmp_ge (tgt := 81) hx hb dX6_laysWaits_7 (by decide) (fun hc => ?_) (fun hc => ?_)
      · have hf := tw_ifT hc hf
        exact tw_iretv (tw_rtE hf).2 C hr hP hS hlk dX6_laysWaits_81
      · have hf := tw_ifF hc hf
        refine lv_aload_n hx hb dX6_laysWaits_10 rfl (lv_at hl 0 rfl) ?_
        refine tw_aget (k := 39) C hP (by decide) (by decide) q1415 dX6_laysWaits_11 ?_
        refine lv_iload_n hx hb dX6_laysWaits_14 rfl (lv_at hl 2 rfl) ?_
        refine lv_iconst (v := (0 : Int32)) hx hb dX6_laysWaits_15 (by decide) ?_
        obtain ⟨x5, t6, e7, hf⟩ := tw_bdE hf
        refine tw_iast C hP hS e7 dX6_laysWaits_16 (fun H locs hP hS => ?_)
        refine lv_iconst (v := (0 : Int32)) hx hb dX6_laysWaits_17 (by decide) ?_
        refine lv_istore_n (lv' := [(3, .int (0 : Int32)), (0, .ref o), (1, .int a1), (2, .int v2_2)]) hx hb dX6_laysWaits_18 rfl hl (by decide) rfl (fun ls hl => ?_)
        have k19 : ∀ (n : Nat) (v19_3 : Int32) (t8 : TS) (H : Heap) (locs : List Loc) (ls : Array Slot), tw_P D dA o ad t8 H → va_S A s.heap H locs → lv_has ls 5 [(0, .ref o), (1, .int a1), (2, .int v2_2), (3, .int v19_3)] → tw_lp (fm_laysWaits_L19 sf2 v2_2 a1) (fun _ _ => none) n v19_3 t8 = some (r, tZ) → W p l e (headSpec (ws_ yX6_laysWaits cX6_laysWaits 5 (none)) ({ frames := 4, cells := 0, slots := 0, locals := 81 })).room s m ([.ref o, .int a1] : List Value).toArray below meth c H locs 0 0 (MQ below (tw_Qv D dA o ad A tZ) ([.ref o, .int a1] : List Value).toArray s 0 0 A) (F0 m 19 ls []) := by
          intro n
          induction n with
          | zero => intro v19_3 t8 H locs ls hP hS hl hf; exact (tw_no hf).elim
          | succ n ih19 =>
            intro v19_3 t8 H locs ls hP hS hl hf
            obtain ⟨sf19, hs19⟩ : ∃ f, f = tw_lp (fm_laysWaits_L19 sf2 v2_2 a1) (fun _ _ => none) n := ⟨_, rfl⟩
            rw [← hs19] at ih19
            have hf : fm_laysWaits_L19 sf2 v2_2 a1 sf19 v19_3 t8 = some (r, tZ) := by rw [hs19]; exact hf
            clear hs19
            unfold fm_laysWaits_L19 at hf
            refine lv_iload_n hx hb dX6_laysWaits_19 rfl (lv_at hl 3 rfl) ?_
            refine lv_aload_n hx hb dX6_laysWaits_20 rfl (lv_at hl 0 rfl) ?_
            obtain ⟨x9, t10, e11, hf⟩ := tw_bdE hf
            refine tw_cVi (As := []) (rest := [.int v19_3]) C hml hP hS (mm_flows (l := l) (X := X) (D := D) (dA := dA) hD _ _ _ e11) (cwV 0 hts (lw_V q1372 q1374 qs44 q106 q1375) rfl rfl rfl hdX6_flows ⟨Nat.le_of_ble_eq_true rfl, Nat.le_of_ble_eq_true rfl⟩) rfl hl.1 rfl (Nat.le_of_ble_eq_true rfl) dX6_laysWaits_21 (fun H locs hP hS => ?_)
            refine lv_icmp_ge (tgt := 75) hx hb dX6_laysWaits_24 (by decide) (fun hc => ?_) (fun hc => ?_)
            · have hf := tw_ifT hc hf
              refine lv_iinc (v := (v2_2 + (1 : Int32))) (lv' := [(2, .int (v2_2 + (1 : Int32))), (0, .ref o), (1, .int a1), (3, .int v19_3)]) hx hb dX6_laysWaits_75 hl (k := 2) rfl rfl (by decide) rfl (fun ls hl => ?_)
              refine lv_goto (tgt := 2) hx hb dX6_laysWaits_78 (by decide) ?_
              exact ih2 _ _ _ _ _ hP hS (lv_sub hl [1, 2, 0] rfl) hf
            · have hf := tw_ifF hc hf
              refine lv_aload_n hx hb dX6_laysWaits_27 rfl (lv_at hl 0 rfl) ?_
              refine lv_iload_n hx hb dX6_laysWaits_28 rfl (lv_at hl 3 rfl) ?_
              refine lv_iload_n hx hb dX6_laysWaits_29 rfl (lv_at hl 2 rfl) ?_
              obtain ⟨x12, t13, e14, hf⟩ := tw_bdE hf
              refine tw_cVi (As := [.int v19_3, .int v2_2]) (rest := []) C hml hP hS (mm_nextOf (l := l) (X := X) (D := D) (dA := dA) hD _ _ _ _ _ e14) (cwV 2 hts (lw_V q1796 q1798 qs84 q106 q1799) rfl rfl rfl hdX6_nextOf ⟨Nat.le_of_ble_eq_true rfl, Nat.le_of_ble_eq_true rfl⟩) rfl hl.1 rfl (Nat.le_of_ble_eq_true rfl) dX6_laysWaits_30 (fun H locs hP hS => ?_)
              refine lv_istore (lv' := [(4, .int x12), (0, .ref o), (1, .int a1), (2, .int v2_2), (3, .int v19_3)]) hx hb dX6_laysWaits_33 hl (by decide) rfl (fun ls hl => ?_)
              refine lv_iload hx hb dX6_laysWaits_35 (lv_at hl 0 rfl) ?_
              refine lv_iconst (v := (-1 : Int32)) hx hb dX6_laysWaits_37 (by decide) ?_
              have k69 : ∀  (t15 : TS) (H : Heap) (locs : List Loc) (ls : Array Slot), tw_P D dA o ad t15 H → va_S A s.heap H locs → lv_has ls 5 [(0, .ref o), (1, .int a1), (2, .int v2_2), (3, .int v19_3)] → fm_laysWaits_J69 sf19 v19_3  t15 = some (r, tZ) → W p l e (headSpec (ws_ yX6_laysWaits cX6_laysWaits 5 (none)) ({ frames := 4, cells := 0, slots := 0, locals := 81 })).room s m ([.ref o, .int a1] : List Value).toArray below meth c H locs 0 0 (MQ below (tw_Qv D dA o ad A tZ) ([.ref o, .int a1] : List Value).toArray s 0 0 A) (F0 m 69 ls []) := by
                intro t15 H locs ls hP hS hl hf
                unfold fm_laysWaits_J69 at hf
                refine lv_iinc (v := (v19_3 + (1 : Int32))) (lv' := [(3, .int (v19_3 + (1 : Int32))), (0, .ref o), (1, .int a1), (2, .int v2_2)]) hx hb dX6_laysWaits_69 hl (k := 3) rfl rfl (by decide) rfl (fun ls hl => ?_)
                refine lv_goto (tgt := 19) hx hb dX6_laysWaits_72 (by decide) ?_
                exact ih19 _ _ _ _ _ hP hS (lv_sub hl [1, 2, 3, 0] rfl) hf
              refine lv_icmp_eq (tgt := 69) hx hb dX6_laysWaits_38 (by decide) (fun hc => ?_) (fun hc => ?_)
              · have hf := tw_ifT hc hf
                exact k69 _ _ _ _ hP hS (lv_sub hl [1, 2, 3, 4] rfl) hf
              · have hf := tw_ifF hc hf
                refine lv_iload_n hx hb dX6_laysWaits_41 rfl (lv_at hl 2 rfl) ?_
                have k56 : ∀  (t16 : TS) (H : Heap) (locs : List Loc) (ls : Array Slot), tw_P D dA o ad t16 H → va_S A s.heap H locs → lv_has ls 5 [(0, .ref o), (1, .int a1), (2, .int v2_2), (3, .int v19_3), (4, .int x12)] → fm_laysWaits_J56 v2_2 x12 sf19 v19_3  t16 = some (r, tZ) → W p l e (headSpec (ws_ yX6_laysWaits cX6_laysWaits 5 (none)) ({ frames := 4, cells := 0, slots := 0, locals := 81 })).room s m ([.ref o, .int a1] : List Value).toArray below meth c H locs 0 0 (MQ below (tw_Qv D dA o ad A tZ) ([.ref o, .int a1] : List Value).toArray s 0 0 A) (F0 m 56 ls []) := by
                  intro t16 H locs ls hP hS hl hf
                  unfold fm_laysWaits_J56 at hf
                  refine lv_aload_n hx hb dX6_laysWaits_56 rfl (lv_at hl 0 rfl) ?_
                  refine tw_aget (k := 39) C hP (by decide) (by decide) q1415 dX6_laysWaits_57 ?_
                  refine lv_iload_n hx hb dX6_laysWaits_60 rfl (lv_at hl 2 rfl) ?_
                  refine lv_dup2_11 hx hb dX6_laysWaits_61 rfl rfl ?_
                  obtain ⟨x17, t18, e19, hf⟩ := tw_bdE hf
                  refine tw_iald C hP e19 dX6_laysWaits_62 (fun hP => ?_)
                  refine lv_iconst (v := (1 : Int32)) hx hb dX6_laysWaits_63 (by decide) ?_
                  refine lv_iload hx hb dX6_laysWaits_64 (lv_at hl 4 rfl) ?_
                  refine lv_ishl hx hb dX6_laysWaits_66 ?_
                  refine lv_ior hx hb dX6_laysWaits_67 ?_
                  obtain ⟨x20, t21, e22, hf⟩ := tw_bdE hf
                  refine tw_iast C hP hS e22 dX6_laysWaits_68 (fun H locs hP hS => ?_)
                  exact k69 _ _ _ _ hP hS (lv_sub hl [0, 1, 2, 3] rfl) hf
                refine lv_if_ne (tgt := 56) hx hb dX6_laysWaits_42 (by decide) (fun hc => ?_) (fun hc => ?_)
                · have hf := tw_ifF hc hf
                  exact k56 _ _ _ _ hP hS (lv_sub hl [1, 2, 3, 4, 0] rfl) hf
                · have hf := tw_ifT hc hf
                  refine lv_aload_n hx hb dX6_laysWaits_45 rfl (lv_at hl 1 rfl) ?_
                  refine lv_iload_n hx hb dX6_laysWaits_46 rfl (lv_at hl 3 rfl) ?_
                  refine lv_iload_n hx hb dX6_laysWaits_47 rfl (lv_at hl 4 rfl) ?_
                  refine lv_iload hx hb dX6_laysWaits_48 (lv_at hl 0 rfl) ?_
                  obtain ⟨x23, t24, e25, hf⟩ := tw_bdE hf
                  refine tw_cVi (As := [.int v2_2, .int v19_3, .int x12]) (rest := []) C hml hP hS (mm_isWaiting (l := l) (X := X) (D := D) (dA := dA) hD _ _ _ _ _ _ e25) (cwV 3 hts (lw_V q1800 q1802 qs85 q106 q1803) rfl rfl rfl hdX6_isWaiting ⟨Nat.le_of_ble_eq_true rfl, Nat.le_of_ble_eq_true rfl⟩) rfl hl.1 rfl (Nat.le_of_ble_eq_true rfl) dX6_laysWaits_50 (fun H locs hP hS => ?_)
                  refine lv_if_eq (tgt := 69) hx hb dX6_laysWaits_53 (by decide) (fun hc => ?_) (fun hc => ?_)
                  · have hf := tw_ifT hc hf
                    exact k69 _ _ _ _ hP hS (lv_sub hl [1, 2, 3, 4] rfl) hf
                  · have hf := tw_ifF hc hf
                    exact k56 _ _ _ _ hP hS (lv_sub hl [1, 2, 3, 4, 0] rfl) hf
        exact k19 _ _ _ _ _ _ hP hS (lv_sub hl [1, 2, 3, 0] rfl) hf
  exact k2 _ _ _ _ _ _ hP hS (lv_sub hl [1, 2, 0] rfl) hf
def fm_waits (a1 : Int32) : TM Int32 :=
  tw_bd (tw_pi 0 (0 : Int32)) fun _ =>
  tw_bd (fm_isLink a1) fun x4 =>
  if x4 = 0 then (tw_rt (-1 : Int32))
  else (tw_bd (fm_laysWaits (0 : Int32)) fun _ =>
   tw_bd (tw_ld 39 a1) fun x10 =>
  tw_rt x10)
theorem hdX6_waits : yX6_waits.cls = "LosslessFabricModel" ∧ (yX6_waits.cls ≠ "java/lang/invoke/MethodHandle" ∧ yX6_waits.cls ≠ "java/lang/invoke/VarHandle" ∧ (parseMethodDescriptor yX6_waits.desc).map (fun d => d.parameters.length) = some 1) := by decide +kernel
set_option maxHeartbeats 4000000 in
theorem mm_waits {l : Launch} {X : (Nat → Nat) × (Nat → Nat) × Nat} {D : va_G} {dA : Nat → ClassId} {o : Nat} {ad : Nat → Nat} {A : Nat → Prop} (hD : tw_D o ad A) (a1 : Int32) (t0 tZ : TS) (r : Int32) (hf : fm_waits a1 t0 = some (r, tZ)) : Met l yX6_waits (ws_ yX6_waits cX6_waits 2 (some .int)) ({ frames := 5, cells := 0, slots := 0, locals := 105 }) (va_Pc [.ref o, .int a1] (tw_W X A D dA o ad t0)) (tw_Qi D dA o ad A r tZ) 0 0 A := by
  refine Met.ofW (cc := cX6_waits) (maxL := 2) (ret := some .int) (by decide) rfl ?_
  intro p e s m args below meth c s₁ B hml hv
  obtain ⟨rfl, hP, hK, hX⟩ := hv
  have hx := B.exec
  have hb := B.bytes
  have hr := B.returns
  have hts := atoms_spec (ws := (ws_ yX6_waits cX6_waits 2 (some .int))) B.pre
  have hts : ∀ w ∈ lw_all, w.before _ s = true := fun w h => hts w (List.mem_cons_of_mem _ h)
  have hown : s.vm.findClass "LosslessFabricModel" = some m.cls := findClass_of_methodNamed B.named
  have hlk := B.notSynchronized
  have C : tw_C X p s m _ c cX6_waits D dA o ad A := ⟨hx, hb, hts, hown, hK, hD, hX⟩
  have hS : va_S A s.heap s.heap [] := va_S.rf
  have hl := lv_entry ([.ref o, .int a1]) (n := 2) (Nat.le_of_ble_eq_true rfl)
  rw [lg_entry_eq]
  generalize (lg_sl ([.ref o, .int a1]) ++ List.replicate (2 - (lg_sl ([.ref o, .int a1])).length) Slot.unset).toArray = ls at hl ⊢
  have hl : lv_has ls 2 [(0, .ref o), (1, .int a1)] := hl
  unfold fm_waits at hf
  refine lv_aload_n hx hb dX6_waits_0 rfl (lv_at hl 0 rfl) ?_
  refine lv_iconst (v := (0 : Int32)) hx hb dX6_waits_1 (by decide) ?_
  obtain ⟨x1, t2, e3, hf⟩ := tw_bdE hf
  refine tw_iput (k := 0) C hP hS (by decide) rfl e3 q1376 dX6_waits_2 (fun H locs hP hS => ?_)
  refine lv_aload_n hx hb dX6_waits_5 rfl (lv_at hl 0 rfl) ?_
  refine lv_iload_n hx hb dX6_waits_6 rfl (lv_at hl 1 rfl) ?_
  obtain ⟨x4, t5, e6, hf⟩ := tw_bdE hf
  refine tw_cVi (As := [.int a1]) (rest := []) C hml hP hS (mm_isLink (l := l) (X := X) (D := D) (dA := dA) hD _ _ _ _ e6) (cwV 1 hts (lw_V q1739 q1741 qs81 q106 q1742) rfl rfl rfl hdX6_isLink ⟨Nat.le_of_ble_eq_true rfl, Nat.le_of_ble_eq_true rfl⟩) rfl hl.1 rfl (Nat.le_of_ble_eq_true rfl) dX6_waits_7 (fun H locs hP hS => ?_)
  refine lv_if_ne (tgt := 15) hx hb dX6_waits_10 (by decide) (fun hc => ?_) (fun hc => ?_)
  · have hf := tw_ifF hc hf
    refine lv_aload_n hx hb dX6_waits_15 rfl (lv_at hl 0 rfl) ?_
    refine lv_iconst (v := (0 : Int32)) hx hb dX6_waits_16 (by decide) ?_
    obtain ⟨x7, t8, e9, hf⟩ := tw_bdE hf
    refine tw_cVv (As := [.int (0 : Int32)]) (rest := []) C hml hP hS (mm_laysWaits (l := l) (X := X) (D := D) (dA := dA) hD _ _ _ _ e9) (cwV 1 hts (lw_V q1792 q1794 qs83 q106 q1795) rfl rfl rfl hdX6_laysWaits ⟨Nat.le_of_ble_eq_true rfl, Nat.le_of_ble_eq_true rfl⟩) rfl hl.1 rfl (Nat.le_of_ble_eq_true rfl) dX6_waits_17 (fun H locs hP hS => ?_)
    refine lv_aload_n hx hb dX6_waits_20 rfl (lv_at hl 0 rfl) ?_
    refine tw_aget (k := 39) C hP (by decide) (by decide) q1415 dX6_waits_21 ?_
    refine lv_iload_n hx hb dX6_waits_24 rfl (lv_at hl 1 rfl) ?_
    obtain ⟨x10, t11, e12, hf⟩ := tw_bdE hf
    refine tw_iald C hP e12 dX6_waits_25 (fun hP => ?_)
    exact tw_ireti (tw_rtE hf).1 (tw_rtE hf).2 C hr hP hS hlk dX6_waits_26
  · have hf := tw_ifT hc hf
    refine lv_iconst (v := (-1 : Int32)) hx hb dX6_waits_13 (by decide) ?_
    exact tw_ireti (tw_rtE hf).1 (tw_rtE hf).2 C hr hP hS hlk dX6_waits_14
def fm_laysSteps_J163 (sf35 : Int32 → TM Unit) (v35_3 : Int32)  : TM Unit :=
  sf35 (v35_3 + (1 : Int32))
def fm_laysSteps_J151 (v85_4 : Int32) (sf35 : Int32 → TM Unit) (v35_3 : Int32) (v25_2 : Int32)  : TM Unit :=
  if v85_4 = 0 then (fm_laysSteps_J163 sf35 v35_3)
  else ( tw_bd (tw_st 40 v35_3 v25_2) fun _ =>
 
  fm_laysSteps_J163 sf35 v35_3)
def fm_laysSteps_J143 (sf85 : Int32 → Int32 → TM Unit) (v85_5 : Int32) (w143_0 : Int32) : TM Unit :=
  sf85 w143_0 (v85_5 + (1 : Int32))
def fm_laysSteps_J138 (sf85 : Int32 → Int32 → TM Unit) (v85_5 : Int32)  : TM Unit :=
  fm_laysSteps_J143 sf85 v85_5 (1 : Int32)
def fm_laysSteps_J142 (sf85 : Int32 → Int32 → TM Unit) (v85_5 : Int32)  : TM Unit :=
  fm_laysSteps_J143 sf85 v85_5 (0 : Int32)
def fm_laysSteps_L85 (sf35 : Int32 → TM Unit) (v35_3 : Int32) (v25_2 : Int32) (a1 : Int32) (sf85 : Int32 → Int32 → TM Unit) (v85_4 : Int32) (v85_5 : Int32) : TM Unit :=
  tw_bd (fm_links) fun x19 =>
  if x19 ≤ v85_5 then (fm_laysSteps_J151 v85_4 sf35 v35_3 v25_2)
  else (if v25_2 ≤ (1 : Int32) then (fm_laysSteps_J151 v85_4 sf35 v35_3 v25_2)
  else (if v85_4 = 0 then ( tw_bd (tw_ld 39 v35_3) fun x28 =>
  if ((x28 >>> (v85_5 &&& 31)) &&& (1 : Int32)) = (1 : Int32) then (if v85_5 = a1 then (fm_laysSteps_J142 sf85 v85_5)
  else ( tw_bd (tw_ld 40 v85_5) fun x32 =>
  if x32 = (v25_2 - (1 : Int32)) then (fm_laysSteps_J138 sf85 v85_5)
  else (fm_laysSteps_J142 sf85 v85_5)))
  else (fm_laysSteps_J142 sf85 v85_5))
  else (fm_laysSteps_J138 sf85 v85_5)))
def fm_laysSteps_J80 (sf35 : Int32 → TM Unit) (v35_3 : Int32) (v25_2 : Int32) (a1 : Int32) (w80_0 : Int32) : TM Unit :=
  tw_lp (fm_laysSteps_L85 sf35 v35_3 v25_2 a1) (fun _ _ _ => none) tw_fu w80_0 (0 : Int32)
def fm_laysSteps_J79 (sf35 : Int32 → TM Unit) (v35_3 : Int32) (v25_2 : Int32) (a1 : Int32)  : TM Unit :=
  fm_laysSteps_J80 sf35 v35_3 v25_2 a1 (0 : Int32)
def fm_laysSteps_L35 (sf25 : Int32 → TM Unit) (v25_2 : Int32) (a1 : Int32) (sf35 : Int32 → TM Unit) (v35_3 : Int32) : TM Unit :=
  tw_bd (fm_links) fun x10 =>
  if x10 ≤ v35_3 then (sf25 (v25_2 + (1 : Int32)))
  else ( tw_bd (tw_ld 40 v35_3) fun x13 =>
  if x13 = (-1 : Int32) then (if v25_2 = (1 : Int32) then ( tw_bd (tw_ld 39 v35_3) fun x36 =>
  if ((x36 >>> (a1 &&& 31)) &&& (1 : Int32)) = (1 : Int32) then (fm_laysSteps_J80 sf35 v35_3 v25_2 a1 (1 : Int32))
  else (fm_laysSteps_J79 sf35 v35_3 v25_2 a1))
  else (fm_laysSteps_J79 sf35 v35_3 v25_2 a1))
  else (fm_laysSteps_J163 sf35 v35_3))
def fm_laysSteps_L25 (a1 : Int32) (sf25 : Int32 → TM Unit) (v25_2 : Int32) : TM Unit :=
  tw_bd (fm_links) fun x6 =>
  if x6 < v25_2 then (tw_rt ())
  else (tw_lp (fm_laysSteps_L35 sf25 v25_2 a1) (fun _ _ => none) tw_fu (0 : Int32))
def fm_laysSteps_L2 (a1 : Int32) (sf2 : Int32 → TM Unit) (v2_2 : Int32) : TM Unit :=
  tw_bd (fm_links) fun x2 =>
  if x2 ≤ v2_2 then (tw_lp (fm_laysSteps_L25 a1) (fun _ _ => none) tw_fu (1 : Int32))
  else ( tw_bd (tw_st 40 v2_2 (-1 : Int32)) fun _ =>
 
  sf2 (v2_2 + (1 : Int32)))
def fm_laysSteps (a1 : Int32) : TM Unit :=
  tw_lp (fm_laysSteps_L2 a1) (fun _ _ => none) tw_fu (0 : Int32)
theorem hdX6_laysSteps : yX6_laysSteps.cls = "LosslessFabricModel" ∧ (yX6_laysSteps.cls ≠ "java/lang/invoke/MethodHandle" ∧ yX6_laysSteps.cls ≠ "java/lang/invoke/VarHandle" ∧ (parseMethodDescriptor yX6_laysSteps.desc).map (fun d => d.parameters.length) = some 1) := by decide +kernel
set_option maxHeartbeats 4000000 in
theorem mm_laysSteps {l : Launch} {X : (Nat → Nat) × (Nat → Nat) × Nat} {D : va_G} {dA : Nat → ClassId} {o : Nat} {ad : Nat → Nat} {A : Nat → Prop} (hD : tw_D o ad A) (a1 : Int32) (t0 tZ : TS) (r : Unit) (hf : fm_laysSteps a1 t0 = some (r, tZ)) : Met l yX6_laysSteps (ws_ yX6_laysSteps cX6_laysSteps 6 (none)) ({ frames := 2, cells := 0, slots := 0, locals := 32 }) (va_Pc [.ref o, .int a1] (tw_W X A D dA o ad t0)) (tw_Qv D dA o ad A tZ) 0 0 A := by
  refine Met.ofW (cc := cX6_laysSteps) (maxL := 6) (ret := none) (by decide) rfl ?_
  intro p e s m args below meth c s₁ B hml hv
  obtain ⟨rfl, hP, hK, hX⟩ := hv
  have hx := B.exec
  have hb := B.bytes
  have hr := B.returns
  have hts := atoms_spec (ws := (ws_ yX6_laysSteps cX6_laysSteps 6 (none))) B.pre
  have hts : ∀ w ∈ lw_all, w.before _ s = true := fun w h => hts w (List.mem_cons_of_mem _ h)
  have hown : s.vm.findClass "LosslessFabricModel" = some m.cls := findClass_of_methodNamed B.named
  have hlk := B.notSynchronized
  have C : tw_C X p s m _ c cX6_laysSteps D dA o ad A := ⟨hx, hb, hts, hown, hK, hD, hX⟩
  have hS : va_S A s.heap s.heap [] := va_S.rf
  have hl := lv_entry ([.ref o, .int a1]) (n := 6) (Nat.le_of_ble_eq_true rfl)
  rw [lg_entry_eq]
  generalize (lg_sl ([.ref o, .int a1]) ++ List.replicate (6 - (lg_sl ([.ref o, .int a1])).length) Slot.unset).toArray = ls at hl ⊢
  have hl : lv_has ls 6 [(0, .ref o), (1, .int a1)] := hl
  unfold fm_laysSteps at hf
  refine lv_iconst (v := (0 : Int32)) hx hb dX6_laysSteps_0 (by decide) ?_
  refine lv_istore_n (lv' := [(2, .int (0 : Int32)), (0, .ref o), (1, .int a1)]) hx hb dX6_laysSteps_1 rfl hl (by decide) rfl (fun ls hl => ?_)
  have k2 : ∀ (n : Nat) (v2_2 : Int32) (t1 : TS) (H : Heap) (locs : List Loc) (ls : Array Slot), tw_P D dA o ad t1 H → va_S A s.heap H locs → lv_has ls 6 [(0, .ref o), (1, .int a1), (2, .int v2_2)] → tw_lp (fm_laysSteps_L2 a1) (fun _ _ => none) n v2_2 t1 = some (r, tZ) → W p l e (headSpec (ws_ yX6_laysSteps cX6_laysSteps 6 (none)) ({ frames := 2, cells := 0, slots := 0, locals := 32 })).room s m ([.ref o, .int a1] : List Value).toArray below meth c H locs 0 0 (MQ below (tw_Qv D dA o ad A tZ) ([.ref o, .int a1] : List Value).toArray s 0 0 A) (F0 m 2 ls []) := by
    intro n
    induction n with
    | zero => intro v2_2 t1 H locs ls hP hS hl hf; exact (tw_no hf).elim
    | succ n ih2 =>
      intro v2_2 t1 H locs ls hP hS hl hf
      obtain ⟨sf2, hs2⟩ : ∃ f, f = tw_lp (fm_laysSteps_L2 a1) (fun _ _ => none) n := ⟨_, rfl⟩
      rw [← hs2] at ih2
      have hf : fm_laysSteps_L2 a1 sf2 v2_2 t1 = some (r, tZ) := by rw [hs2]; exact hf
      clear hs2
      unfold fm_laysSteps_L2 at hf
      refine lv_iload_n hx hb dX6_laysSteps_2 rfl (lv_at hl 2 rfl) ?_
      refine lv_aload_n hx hb dX6_laysSteps_3 rfl (lv_at hl 0 rfl) ?_
      obtain ⟨x2, t3, e4, hf⟩ := tw_bdE hf
      refine tw_cVi (As := []) (rest := [.int v2_2]) C hml hP hS (mm_links (l := l) (X := X) (D := D) (dA := dA) hD _ _ _ e4) (cwV 0 hts (lw_V q1368 q1370 qs43 q106 q1371) rfl rfl rfl hdX6_links ⟨Nat.le_of_ble_eq_true rfl, Nat.le_of_ble_eq_true rfl⟩) rfl hl.1 rfl (Nat.le_of_ble_eq_true rfl) dX6_laysSteps_4 (fun H locs hP hS => ?_)
      refine lv_icmp_ge (tgt := 23) hx hb dX6_laysSteps_7 (by decide) (fun hc => ?_) (fun hc => ?_)
      · have hf := tw_ifT hc hf
        refine lv_iconst (v := (1 : Int32)) hx hb dX6_laysSteps_23 (by decide) ?_
        refine lv_istore_n (lv' := [(2, .int (1 : Int32)), (0, .ref o), (1, .int a1)]) hx hb dX6_laysSteps_24 rfl hl (by decide) rfl (fun ls hl => ?_)
        have k25 : ∀ (n : Nat) (v25_2 : Int32) (t5 : TS) (H : Heap) (locs : List Loc) (ls : Array Slot), tw_P D dA o ad t5 H → va_S A s.heap H locs → lv_has ls 6 [(0, .ref o), (1, .int a1), (2, .int v25_2)] → tw_lp (fm_laysSteps_L25 a1) (fun _ _ => none) n v25_2 t5 = some (r, tZ) → W p l e (headSpec (ws_ yX6_laysSteps cX6_laysSteps 6 (none)) ({ frames := 2, cells := 0, slots := 0, locals := 32 })).room s m ([.ref o, .int a1] : List Value).toArray below meth c H locs 0 0 (MQ below (tw_Qv D dA o ad A tZ) ([.ref o, .int a1] : List Value).toArray s 0 0 A) (F0 m 25 ls []) := by
          intro n
          induction n with
          | zero => intro v25_2 t5 H locs ls hP hS hl hf; exact (tw_no hf).elim
          | succ n ih25 =>
            intro v25_2 t5 H locs ls hP hS hl hf
            obtain ⟨sf25, hs25⟩ : ∃ f, f = tw_lp (fm_laysSteps_L25 a1) (fun _ _ => none) n := ⟨_, rfl⟩
            rw [← hs25] at ih25
            have hf : fm_laysSteps_L25 a1 sf25 v25_2 t5 = some (r, tZ) := by rw [hs25]; exact hf
            clear hs25
            unfold fm_laysSteps_L25 at hf
            refine lv_iload_n hx hb dX6_laysSteps_25 rfl (lv_at hl 2 rfl) ?_
            refine lv_aload_n hx hb dX6_laysSteps_26 rfl (lv_at hl 0 rfl) ?_
            obtain ⟨x6, t7, e8, hf⟩ := tw_bdE hf
            refine tw_cVi (As := []) (rest := [.int v25_2]) C hml hP hS (mm_links (l := l) (X := X) (D := D) (dA := dA) hD _ _ _ e8) (cwV 0 hts (lw_V q1368 q1370 qs43 q106 q1371) rfl rfl rfl hdX6_links ⟨Nat.le_of_ble_eq_true rfl, Nat.le_of_ble_eq_true rfl⟩) rfl hl.1 rfl (Nat.le_of_ble_eq_true rfl) dX6_laysSteps_27 (fun H locs hP hS => ?_)
            refine lv_icmp_gt (tgt := 175) hx hb dX6_laysSteps_30 (by decide) (fun hc => ?_) (fun hc => ?_)
            · have hf := tw_ifT hc hf
              exact tw_iretv (tw_rtE hf).2 C hr hP hS hlk dX6_laysSteps_175
            · have hf := tw_ifF hc hf
              refine lv_iconst (v := (0 : Int32)) hx hb dX6_laysSteps_33 (by decide) ?_
              refine lv_istore_n (lv' := [(3, .int (0 : Int32)), (0, .ref o), (1, .int a1), (2, .int v25_2)]) hx hb dX6_laysSteps_34 rfl hl (by decide) rfl (fun ls hl => ?_)
              have k35 : ∀ (n : Nat) (v35_3 : Int32) (t9 : TS) (H : Heap) (locs : List Loc) (ls : Array Slot), tw_P D dA o ad t9 H → va_S A s.heap H locs → lv_has ls 6 [(0, .ref o), (1, .int a1), (2, .int v25_2), (3, .int v35_3)] → tw_lp (fm_laysSteps_L35 sf25 v25_2 a1) (fun _ _ => none) n v35_3 t9 = some (r, tZ) → W p l e (headSpec (ws_ yX6_laysSteps cX6_laysSteps 6 (none)) ({ frames := 2, cells := 0, slots := 0, locals := 32 })).room s m ([.ref o, .int a1] : List Value).toArray below meth c H locs 0 0 (MQ below (tw_Qv D dA o ad A tZ) ([.ref o, .int a1] : List Value).toArray s 0 0 A) (F0 m 35 ls []) := by
                intro n
                induction n with
                | zero => intro v35_3 t9 H locs ls hP hS hl hf; exact (tw_no hf).elim
                | succ n ih35 =>
                  intro v35_3 t9 H locs ls hP hS hl hf
                  obtain ⟨sf35, hs35⟩ : ∃ f, f = tw_lp (fm_laysSteps_L35 sf25 v25_2 a1) (fun _ _ => none) n := ⟨_, rfl⟩
                  rw [← hs35] at ih35
                  have hf : fm_laysSteps_L35 sf25 v25_2 a1 sf35 v35_3 t9 = some (r, tZ) := by rw [hs35]; exact hf
                  clear hs35
                  unfold fm_laysSteps_L35 at hf
                  refine lv_iload_n hx hb dX6_laysSteps_35 rfl (lv_at hl 3 rfl) ?_
                  refine lv_aload_n hx hb dX6_laysSteps_36 rfl (lv_at hl 0 rfl) ?_
                  obtain ⟨x10, t11, e12, hf⟩ := tw_bdE hf
                  refine tw_cVi (As := []) (rest := [.int v35_3]) C hml hP hS (mm_links (l := l) (X := X) (D := D) (dA := dA) hD _ _ _ e12) (cwV 0 hts (lw_V q1368 q1370 qs43 q106 q1371) rfl rfl rfl hdX6_links ⟨Nat.le_of_ble_eq_true rfl, Nat.le_of_ble_eq_true rfl⟩) rfl hl.1 rfl (Nat.le_of_ble_eq_true rfl) dX6_laysSteps_37 (fun H locs hP hS => ?_)
                  refine lv_icmp_ge (tgt := 169) hx hb dX6_laysSteps_40 (by decide) (fun hc => ?_) (fun hc => ?_)
                  · have hf := tw_ifT hc hf
                    refine lv_iinc (v := (v25_2 + (1 : Int32))) (lv' := [(2, .int (v25_2 + (1 : Int32))), (0, .ref o), (1, .int a1), (3, .int v35_3)]) hx hb dX6_laysSteps_169 hl (k := 2) rfl rfl (by decide) rfl (fun ls hl => ?_)
                    refine lv_goto (tgt := 25) hx hb dX6_laysSteps_172 (by decide) ?_
                    exact ih25 _ _ _ _ _ hP hS (lv_sub hl [1, 2, 0] rfl) hf
                  · have hf := tw_ifF hc hf
                    refine lv_aload_n hx hb dX6_laysSteps_43 rfl (lv_at hl 0 rfl) ?_
                    refine tw_aget (k := 40) C hP (by decide) (by decide) q1416 dX6_laysSteps_44 ?_
                    refine lv_iload_n hx hb dX6_laysSteps_47 rfl (lv_at hl 3 rfl) ?_
                    obtain ⟨x13, t14, e15, hf⟩ := tw_bdE hf
                    refine tw_iald C hP e15 dX6_laysSteps_48 (fun hP => ?_)
                    refine lv_iconst (v := (-1 : Int32)) hx hb dX6_laysSteps_49 (by decide) ?_
                    have k163 : ∀  (t16 : TS) (H : Heap) (locs : List Loc) (ls : Array Slot), tw_P D dA o ad t16 H → va_S A s.heap H locs → lv_has ls 6 [(0, .ref o), (1, .int a1), (2, .int v25_2), (3, .int v35_3)] → fm_laysSteps_J163 sf35 v35_3  t16 = some (r, tZ) → W p l e (headSpec (ws_ yX6_laysSteps cX6_laysSteps 6 (none)) ({ frames := 2, cells := 0, slots := 0, locals := 32 })).room s m ([.ref o, .int a1] : List Value).toArray below meth c H locs 0 0 (MQ below (tw_Qv D dA o ad A tZ) ([.ref o, .int a1] : List Value).toArray s 0 0 A) (F0 m 163 ls []) := by
                      intro t16 H locs ls hP hS hl hf
                      unfold fm_laysSteps_J163 at hf
                      refine lv_iinc (v := (v35_3 + (1 : Int32))) (lv' := [(3, .int (v35_3 + (1 : Int32))), (0, .ref o), (1, .int a1), (2, .int v25_2)]) hx hb dX6_laysSteps_163 hl (k := 3) rfl rfl (by decide) rfl (fun ls hl => ?_)
                      refine lv_goto (tgt := 35) hx hb dX6_laysSteps_166 (by decide) ?_
                      exact ih35 _ _ _ _ _ hP hS (lv_sub hl [1, 2, 3, 0] rfl) hf
                    refine lv_icmp_eq (tgt := 56) hx hb dX6_laysSteps_50 (by decide) (fun hc => ?_) (fun hc => ?_)
                    · have hf := tw_ifT hc hf
                      refine lv_iload_n hx hb dX6_laysSteps_56 rfl (lv_at hl 2 rfl) ?_
                      refine lv_iconst (v := (1 : Int32)) hx hb dX6_laysSteps_57 (by decide) ?_
                      have k80 : ∀ (w80_0 : Int32) (t17 : TS) (H : Heap) (locs : List Loc) (ls : Array Slot), tw_P D dA o ad t17 H → va_S A s.heap H locs → lv_has ls 6 [(0, .ref o), (1, .int a1), (2, .int v25_2), (3, .int v35_3)] → fm_laysSteps_J80 sf35 v35_3 v25_2 a1 w80_0 t17 = some (r, tZ) → W p l e (headSpec (ws_ yX6_laysSteps cX6_laysSteps 6 (none)) ({ frames := 2, cells := 0, slots := 0, locals := 32 })).room s m ([.ref o, .int a1] : List Value).toArray below meth c H locs 0 0 (MQ below (tw_Qv D dA o ad A tZ) ([.ref o, .int a1] : List Value).toArray s 0 0 A) (F0 m 80 ls [.int w80_0]) := by
                        intro w80_0 t17 H locs ls hP hS hl hf
                        unfold fm_laysSteps_J80 at hf
                        refine lv_istore (lv' := [(4, .int w80_0), (0, .ref o), (1, .int a1), (2, .int v25_2), (3, .int v35_3)]) hx hb dX6_laysSteps_80 hl (by decide) rfl (fun ls hl => ?_)
                        refine lv_iconst (v := (0 : Int32)) hx hb dX6_laysSteps_82 (by decide) ?_
                        refine lv_istore (lv' := [(5, .int (0 : Int32)), (4, .int w80_0), (0, .ref o), (1, .int a1), (2, .int v25_2), (3, .int v35_3)]) hx hb dX6_laysSteps_83 hl (by decide) rfl (fun ls hl => ?_)
                        have k85 : ∀ (n : Nat) (v85_4 : Int32) (v85_5 : Int32) (t18 : TS) (H : Heap) (locs : List Loc) (ls : Array Slot), tw_P D dA o ad t18 H → va_S A s.heap H locs → lv_has ls 6 [(0, .ref o), (1, .int a1), (2, .int v25_2), (3, .int v35_3), (4, .int v85_4), (5, .int v85_5)] → tw_lp (fm_laysSteps_L85 sf35 v35_3 v25_2 a1) (fun _ _ _ => none) n v85_4 v85_5 t18 = some (r, tZ) → W p l e (headSpec (ws_ yX6_laysSteps cX6_laysSteps 6 (none)) ({ frames := 2, cells := 0, slots := 0, locals := 32 })).room s m ([.ref o, .int a1] : List Value).toArray below meth c H locs 0 0 (MQ below (tw_Qv D dA o ad A tZ) ([.ref o, .int a1] : List Value).toArray s 0 0 A) (F0 m 85 ls []) := by
                          intro n
                          induction n with
                          | zero => intro v85_4 v85_5 t18 H locs ls hP hS hl hf; exact (tw_no hf).elim
                          | succ n ih85 =>
                            intro v85_4 v85_5 t18 H locs ls hP hS hl hf
                            obtain ⟨sf85, hs85⟩ : ∃ f, f = tw_lp (fm_laysSteps_L85 sf35 v35_3 v25_2 a1) (fun _ _ _ => none) n := ⟨_, rfl⟩
                            rw [← hs85] at ih85
                            have hf : fm_laysSteps_L85 sf35 v35_3 v25_2 a1 sf85 v85_4 v85_5 t18 = some (r, tZ) := by rw [hs85]; exact hf
                            clear hs85
                            unfold fm_laysSteps_L85 at hf
                            refine lv_iload hx hb dX6_laysSteps_85 (lv_at hl 5 rfl) ?_
                            refine lv_aload_n hx hb dX6_laysSteps_87 rfl (lv_at hl 0 rfl) ?_
                            obtain ⟨x19, t20, e21, hf⟩ := tw_bdE hf
                            refine tw_cVi (As := []) (rest := [.int v85_5]) C hml hP hS (mm_links (l := l) (X := X) (D := D) (dA := dA) hD _ _ _ e21) (cwV 0 hts (lw_V q1368 q1370 qs43 q106 q1371) rfl rfl rfl hdX6_links ⟨Nat.le_of_ble_eq_true rfl, Nat.le_of_ble_eq_true rfl⟩) rfl hl.1 rfl (Nat.le_of_ble_eq_true rfl) dX6_laysSteps_88 (fun H locs hP hS => ?_)
                            have k151 : ∀  (t22 : TS) (H : Heap) (locs : List Loc) (ls : Array Slot), tw_P D dA o ad t22 H → va_S A s.heap H locs → lv_has ls 6 [(0, .ref o), (1, .int a1), (2, .int v25_2), (3, .int v35_3), (4, .int v85_4)] → fm_laysSteps_J151 v85_4 sf35 v35_3 v25_2  t22 = some (r, tZ) → W p l e (headSpec (ws_ yX6_laysSteps cX6_laysSteps 6 (none)) ({ frames := 2, cells := 0, slots := 0, locals := 32 })).room s m ([.ref o, .int a1] : List Value).toArray below meth c H locs 0 0 (MQ below (tw_Qv D dA o ad A tZ) ([.ref o, .int a1] : List Value).toArray s 0 0 A) (F0 m 151 ls []) := by
                              intro t22 H locs ls hP hS hl hf
                              unfold fm_laysSteps_J151 at hf
                              refine lv_iload hx hb dX6_laysSteps_151 (lv_at hl 4 rfl) ?_
                              refine lv_if_eq (tgt := 163) hx hb dX6_laysSteps_153 (by decide) (fun hc => ?_) (fun hc => ?_)
                              · have hf := tw_ifT hc hf
                                exact k163 _ _ _ _ hP hS (lv_sub hl [0, 1, 2, 3] rfl) hf
                              · have hf := tw_ifF hc hf
                                refine lv_aload_n hx hb dX6_laysSteps_156 rfl (lv_at hl 0 rfl) ?_
                                refine tw_aget (k := 40) C hP (by decide) (by decide) q1416 dX6_laysSteps_157 ?_
                                refine lv_iload_n hx hb dX6_laysSteps_160 rfl (lv_at hl 3 rfl) ?_
                                refine lv_iload_n hx hb dX6_laysSteps_161 rfl (lv_at hl 2 rfl) ?_
                                obtain ⟨x23, t24, e25, hf⟩ := tw_bdE hf
                                refine tw_iast C hP hS e25 dX6_laysSteps_162 (fun H locs hP hS => ?_)
                                exact k163 _ _ _ _ hP hS (lv_sub hl [0, 1, 2, 3] rfl) hf
                            refine lv_icmp_ge (tgt := 151) hx hb dX6_laysSteps_91 (by decide) (fun hc => ?_) (fun hc => ?_)
                            · have hf := tw_ifT hc hf
                              exact k151 _ _ _ _ hP hS (lv_sub hl [0, 1, 2, 3, 4] rfl) hf
                            · have hf := tw_ifF hc hf
                              refine lv_iload_n hx hb dX6_laysSteps_94 rfl (lv_at hl 2 rfl) ?_
                              refine lv_iconst (v := (1 : Int32)) hx hb dX6_laysSteps_95 (by decide) ?_
                              refine lv_icmp_le (tgt := 151) hx hb dX6_laysSteps_96 (by decide) (fun hc => ?_) (fun hc => ?_)
                              · have hf := tw_ifT hc hf
                                exact k151 _ _ _ _ hP hS (lv_sub hl [0, 1, 2, 3, 4] rfl) hf
                              · have hf := tw_ifF hc hf
                                refine lv_iload hx hb dX6_laysSteps_99 (lv_at hl 4 rfl) ?_
                                have k143 : ∀ (w143_0 : Int32) (t26 : TS) (H : Heap) (locs : List Loc) (ls : Array Slot), tw_P D dA o ad t26 H → va_S A s.heap H locs → lv_has ls 6 [(0, .ref o), (1, .int a1), (2, .int v25_2), (3, .int v35_3), (5, .int v85_5)] → fm_laysSteps_J143 sf85 v85_5 w143_0 t26 = some (r, tZ) → W p l e (headSpec (ws_ yX6_laysSteps cX6_laysSteps 6 (none)) ({ frames := 2, cells := 0, slots := 0, locals := 32 })).room s m ([.ref o, .int a1] : List Value).toArray below meth c H locs 0 0 (MQ below (tw_Qv D dA o ad A tZ) ([.ref o, .int a1] : List Value).toArray s 0 0 A) (F0 m 143 ls [.int w143_0]) := by
                                  intro w143_0 t26 H locs ls hP hS hl hf
                                  unfold fm_laysSteps_J143 at hf
                                  refine lv_istore (lv' := [(4, .int w143_0), (0, .ref o), (1, .int a1), (2, .int v25_2), (3, .int v35_3), (5, .int v85_5)]) hx hb dX6_laysSteps_143 hl (by decide) rfl (fun ls hl => ?_)
                                  refine lv_iinc (v := (v85_5 + (1 : Int32))) (lv' := [(5, .int (v85_5 + (1 : Int32))), (4, .int w143_0), (0, .ref o), (1, .int a1), (2, .int v25_2), (3, .int v35_3)]) hx hb dX6_laysSteps_145 hl (k := 5) rfl rfl (by decide) rfl (fun ls hl => ?_)
                                  refine lv_goto (tgt := 85) hx hb dX6_laysSteps_148 (by decide) ?_
                                  exact ih85 _ _ _ _ _ _ hP hS (lv_sub hl [2, 3, 4, 5, 1, 0] rfl) hf
                                have k138 : ∀  (t27 : TS) (H : Heap) (locs : List Loc) (ls : Array Slot), tw_P D dA o ad t27 H → va_S A s.heap H locs → lv_has ls 6 [(0, .ref o), (1, .int a1), (2, .int v25_2), (3, .int v35_3), (5, .int v85_5)] → fm_laysSteps_J138 sf85 v85_5  t27 = some (r, tZ) → W p l e (headSpec (ws_ yX6_laysSteps cX6_laysSteps 6 (none)) ({ frames := 2, cells := 0, slots := 0, locals := 32 })).room s m ([.ref o, .int a1] : List Value).toArray below meth c H locs 0 0 (MQ below (tw_Qv D dA o ad A tZ) ([.ref o, .int a1] : List Value).toArray s 0 0 A) (F0 m 138 ls []) := by
                                  intro t27 H locs ls hP hS hl hf
                                  unfold fm_laysSteps_J138 at hf
                                  refine lv_iconst (v := (1 : Int32)) hx hb dX6_laysSteps_138 (by decide) ?_
                                  refine lv_goto (tgt := 143) hx hb dX6_laysSteps_139 (by decide) ?_
                                  exact k143 _ _ _ _ _ hP hS (lv_sub hl [0, 1, 2, 3, 4] rfl) hf
                                refine lv_if_ne (tgt := 138) hx hb dX6_laysSteps_101 (by decide) (fun hc => ?_) (fun hc => ?_)
                                · have hf := tw_ifF hc hf
                                  exact k138 _ _ _ _ hP hS (lv_sub hl [0, 1, 2, 3, 5] rfl) hf
                                · have hf := tw_ifT hc hf
                                  refine lv_aload_n hx hb dX6_laysSteps_104 rfl (lv_at hl 0 rfl) ?_
                                  refine tw_aget (k := 39) C hP (by decide) (by decide) q1415 dX6_laysSteps_105 ?_
                                  refine lv_iload_n hx hb dX6_laysSteps_108 rfl (lv_at hl 3 rfl) ?_
                                  obtain ⟨x28, t29, e30, hf⟩ := tw_bdE hf
                                  refine tw_iald C hP e30 dX6_laysSteps_109 (fun hP => ?_)
                                  refine lv_iload hx hb dX6_laysSteps_110 (lv_at hl 5 rfl) ?_
                                  refine lv_ishr hx hb dX6_laysSteps_112 ?_
                                  refine lv_iconst (v := (1 : Int32)) hx hb dX6_laysSteps_113 (by decide) ?_
                                  refine lv_iand hx hb dX6_laysSteps_114 ?_
                                  refine lv_iconst (v := (1 : Int32)) hx hb dX6_laysSteps_115 (by decide) ?_
                                  have k142 : ∀  (t31 : TS) (H : Heap) (locs : List Loc) (ls : Array Slot), tw_P D dA o ad t31 H → va_S A s.heap H locs → lv_has ls 6 [(0, .ref o), (1, .int a1), (2, .int v25_2), (3, .int v35_3), (5, .int v85_5)] → fm_laysSteps_J142 sf85 v85_5  t31 = some (r, tZ) → W p l e (headSpec (ws_ yX6_laysSteps cX6_laysSteps 6 (none)) ({ frames := 2, cells := 0, slots := 0, locals := 32 })).room s m ([.ref o, .int a1] : List Value).toArray below meth c H locs 0 0 (MQ below (tw_Qv D dA o ad A tZ) ([.ref o, .int a1] : List Value).toArray s 0 0 A) (F0 m 142 ls []) := by
                                    intro t31 H locs ls hP hS hl hf
                                    unfold fm_laysSteps_J142 at hf
                                    refine lv_iconst (v := (0 : Int32)) hx hb dX6_laysSteps_142 (by decide) ?_
                                    exact k143 _ _ _ _ _ hP hS (lv_sub hl [0, 1, 2, 3, 4] rfl) hf
                                  refine lv_icmp_ne (tgt := 142) hx hb dX6_laysSteps_116 (by decide) (fun hc => ?_) (fun hc => ?_)
                                  · have hf := tw_ifF hc hf
                                    exact k142 _ _ _ _ hP hS (lv_sub hl [0, 1, 2, 3, 5] rfl) hf
                                  · have hf := tw_ifT hc hf
                                    refine lv_iload hx hb dX6_laysSteps_119 (lv_at hl 5 rfl) ?_
                                    refine lv_iload_n hx hb dX6_laysSteps_121 rfl (lv_at hl 1 rfl) ?_
                                    refine lv_icmp_eq (tgt := 142) hx hb dX6_laysSteps_122 (by decide) (fun hc => ?_) (fun hc => ?_)
                                    · have hf := tw_ifT hc hf
                                      exact k142 _ _ _ _ hP hS (lv_sub hl [0, 1, 2, 3, 5] rfl) hf
                                    · have hf := tw_ifF hc hf
                                      refine lv_aload_n hx hb dX6_laysSteps_125 rfl (lv_at hl 0 rfl) ?_
                                      refine tw_aget (k := 40) C hP (by decide) (by decide) q1416 dX6_laysSteps_126 ?_
                                      refine lv_iload hx hb dX6_laysSteps_129 (lv_at hl 5 rfl) ?_
                                      obtain ⟨x32, t33, e34, hf⟩ := tw_bdE hf
                                      refine tw_iald C hP e34 dX6_laysSteps_131 (fun hP => ?_)
                                      refine lv_iload_n hx hb dX6_laysSteps_132 rfl (lv_at hl 2 rfl) ?_
                                      refine lv_iconst (v := (1 : Int32)) hx hb dX6_laysSteps_133 (by decide) ?_
                                      refine lv_isub hx hb dX6_laysSteps_134 ?_
                                      refine lv_icmp_ne (tgt := 142) hx hb dX6_laysSteps_135 (by decide) (fun hc => ?_) (fun hc => ?_)
                                      · have hf := tw_ifF hc hf
                                        exact k142 _ _ _ _ hP hS (lv_sub hl [0, 1, 2, 3, 5] rfl) hf
                                      · have hf := tw_ifT hc hf
                                        exact k138 _ _ _ _ hP hS (lv_sub hl [0, 1, 2, 3, 5] rfl) hf
                        exact k85 _ _ _ _ _ _ _ hP hS (lv_sub hl [2, 3, 4, 5, 1, 0] rfl) hf
                      have k79 : ∀  (t35 : TS) (H : Heap) (locs : List Loc) (ls : Array Slot), tw_P D dA o ad t35 H → va_S A s.heap H locs → lv_has ls 6 [(0, .ref o), (1, .int a1), (2, .int v25_2), (3, .int v35_3)] → fm_laysSteps_J79 sf35 v35_3 v25_2 a1  t35 = some (r, tZ) → W p l e (headSpec (ws_ yX6_laysSteps cX6_laysSteps 6 (none)) ({ frames := 2, cells := 0, slots := 0, locals := 32 })).room s m ([.ref o, .int a1] : List Value).toArray below meth c H locs 0 0 (MQ below (tw_Qv D dA o ad A tZ) ([.ref o, .int a1] : List Value).toArray s 0 0 A) (F0 m 79 ls []) := by
                        intro t35 H locs ls hP hS hl hf
                        unfold fm_laysSteps_J79 at hf
                        refine lv_iconst (v := (0 : Int32)) hx hb dX6_laysSteps_79 (by decide) ?_
                        exact k80 _ _ _ _ _ hP hS (lv_sub hl [0, 1, 2, 3] rfl) hf
                      refine lv_icmp_ne (tgt := 79) hx hb dX6_laysSteps_58 (by decide) (fun hc => ?_) (fun hc => ?_)
                      · have hf := tw_ifF hc hf
                        exact k79 _ _ _ _ hP hS (lv_sub hl [0, 1, 2, 3] rfl) hf
                      · have hf := tw_ifT hc hf
                        refine lv_aload_n hx hb dX6_laysSteps_61 rfl (lv_at hl 0 rfl) ?_
                        refine tw_aget (k := 39) C hP (by decide) (by decide) q1415 dX6_laysSteps_62 ?_
                        refine lv_iload_n hx hb dX6_laysSteps_65 rfl (lv_at hl 3 rfl) ?_
                        obtain ⟨x36, t37, e38, hf⟩ := tw_bdE hf
                        refine tw_iald C hP e38 dX6_laysSteps_66 (fun hP => ?_)
                        refine lv_iload_n hx hb dX6_laysSteps_67 rfl (lv_at hl 1 rfl) ?_
                        refine lv_ishr hx hb dX6_laysSteps_68 ?_
                        refine lv_iconst (v := (1 : Int32)) hx hb dX6_laysSteps_69 (by decide) ?_
                        refine lv_iand hx hb dX6_laysSteps_70 ?_
                        refine lv_iconst (v := (1 : Int32)) hx hb dX6_laysSteps_71 (by decide) ?_
                        refine lv_icmp_ne (tgt := 79) hx hb dX6_laysSteps_72 (by decide) (fun hc => ?_) (fun hc => ?_)
                        · have hf := tw_ifF hc hf
                          exact k79 _ _ _ _ hP hS (lv_sub hl [0, 1, 2, 3] rfl) hf
                        · have hf := tw_ifT hc hf
                          refine lv_iconst (v := (1 : Int32)) hx hb dX6_laysSteps_75 (by decide) ?_
                          refine lv_goto (tgt := 80) hx hb dX6_laysSteps_76 (by decide) ?_
                          exact k80 _ _ _ _ _ hP hS (lv_sub hl [0, 1, 2, 3] rfl) hf
                    · have hf := tw_ifF hc hf
                      refine lv_goto (tgt := 163) hx hb dX6_laysSteps_53 (by decide) ?_
                      exact k163 _ _ _ _ hP hS (lv_sub hl [0, 1, 2, 3] rfl) hf
              exact k35 _ _ _ _ _ _ hP hS (lv_sub hl [1, 2, 3, 0] rfl) hf
        exact k25 _ _ _ _ _ _ hP hS (lv_sub hl [1, 2, 0] rfl) hf
      · have hf := tw_ifF hc hf
        refine lv_aload_n hx hb dX6_laysSteps_10 rfl (lv_at hl 0 rfl) ?_
        refine tw_aget (k := 40) C hP (by decide) (by decide) q1416 dX6_laysSteps_11 ?_
        refine lv_iload_n hx hb dX6_laysSteps_14 rfl (lv_at hl 2 rfl) ?_
        refine lv_iconst (v := (-1 : Int32)) hx hb dX6_laysSteps_15 (by decide) ?_
        obtain ⟨x39, t40, e41, hf⟩ := tw_bdE hf
        refine tw_iast C hP hS e41 dX6_laysSteps_16 (fun H locs hP hS => ?_)
        refine lv_iinc (v := (v2_2 + (1 : Int32))) (lv' := [(2, .int (v2_2 + (1 : Int32))), (0, .ref o), (1, .int a1)]) hx hb dX6_laysSteps_17 hl (k := 2) rfl rfl (by decide) rfl (fun ls hl => ?_)
        refine lv_goto (tgt := 2) hx hb dX6_laysSteps_20 (by decide) ?_
        exact ih2 _ _ _ _ _ hP hS (lv_sub hl [1, 2, 0] rfl) hf
  exact k2 _ _ _ _ _ _ hP hS (lv_sub hl [1, 2, 0] rfl) hf