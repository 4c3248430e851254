def fm_back  : TM Int32 :=
  tw_bd (tw_pi 0 (0 : Int32)) fun _ =>
  tw_bd (tw_gi 32) fun x4 =>
  if x4 = 0 then (tw_rt (-1 : Int32))
  else (  tw_bd (fm_copies 29 (0 : Int32) 26 (0 : Int32)) fun _ =>
  tw_bd (tw_pi 31 (0 : Int32)) fun _ =>
   tw_bd (tw_ld 26 (336 : Int32)) fun x13 =>
  tw_rt x13)
theorem hdX6_back : yX6_back.cls = "LosslessFabricModel" ∧ (yX6_back.cls ≠ "java/lang/invoke/MethodHandle" ∧ yX6_back.cls ≠ "java/lang/invoke/VarHandle" ∧ (parseMethodDescriptor yX6_back.desc).map (fun d => d.parameters.length) = some 0) := by decide +kernel
set_option maxHeartbeats 4000000 in
theorem mm_back {l : Launch} {X : (Nat → Nat) × (Nat → Nat) × Nat} {D : va_G} {dA : Nat → ClassId} {o : Nat} {ad : Nat → Nat} {A : Nat → Prop} (hD : tw_D o ad A)  (t0 tZ : TS) (r : Int32) (hf : fm_back  t0 = some (r, tZ)) : Met l yX6_back (ws_ yX6_back cX6_back 1 (some .int)) ({ frames := 2, cells := 0, slots := 0, locals := 36 }) (va_Pc [.ref o] (tw_W X A D dA o ad t0)) (tw_Qi D dA o ad A r tZ) 0 0 A := by
  refine Met.ofW (cc := cX6_back) (maxL := 1) (ret := some .int) (by decide) rfl ?_
  intro p e s m args below meth c s₁ B hml hv
  obtain ⟨rfl, hP, hK, hX⟩ := hv
  have hx := B.exec
  have hb := B.bytes
  have hr := B.returns
  have hts := atoms_spec (ws := (ws_ yX6_back cX6_back 1 (some .int))) B.pre
  have hts : ∀ w ∈ lw_all, w.before _ s = true := fun w h => hts w (List.mem_cons_of_mem _ h)
  have hown : s.vm.findClass "LosslessFabricModel" = some m.cls := findClass_of_methodNamed B.named
  have hlk := B.notSynchronized
  have C : tw_C X p s m _ c cX6_back D dA o ad A := ⟨hx, hb, hts, hown, hK, hD, hX⟩
  have hS : va_S A s.heap s.heap [] := va_S.rf
  have hl := lv_entry ([.ref o]) (n := 1) (Nat.le_of_ble_eq_true rfl)
  rw [lg_entry_eq]
  generalize (lg_sl ([.ref o]) ++ List.replicate (1 - (lg_sl ([.ref o])).length) Slot.unset).toArray = ls at hl ⊢
  have hl : lv_has ls 1 [(0, .ref o)] := hl
  unfold fm_back at hf
  refine lv_aload_n hx hb dX6_back_0 rfl (lv_at hl 0 rfl) ?_
  refine lv_iconst (v := (0 : Int32)) hx hb dX6_back_1 (by decide) ?_
  obtain ⟨x1, t2, e3, hf⟩ := tw_bdE hf
  refine tw_iput (k := 0) C hP hS (by decide) rfl e3 q1376 dX6_back_2 (fun H locs hP hS => ?_)
  refine lv_aload_n hx hb dX6_back_5 rfl (lv_at hl 0 rfl) ?_
  obtain ⟨x4, t5, e6, hf⟩ := tw_bdE hf
  refine tw_iget (k := 32) C hP (by decide) (Or.inr rfl) e6 q1408 dX6_back_6 (fun hP => ?_)
  refine lv_if_ne (tgt := 14) hx hb dX6_back_9 (by decide) (fun hc => ?_) (fun hc => ?_)
  · have hf := tw_ifF hc hf
    refine lv_aload_n hx hb dX6_back_14 rfl (lv_at hl 0 rfl) ?_
    refine tw_aget (k := 29) C hP (by decide) (by decide) q1405 dX6_back_15 ?_
    refine lv_iconst (v := (0 : Int32)) hx hb dX6_back_18 (by decide) ?_
    refine lv_aload_n hx hb dX6_back_19 rfl (lv_at hl 0 rfl) ?_
    refine tw_aget (k := 26) C hP (by decide) (by decide) q1402 dX6_back_20 ?_
    refine lv_iconst (v := (0 : Int32)) hx hb dX6_back_23 (by decide) ?_
    obtain ⟨x7, t8, e9, hf⟩ := tw_bdE hf
    refine tw_cSv (As := [.ref (ad 29), .int (0 : Int32), .ref (ad 26), .int (0 : Int32)]) (rest := []) C hml hP hS (mm_copies (l := l) (X := X) (D := D) (dA := dA) hD _ _ _ _ _ _ _ e9) (va_cwS 4 hts (lw_S q1638 q1639 q106 q1640) rfl rfl rfl hdX6_copies ⟨Nat.le_of_ble_eq_true rfl, Nat.le_of_ble_eq_true rfl⟩) rfl hl.1 rfl (Nat.le_of_ble_eq_true rfl) dX6_back_24 (fun H locs hP hS => ?_)
    refine lv_aload_n hx hb dX6_back_27 rfl (lv_at hl 0 rfl) ?_
    refine lv_iconst (v := (0 : Int32)) hx hb dX6_back_28 (by decide) ?_
    obtain ⟨x10, t11, e12, hf⟩ := tw_bdE hf
    refine tw_iput (k := 31) C hP hS (by decide) rfl e12 q1407 dX6_back_29 (fun H locs hP hS => ?_)
    refine lv_aload_n hx hb dX6_back_32 rfl (lv_at hl 0 rfl) ?_
    refine tw_aget (k := 26) C hP (by decide) (by decide) q1402 dX6_back_33 ?_
    refine lv_sipush (v := (336 : Int32)) hx hb dX6_back_36 (by decide) ?_
    obtain ⟨x13, t14, e15, hf⟩ := tw_bdE hf
    refine tw_iald C hP e15 dX6_back_39 (fun hP => ?_)
    exact tw_ireti (tw_rtE hf).1 (tw_rtE hf).2 C hr hP hS hlk dX6_back_40
  · have hf := tw_ifT hc hf
    refine lv_iconst (v := (-1 : Int32)) hx hb dX6_back_12 (by decide) ?_
    exact tw_ireti (tw_rtE hf).1 (tw_rtE hf).2 C hr hP hS hlk dX6_back_13
def fm_remembers_J50   : TM Unit :=
    tw_bd (tw_gi 31) fun x5 =>
  tw_bd (fm_copies 26 (0 : Int32) 30 ((337 : Int32) * x5)) fun _ =>
  tw_bd (tw_gi 31) fun x11 =>
  tw_bd (tw_pi 31 (x11 + (1 : Int32))) fun _ =>
  tw_rt ()
def fm_remembers_L11  (sf11 : Int32 → TM Unit) (v11_1 : Int32) : TM Unit :=
  if (6403 : Int32) ≤ v11_1 then (tw_bd (tw_gi 31) fun x18 =>
  tw_bd (tw_pi 31 (x18 - (1 : Int32))) fun _ =>
 
  fm_remembers_J50)
  else (  tw_bd (tw_ld 30 ((337 : Int32) + v11_1)) fun x24 =>
  tw_bd (tw_st 30 v11_1 x24) fun _ =>
 
  sf11 (v11_1 + (1 : Int32)))
def fm_remembers  : TM Unit :=
  tw_bd (tw_gi 31) fun x1 =>
  if x1 = (20 : Int32) then (tw_lp (fm_remembers_L11) (fun _ _ => none) tw_fu (0 : Int32))
  else (fm_remembers_J50)
theorem hdX6_remembers : yX6_remembers.cls = "LosslessFabricModel" ∧ (yX6_remembers.cls ≠ "java/lang/invoke/MethodHandle" ∧ yX6_remembers.cls ≠ "java/lang/invoke/VarHandle" ∧ (parseMethodDescriptor yX6_remembers.desc).map (fun d => d.parameters.length) = some 0) := by decide +kernel
set_option maxHeartbeats 4000000 in
theorem mm_remembers {l : Launch} {X : (Nat → Nat) × (Nat → Nat) × Nat} {D : va_G} {dA : Nat → ClassId} {o : Nat} {ad : Nat → Nat} {A : Nat → Prop} (hD : tw_D o ad A)  (t0 tZ : TS) (r : Unit) (hf : fm_remembers  t0 = some (r, tZ)) : Met l yX6_remembers (ws_ yX6_remembers cX6_remembers 2 (none)) ({ frames := 2, cells := 0, slots := 0, locals := 36 }) (va_Pc [.ref o] (tw_W X A D dA o ad t0)) (tw_Qv D dA o ad A tZ) 0 0 A := by
  refine Met.ofW (cc := cX6_remembers) (maxL := 2) (ret := none) (by decide) rfl ?_
  intro p e s m args below meth c s₁ B hml hv
  obtain ⟨rfl, hP, hK, hX⟩ := hv
  have hx := B.exec
  have hb := B.bytes
  have hr := B.returns
  have hts := atoms_spec (ws := (ws_ yX6_remembers cX6_remembers 2 (none))) B.pre
  have hts : ∀ w ∈ lw_all, w.before _ s = true := fun w h => hts w (List.mem_cons_of_mem _ h)
  have hown : s.vm.findClass "LosslessFabricModel" = some m.cls := findClass_of_methodNamed B.named
  have hlk := B.notSynchronized
  have C : tw_C X p s m _ c cX6_remembers D dA o ad A := ⟨hx, hb, hts, hown, hK, hD, hX⟩
  have hS : va_S A s.heap s.heap [] := va_S.rf
  have hl := lv_entry ([.ref o]) (n := 2) (Nat.le_of_ble_eq_true rfl)
  rw [lg_entry_eq]
  generalize (lg_sl ([.ref o]) ++ List.replicate (2 - (lg_sl ([.ref o])).length) Slot.unset).toArray = ls at hl ⊢
  have hl : lv_has ls 2 [(0, .ref o)] := hl
  unfold fm_remembers at hf
  refine lv_aload_n hx hb dX6_remembers_0 rfl (lv_at hl 0 rfl) ?_
  obtain ⟨x1, t2, e3, hf⟩ := tw_bdE hf
  refine tw_iget (k := 31) C hP (by decide) (Or.inl rfl) e3 q1407 dX6_remembers_1 (fun hP => ?_)
  refine lv_bipush (v := (20 : Int32)) hx hb dX6_remembers_4 (by decide) ?_
  have k50 : ∀  (t4 : TS) (H : Heap) (locs : List Loc) (ls : Array Slot), tw_P D dA o ad t4 H → va_S A s.heap H locs → lv_has ls 2 [(0, .ref o)] → fm_remembers_J50  t4 = some (r, tZ) → W p l e (headSpec (ws_ yX6_remembers cX6_remembers 2 (none)) ({ frames := 2, cells := 0, slots := 0, locals := 36 })).room s m ([.ref o] : List Value).toArray below meth c H locs 0 0 (MQ below (tw_Qv D dA o ad A tZ) ([.ref o] : List Value).toArray s 0 0 A) (F0 m 50 ls []) := by
    intro t4 H locs ls hP hS hl hf
    unfold fm_remembers_J50 at hf
    refine lv_aload_n hx hb dX6_remembers_50 rfl (lv_at hl 0 rfl) ?_
    refine tw_aget (k := 26) C hP (by decide) (by decide) q1402 dX6_remembers_51 ?_
    refine lv_iconst (v := (0 : Int32)) hx hb dX6_remembers_54 (by decide) ?_
    refine lv_aload_n hx hb dX6_remembers_55 rfl (lv_at hl 0 rfl) ?_
    refine tw_aget (k := 30) C hP (by decide) (by decide) q1406 dX6_remembers_56 ?_
    refine lv_sipush (v := (337 : Int32)) hx hb dX6_remembers_59 (by decide) ?_
    refine lv_aload_n hx hb dX6_remembers_62 rfl (lv_at hl 0 rfl) ?_
    obtain ⟨x5, t6, e7, hf⟩ := tw_bdE hf
    refine tw_iget (k := 31) C hP (by decide) (Or.inl rfl) e7 q1407 dX6_remembers_63 (fun hP => ?_)
    refine lv_imul hx hb dX6_remembers_66 ?_
    obtain ⟨x8, t9, e10, hf⟩ := tw_bdE hf
    refine tw_cSv (As := [.ref (ad 26), .int (0 : Int32), .ref (ad 30), .int ((337 : Int32) * x5)]) (rest := []) C hml hP hS (mm_copies (l := l) (X := X) (D := D) (dA := dA) hD _ _ _ _ _ _ _ e10) (va_cwS 4 hts (lw_S q1638 q1639 q106 q1640) rfl rfl rfl hdX6_copies ⟨Nat.le_of_ble_eq_true rfl, Nat.le_of_ble_eq_true rfl⟩) rfl hl.1 rfl (Nat.le_of_ble_eq_true rfl) dX6_remembers_67 (fun H locs hP hS => ?_)
    refine lv_aload_n hx hb dX6_remembers_70 rfl (lv_at hl 0 rfl) ?_
    refine lv_dup hx hb dX6_remembers_71 rfl ?_
    obtain ⟨x11, t12, e13, hf⟩ := tw_bdE hf
    refine tw_iget (k := 31) C hP (by decide) (Or.inl rfl) e13 q1407 dX6_remembers_72 (fun hP => ?_)
    refine lv_iconst (v := (1 : Int32)) hx hb dX6_remembers_75 (by decide) ?_
    refine lv_iadd hx hb dX6_remembers_76 ?_
    obtain ⟨x14, t15, e16, hf⟩ := tw_bdE hf
    refine tw_iput (k := 31) C hP hS (by decide) rfl e16 q1407 dX6_remembers_77 (fun H locs hP hS => ?_)
    exact tw_iretv (tw_rtE hf).2 C hr hP hS hlk dX6_remembers_80
  refine lv_icmp_ne (tgt := 50) hx hb dX6_remembers_6 (by decide) (fun hc => ?_) (fun hc => ?_)
  · have hf := tw_ifF hc hf
    exact k50 _ _ _ _ hP hS (lv_sub hl [0] rfl) hf
  · have hf := tw_ifT hc hf
    refine lv_iconst (v := (0 : Int32)) hx hb dX6_remembers_9 (by decide) ?_
    refine lv_istore_n (lv' := [(1, .int (0 : Int32)), (0, .ref o)]) hx hb dX6_remembers_10 rfl hl (by decide) rfl (fun ls hl => ?_)
    have k11 : ∀ (n : Nat) (v11_1 : Int32) (t17 : TS) (H : Heap) (locs : List Loc) (ls : Array Slot), tw_P D dA o ad t17 H → va_S A s.heap H locs → lv_has ls 2 [(0, .ref o), (1, .int v11_1)] → tw_lp (fm_remembers_L11) (fun _ _ => none) n v11_1 t17 = some (r, tZ) → W p l e (headSpec (ws_ yX6_remembers cX6_remembers 2 (none)) ({ frames := 2, cells := 0, slots := 0, locals := 36 })).room s m ([.ref o] : List Value).toArray below meth c H locs 0 0 (MQ below (tw_Qv D dA o ad A tZ) ([.ref o] : List Value).toArray s 0 0 A) (F0 m 11 ls []) := by
      intro n
      induction n with
      | zero => intro v11_1 t17 H locs ls hP hS hl hf; exact (tw_no hf).elim
      | succ n ih11 =>
        intro v11_1 t17 H locs ls hP hS hl hf
        obtain ⟨sf11, hs11⟩ : ∃ f, f = tw_lp (fm_remembers_L11) (fun _ _ => none) n := ⟨_, rfl⟩
        rw [← hs11] at ih11
        have hf : fm_remembers_L11 sf11 v11_1 t17 = some (r, tZ) := by rw [hs11]; exact hf
        clear hs11
        unfold fm_remembers_L11 at hf
        refine lv_iload_n hx hb dX6_remembers_11 rfl (lv_at hl 1 rfl) ?_
        refine lv_sipush (v := (6403 : Int32)) hx hb dX6_remembers_12 (by decide) ?_
        refine lv_icmp_ge (tgt := 40) hx hb dX6_remembers_15 (by decide) (fun hc => ?_) (fun hc => ?_)
        · have hf := tw_ifT hc hf
          refine lv_aload_n hx hb dX6_remembers_40 rfl (lv_at hl 0 rfl) ?_
          refine lv_dup hx hb dX6_remembers_41 rfl ?_
          obtain ⟨x18, t19, e20, hf⟩ := tw_bdE hf
          refine tw_iget (k := 31) C hP (by decide) (Or.inl rfl) e20 q1407 dX6_remembers_42 (fun hP => ?_)
          refine lv_iconst (v := (1 : Int32)) hx hb dX6_remembers_45 (by decide) ?_
          refine lv_isub hx hb dX6_remembers_46 ?_
          obtain ⟨x21, t22, e23, hf⟩ := tw_bdE hf
          refine tw_iput (k := 31) C hP hS (by decide) rfl e23 q1407 dX6_remembers_47 (fun H locs hP hS => ?_)
          exact k50 _ _ _ _ hP hS (lv_sub hl [0] rfl) hf
        · have hf := tw_ifF hc hf
          refine lv_aload_n hx hb dX6_remembers_18 rfl (lv_at hl 0 rfl) ?_
          refine tw_aget (k := 30) C hP (by decide) (by decide) q1406 dX6_remembers_19 ?_
          refine lv_iload_n hx hb dX6_remembers_22 rfl (lv_at hl 1 rfl) ?_
          refine lv_aload_n hx hb dX6_remembers_23 rfl (lv_at hl 0 rfl) ?_
          refine tw_aget (k := 30) C hP (by decide) (by decide) q1406 dX6_remembers_24 ?_
          refine lv_sipush (v := (337 : Int32)) hx hb dX6_remembers_27 (by decide) ?_
          refine lv_iload_n hx hb dX6_remembers_30 rfl (lv_at hl 1 rfl) ?_
          refine lv_iadd hx hb dX6_remembers_31 ?_
          obtain ⟨x24, t25, e26, hf⟩ := tw_bdE hf
          refine tw_iald C hP e26 dX6_remembers_32 (fun hP => ?_)
          obtain ⟨x27, t28, e29, hf⟩ := tw_bdE hf
          refine tw_iast C hP hS e29 dX6_remembers_33 (fun H locs hP hS => ?_)
          refine lv_iinc (v := (v11_1 + (1 : Int32))) (lv' := [(1, .int (v11_1 + (1 : Int32))), (0, .ref o)]) hx hb dX6_remembers_34 hl (k := 1) rfl rfl (by decide) rfl (fun ls hl => ?_)
          refine lv_goto (tgt := 11) hx hb dX6_remembers_37 (by decide) ?_
          exact ih11 _ _ _ _ _ hP hS (lv_sub hl [1, 0] rfl) hf
    exact k11 _ _ _ _ _ _ hP hS (lv_sub hl [1, 0] rfl) hf
def fm_queueOf_L4 (a1 : Int32) (sf4 : Int32 → Int32 → TM Int32) (v4_2 : Int32) (v4_3 : Int32) : TM Int32 :=
  if (8 : Int32) ≤ v4_3 then (tw_rt v4_2)
  else ( tw_bd (tw_ld 26 ((((24 : Int32) * a1) + (15 : Int32)) + v4_3)) fun x2 =>
 
  sf4 (v4_2 + x2) (v4_3 + (1 : Int32)))
def fm_queueOf (a1 : Int32) : TM Int32 :=
  tw_lp (fm_queueOf_L4 a1) (fun _ _ _ => none) tw_fu (0 : Int32) (0 : Int32)
theorem hdX6_queueOf : yX6_queueOf.cls = "LosslessFabricModel" ∧ (yX6_queueOf.cls ≠ "java/lang/invoke/MethodHandle" ∧ yX6_queueOf.cls ≠ "java/lang/invoke/VarHandle" ∧ (parseMethodDescriptor yX6_queueOf.desc).map (fun d => d.parameters.length) = some 1) := by decide +kernel
set_option maxHeartbeats 4000000 in
theorem mm_queueOf {l : Launch} {X : (Nat → Nat) × (Nat → Nat) × Nat} {D : va_G} {dA : Nat → ClassId} {o : Nat} {ad : Nat → Nat} {A : Nat → Prop} (hD : tw_D o ad A) (a1 : Int32) (t0 tZ : TS) (r : Int32) (hf : fm_queueOf a1 t0 = some (r, tZ)) : Met l yX6_queueOf (ws_ yX6_queueOf cX6_queueOf 4 (some .int)) ({ frames := 1, cells := 0, slots := 0, locals := 12 }) (va_Pc [.ref o, .int a1] (tw_W X A D dA o ad t0)) (tw_Qi D dA o ad A r tZ) 0 0 A := by
  refine Met.ofW (cc := cX6_queueOf) (maxL := 4) (ret := some .int) (by decide) rfl ?_
  intro p e s m args below meth c s₁ B hml hv
  obtain ⟨rfl, hP, hK, hX⟩ := hv
  have hx := B.exec
  have hb := B.bytes
  have hr := B.returns
  have hts := atoms_spec (ws := (ws_ yX6_queueOf cX6_queueOf 4 (some .int))) B.pre
  have hts : ∀ w ∈ lw_all, w.before _ s = true := fun w h => hts w (List.mem_cons_of_mem _ h)
  have hown : s.vm.findClass "LosslessFabricModel" = some m.cls := findClass_of_methodNamed B.named
  have hlk := B.notSynchronized
  have C : tw_C X p s m _ c cX6_queueOf D dA o ad A := ⟨hx, hb, hts, hown, hK, hD, hX⟩
  have hS : va_S A s.heap s.heap [] := va_S.rf
  have hl := lv_entry ([.ref o, .int a1]) (n := 4) (Nat.le_of_ble_eq_true rfl)
  rw [lg_entry_eq]
  generalize (lg_sl ([.ref o, .int a1]) ++ List.replicate (4 - (lg_sl ([.ref o, .int a1])).length) Slot.unset).toArray = ls at hl ⊢
  have hl : lv_has ls 4 [(0, .ref o), (1, .int a1)] := hl
  unfold fm_queueOf at hf
  refine lv_iconst (v := (0 : Int32)) hx hb dX6_queueOf_0 (by decide) ?_
  refine lv_istore_n (lv' := [(2, .int (0 : Int32)), (0, .ref o), (1, .int a1)]) hx hb dX6_queueOf_1 rfl hl (by decide) rfl (fun ls hl => ?_)
  refine lv_iconst (v := (0 : Int32)) hx hb dX6_queueOf_2 (by decide) ?_
  refine lv_istore_n (lv' := [(3, .int (0 : Int32)), (2, .int (0 : Int32)), (0, .ref o), (1, .int a1)]) hx hb dX6_queueOf_3 rfl hl (by decide) rfl (fun ls hl => ?_)
  have k4 : ∀ (n : Nat) (v4_2 : Int32) (v4_3 : Int32) (t1 : TS) (H : Heap) (locs : List Loc) (ls : Array Slot), tw_P D dA o ad t1 H → va_S A s.heap H locs → lv_has ls 4 [(0, .ref o), (1, .int a1), (2, .int v4_2), (3, .int v4_3)] → tw_lp (fm_queueOf_L4 a1) (fun _ _ _ => none) n v4_2 v4_3 t1 = some (r, tZ) → W p l e (headSpec (ws_ yX6_queueOf cX6_queueOf 4 (some .int)) ({ frames := 1, cells := 0, slots := 0, locals := 12 })).room s m ([.ref o, .int a1] : List Value).toArray below meth c H locs 0 0 (MQ below (tw_Qi D dA o ad A r tZ) ([.ref o, .int a1] : List Value).toArray s 0 0 A) (F0 m 4 ls []) := by
    intro n
    induction n with
    | zero => intro v4_2 v4_3 t1 H locs ls hP hS hl hf; exact (tw_no hf).elim
    | succ n ih4 =>
      intro v4_2 v4_3 t1 H locs ls hP hS hl hf
      obtain ⟨sf4, hs4⟩ : ∃ f, f = tw_lp (fm_queueOf_L4 a1) (fun _ _ _ => none) n := ⟨_, rfl⟩
      rw [← hs4] at ih4
      have hf : fm_queueOf_L4 a1 sf4 v4_2 v4_3 t1 = some (r, tZ) := by rw [hs4]; exact hf
      clear hs4
      unfold fm_queueOf_L4 at hf
      refine lv_iload_n hx hb dX6_queueOf_4 rfl (lv_at hl 3 rfl) ?_
      refine lv_bipush (v := (8 : Int32)) hx hb dX6_queueOf_5 (by decide) ?_
      refine lv_icmp_ge (tgt := 33) hx hb dX6_queueOf_7 (by decide) (fun hc => ?_) (fun hc => ?_)
      · have hf := tw_ifT hc hf
        refine lv_iload_n hx hb dX6_queueOf_33 rfl (lv_at hl 2 rfl) ?_
        exact tw_ireti (tw_rtE hf).1 (tw_rtE hf).2 C hr hP hS hlk dX6_queueOf_34
      · have hf := tw_ifF hc hf
        refine lv_iload_n hx hb dX6_queueOf_10 rfl (lv_at hl 2 rfl) ?_
        refine lv_aload_n hx hb dX6_queueOf_11 rfl (lv_at hl 0 rfl) ?_
        refine tw_aget (k := 26) C hP (by decide) (by decide) q1402 dX6_queueOf_12 ?_
        refine lv_bipush (v := (24 : Int32)) hx hb dX6_queueOf_15 (by decide) ?_
        refine lv_iload_n hx hb dX6_queueOf_17 rfl (lv_at hl 1 rfl) ?_
        refine lv_imul hx hb dX6_queueOf_18 ?_
        refine lv_bipush (v := (15 : Int32)) hx hb dX6_queueOf_19 (by decide) ?_
        refine lv_iadd hx hb dX6_queueOf_21 ?_
        refine lv_iload_n hx hb dX6_queueOf_22 rfl (lv_at hl 3 rfl) ?_
        refine lv_iadd hx hb dX6_queueOf_23 ?_
        obtain ⟨x2, t3, e4, hf⟩ := tw_bdE hf
        refine tw_iald C hP e4 dX6_queueOf_24 (fun hP => ?_)
        refine lv_iadd hx hb dX6_queueOf_25 ?_
        refine lv_istore_n (lv' := [(2, .int (v4_2 + x2)), (0, .ref o), (1, .int a1), (3, .int v4_3)]) hx hb dX6_queueOf_26 rfl hl (by decide) rfl (fun ls hl => ?_)
        refine lv_iinc (v := (v4_3 + (1 : Int32))) (lv' := [(3, .int (v4_3 + (1 : Int32))), (2, .int (v4_2 + x2)), (0, .ref o), (1, .int a1)]) hx hb dX6_queueOf_27 hl (k := 3) rfl rfl (by decide) rfl (fun ls hl => ?_)
        refine lv_goto (tgt := 4) hx hb dX6_queueOf_30 (by decide) ?_
        exact ih4 _ _ _ _ _ _ hP hS (lv_sub hl [2, 3, 1, 0] rfl) hf
  exact k4 _ _ _ _ _ _ _ hP hS (lv_sub hl [2, 3, 1, 0] rfl) hf
def fm_asks_J115 (a1 : Int32) (w115_0 : Int32) : TM Unit :=
  tw_bd (tw_st 26 (((24 : Int32) * a1) + (10 : Int32)) w115_0) fun _ =>
  tw_rt ()
def fm_asks_L22 (a1 : Int32) (x1 : Int32) (x4 : Int32) (sf22 : Int32 → TM Unit) (v22_4 : Int32) : TM Unit :=
  if v22_4 ≤ 0 then (  tw_bd (tw_ld 26 (((24 : Int32) * a1) + (0 : Int32))) fun x8 =>
  if x1 < x8 then ( tw_bd (tw_ld 26 (((24 : Int32) * a1) + (1 : Int32))) fun x15 =>
  if x15 < x1 then (fm_asks_J115 a1 x4)
  else (fm_asks_J115 a1 (0 : Int32)))
  else (fm_asks_J115 a1 (1 : Int32)))
  else (  tw_bd (tw_ld 26 (((((24 : Int32) * a1) + (10 : Int32)) + v22_4) - (1 : Int32))) fun x18 =>
  tw_bd (tw_st 26 ((((24 : Int32) * a1) + (10 : Int32)) + v22_4) x18) fun _ =>
 
  sf22 (v22_4 + (-1 : Int32)))
def fm_asks (a1 : Int32) : TM Unit :=
  tw_bd (fm_queueOf a1) fun x1 =>
   tw_bd (tw_ld 26 (((24 : Int32) * a1) + (10 : Int32))) fun x4 =>
 
  tw_lp (fm_asks_L22 a1 x1 x4) (fun _ _ => none) tw_fu (4 : Int32)
theorem hdX6_asks : yX6_asks.cls = "LosslessFabricModel" ∧ (yX6_asks.cls ≠ "java/lang/invoke/MethodHandle" ∧ yX6_asks.cls ≠ "java/lang/invoke/VarHandle" ∧ (parseMethodDescriptor yX6_asks.desc).map (fun d => d.parameters.length) = some 1) := by decide +kernel
set_option maxHeartbeats 4000000 in
theorem mm_asks {l : Launch} {X : (Nat → Nat) × (Nat → Nat) × Nat} {D : va_G} {dA : Nat → ClassId} {o : Nat} {ad : Nat → Nat} {A : Nat → Prop} (hD : tw_D o ad A) (a1 : Int32) (t0 tZ : TS) (r : Unit) (hf : fm_asks a1 t0 = some (r, tZ)) : Met l yX6_asks (ws_ yX6_asks cX6_asks 5 (none)) ({ frames := 2, cells := 0, slots := 0, locals := 35 }) (va_Pc [.ref o, .int a1] (tw_W X A D dA o ad t0)) (tw_Qv D dA o ad A tZ) 0 0 A := by
  refine Met.ofW (cc := cX6_asks) (maxL := 5) (ret := none) (by decide) rfl ?_
  intro p e s m args below meth c s₁ B hml hv
  obtain ⟨rfl, hP, hK, hX⟩ := hv
  have hx := B.exec
  have hb := B.bytes
  have hr := B.returns
  have hts := atoms_spec (ws := (ws_ yX6_asks cX6_asks 5 (none))) B.pre
  have hts : ∀ w ∈ lw_all, w.before _ s = true := fun w h => hts w (List.mem_cons_of_mem _ h)
  have hown : s.vm.findClass "LosslessFabricModel" = some m.cls := findClass_of_methodNamed B.named
  have hlk := B.notSynchronized
  have C : tw_C X p s m _ c cX6_asks D dA o ad A := ⟨hx, hb, hts, hown, hK, hD, hX⟩
  have hS : va_S A s.heap s.heap [] := va_S.rf
  have hl := lv_entry ([.ref o, .int a1]) (n := 5) (Nat.le_of_ble_eq_true rfl)
  rw [lg_entry_eq]
  generalize (lg_sl ([.ref o, .int a1]) ++ List.replicate (5 - (lg_sl ([.ref o, .int a1])).length) Slot.unset).toArray = ls at hl ⊢
  have hl : lv_has ls 5 [(0, .ref o), (1, .int a1)] := hl
  unfold fm_asks at hf
  refine lv_aload_n hx hb dX6_asks_0 rfl (lv_at hl 0 rfl) ?_
  refine lv_iload_n hx hb dX6_asks_1 rfl (lv_at hl 1 rfl) ?_
  obtain ⟨x1, t2, e3, hf⟩ := tw_bdE hf
  refine tw_cVi (As := [.int a1]) (rest := []) C hml hP hS (mm_queueOf (l := l) (X := X) (D := D) (dA := dA) hD _ _ _ _ e3) (cwV 1 hts (lw_V q1691 q1693 qs72 q106 q1694) rfl rfl rfl hdX6_queueOf ⟨Nat.le_of_ble_eq_true rfl, Nat.le_of_ble_eq_true rfl⟩) rfl hl.1 rfl (Nat.le_of_ble_eq_true rfl) dX6_asks_2 (fun H locs hP hS => ?_)
  refine lv_istore_n (lv' := [(2, .int x1), (0, .ref o), (1, .int a1)]) hx hb dX6_asks_5 rfl hl (by decide) rfl (fun ls hl => ?_)
  refine lv_aload_n hx hb dX6_asks_6 rfl (lv_at hl 1 rfl) ?_
  refine tw_aget (k := 26) C hP (by decide) (by decide) q1402 dX6_asks_7 ?_
  refine lv_bipush (v := (24 : Int32)) hx hb dX6_asks_10 (by decide) ?_
  refine lv_iload_n hx hb dX6_asks_12 rfl (lv_at hl 2 rfl) ?_
  refine lv_imul hx hb dX6_asks_13 ?_
  refine lv_bipush (v := (10 : Int32)) hx hb dX6_asks_14 (by decide) ?_
  refine lv_iadd hx hb dX6_asks_16 ?_
  obtain ⟨x4, t5, e6, hf⟩ := tw_bdE hf
  refine tw_iald C hP e6 dX6_asks_17 (fun hP => ?_)
  refine lv_istore_n (lv' := [(3, .int x4), (2, .int x1), (0, .ref o), (1, .int a1)]) hx hb dX6_asks_18 rfl hl (by decide) rfl (fun ls hl => ?_)
  refine lv_iconst (v := (4 : Int32)) hx hb dX6_asks_19 (by decide) ?_
  refine lv_istore (lv' := [(4, .int (4 : Int32)), (3, .int x4), (2, .int x1), (0, .ref o), (1, .int a1)]) hx hb dX6_asks_20 hl (by decide) rfl (fun ls hl => ?_)
  have k22 : ∀ (n : Nat) (v22_4 : Int32) (t7 : TS) (H : Heap) (locs : List Loc) (ls : Array Slot), tw_P D dA o ad t7 H → va_S A s.heap H locs → lv_has ls 5 [(0, .ref o), (1, .int a1), (2, .int x1), (3, .int x4), (4, .int v22_4)] → tw_lp (fm_asks_L22 a1 x1 x4) (fun _ _ => none) n v22_4 t7 = some (r, tZ) → W p l e (headSpec (ws_ yX6_asks cX6_asks 5 (none)) ({ frames := 2, cells := 0, slots := 0, locals := 35 })).room s m ([.ref o, .int a1] : List Value).toArray below meth c H locs 0 0 (MQ below (tw_Qv D dA o ad A tZ) ([.ref o, .int a1] : List Value).toArray s 0 0 A) (F0 m 22 ls []) := by
    intro n
    induction n with
    | zero => intro v22_4 t7 H locs ls hP hS hl hf; exact (tw_no hf).elim
    | succ n ih22 =>
      intro v22_4 t7 H locs ls hP hS hl hf
      obtain ⟨sf22, hs22⟩ : ∃ f, f = tw_lp (fm_asks_L22 a1 x1 x4) (fun _ _ => none) n := ⟨_, rfl⟩
      rw [← hs22] at ih22
      have hf : fm_asks_L22 a1 x1 x4 sf22 v22_4 t7 = some (r, tZ) := by rw [hs22]; exact hf
      clear hs22
      unfold fm_asks_L22 at hf
      refine lv_iload hx hb dX6_asks_22 (lv_at hl 4 rfl) ?_
      refine lv_if_le (tgt := 65) hx hb dX6_asks_24 (by decide) (fun hc => ?_) (fun hc => ?_)
      · have hf := tw_ifT hc hf
        refine lv_aload_n hx hb dX6_asks_65 rfl (lv_at hl 0 rfl) ?_
        refine tw_aget (k := 26) C hP (by decide) (by decide) q1402 dX6_asks_66 ?_
        refine lv_bipush (v := (24 : Int32)) hx hb dX6_asks_69 (by decide) ?_
        refine lv_iload_n hx hb dX6_asks_71 rfl (lv_at hl 1 rfl) ?_
        refine lv_imul hx hb dX6_asks_72 ?_
        refine lv_bipush (v := (10 : Int32)) hx hb dX6_asks_73 (by decide) ?_
        refine lv_iadd hx hb dX6_asks_75 ?_
        refine lv_iload_n hx hb dX6_asks_76 rfl (lv_at hl 2 rfl) ?_
        refine lv_aload_n hx hb dX6_asks_77 rfl (lv_at hl 0 rfl) ?_
        refine tw_aget (k := 26) C hP (by decide) (by decide) q1402 dX6_asks_78 ?_
        refine lv_bipush (v := (24 : Int32)) hx hb dX6_asks_81 (by decide) ?_
        refine lv_iload_n hx hb dX6_asks_83 rfl (lv_at hl 1 rfl) ?_
        refine lv_imul hx hb dX6_asks_84 ?_
        refine lv_iconst (v := (0 : Int32)) hx hb dX6_asks_85 (by decide) ?_
        refine lv_iadd hx hb dX6_asks_86 ?_
        obtain ⟨x8, t9, e10, hf⟩ := tw_bdE hf
        refine tw_iald C hP e10 dX6_asks_87 (fun hP => ?_)
        have k115 : ∀ (w115_0 : Int32) (t11 : TS) (H : Heap) (locs : List Loc) (ls : Array Slot), tw_P D dA o ad t11 H → va_S A s.heap H locs → lv_has ls 5 [] → fm_asks_J115 a1 w115_0 t11 = some (r, tZ) → W p l e (headSpec (ws_ yX6_asks cX6_asks 5 (none)) ({ frames := 2, cells := 0, slots := 0, locals := 35 })).room s m ([.ref o, .int a1] : List Value).toArray below meth c H locs 0 0 (MQ below (tw_Qv D dA o ad A tZ) ([.ref o, .int a1] : List Value).toArray s 0 0 A) (F0 m 115 ls [.int w115_0, .int (((24 : Int32) * a1) + (10 : Int32)), .ref (ad 26)]) := by
          intro w115_0 t11 H locs ls hP hS hl hf
          unfold fm_asks_J115 at hf
          obtain ⟨x12, t13, e14, hf⟩ := tw_bdE hf
          refine tw_iast C hP hS e14 dX6_asks_115 (fun H locs hP hS => ?_)
          exact tw_iretv (tw_rtE hf).2 C hr hP hS hlk dX6_asks_116
        refine lv_icmp_lt (tgt := 95) hx hb dX6_asks_88 (by decide) (fun hc => ?_) (fun hc => ?_)
        · have hf := tw_ifT hc hf
          refine lv_iload_n hx hb dX6_asks_95 rfl (lv_at hl 2 rfl) ?_
          refine lv_aload_n hx hb dX6_asks_96 rfl (lv_at hl 0 rfl) ?_
          refine tw_aget (k := 26) C hP (by decide) (by decide) q1402 dX6_asks_97 ?_
          refine lv_bipush (v := (24 : Int32)) hx hb dX6_asks_100 (by decide) ?_
          refine lv_iload_n hx hb dX6_asks_102 rfl (lv_at hl 1 rfl) ?_
          refine lv_imul hx hb dX6_asks_103 ?_
          refine lv_iconst (v := (1 : Int32)) hx hb dX6_asks_104 (by decide) ?_
          refine lv_iadd hx hb dX6_asks_105 ?_
          obtain ⟨x15, t16, e17, hf⟩ := tw_bdE hf
          refine tw_iald C hP e17 dX6_asks_106 (fun hP => ?_)
          refine lv_icmp_gt (tgt := 114) hx hb dX6_asks_107 (by decide) (fun hc => ?_) (fun hc => ?_)
          · have hf := tw_ifT hc hf
            refine lv_iload_n hx hb dX6_asks_114 rfl (lv_at hl 3 rfl) ?_
            exact k115 _ _ _ _ _ hP hS (lv_sub hl [] rfl) hf
          · have hf := tw_ifF hc hf
            refine lv_iconst (v := (0 : Int32)) hx hb dX6_asks_110 (by decide) ?_
            refine lv_goto (tgt := 115) hx hb dX6_asks_111 (by decide) ?_
            exact k115 _ _ _ _ _ hP hS (lv_sub hl [] rfl) hf
        · have hf := tw_ifF hc hf
          refine lv_iconst (v := (1 : Int32)) hx hb dX6_asks_91 (by decide) ?_
          refine lv_goto (tgt := 115) hx hb dX6_asks_92 (by decide) ?_
          exact k115 _ _ _ _ _ hP hS (lv_sub hl [] rfl) hf
      · have hf := tw_ifF hc hf
        refine lv_aload_n hx hb dX6_asks_27 rfl (lv_at hl 0 rfl) ?_
        refine tw_aget (k := 26) C hP (by decide) (by decide) q1402 dX6_asks_28 ?_
        refine lv_bipush (v := (24 : Int32)) hx hb dX6_asks_31 (by decide) ?_
        refine lv_iload_n hx hb dX6_asks_33 rfl (lv_at hl 1 rfl) ?_
        refine lv_imul hx hb dX6_asks_34 ?_
        refine lv_bipush (v := (10 : Int32)) hx hb dX6_asks_35 (by decide) ?_
        refine lv_iadd hx hb dX6_asks_37 ?_
        refine lv_iload hx hb dX6_asks_38 (lv_at hl 4 rfl) ?_
        refine lv_iadd hx hb dX6_asks_40 ?_
        refine lv_aload_n hx hb dX6_asks_41 rfl (lv_at hl 0 rfl) ?_
        refine tw_aget (k := 26) C hP (by decide) (by decide) q1402 dX6_asks_42 ?_
        refine lv_bipush (v := (24 : Int32)) hx hb dX6_asks_45 (by decide) ?_
        refine lv_iload_n hx hb dX6_asks_47 rfl (lv_at hl 1 rfl) ?_
        refine lv_imul hx hb dX6_asks_48 ?_
        refine lv_bipush (v := (10 : Int32)) hx hb dX6_asks_49 (by decide) ?_
        refine lv_iadd hx hb dX6_asks_51 ?_
        refine lv_iload hx hb dX6_asks_52 (lv_at hl 4 rfl) ?_
        refine lv_iadd hx hb dX6_asks_54 ?_
        refine lv_iconst (v := (1 : Int32)) hx hb dX6_asks_55 (by decide) ?_
        refine lv_isub hx hb dX6_asks_56 ?_
        obtain ⟨x18, t19, e20, hf⟩ := tw_bdE hf
        refine tw_iald C hP e20 dX6_asks_57 (fun hP => ?_)
        obtain ⟨x21, t22, e23, hf⟩ := tw_bdE hf
        refine tw_iast C hP hS e23 dX6_asks_58 (fun H locs hP hS => ?_)
        refine lv_iinc (v := (v22_4 + (-1 : Int32))) (lv' := [(4, .int (v22_4 + (-1 : Int32))), (0, .ref o), (1, .int a1), (2, .int x1), (3, .int x4)]) hx hb dX6_asks_59 hl (k := 4) rfl rfl (by decide) rfl (fun ls hl => ?_)
        refine lv_goto (tgt := 22) hx hb dX6_asks_62 (by decide) ?_
        exact ih22 _ _ _ _ _ hP hS (lv_sub hl [1, 2, 3, 4, 0] rfl) hf
  exact k22 _ _ _ _ _ _ hP hS (lv_sub hl [3, 4, 2, 1, 0] rfl) hf
def fm_carriesOf_J115 (a1 : Int32) (v35_2 : Int32)  : TM Unit :=
    tw_bd (tw_ld 6 a1) fun x13 =>
  tw_bd (tw_st 26 (((24 : Int32) * a1) + (7 : Int32)) (x13 - v35_2)) fun _ =>
  tw_rt ()
def fm_carriesOf_J112 (sf35 : Int32 → Int32 → TM Unit) (v48_2 : Int32) (v48_3 : Int32)  : TM Unit :=
  sf35 v48_2 v48_3
def fm_carriesOf_J106 (sf48 : Int32 → Int32 → Int32 → TM Unit) (v48_4 : Int32) (v106_2 : Int32) (v106_3 : Int32) : TM Unit :=
  sf48 v106_2 v106_3 (v48_4 + (1 : Int32))
def fm_carriesOf_L48 (sf35 : Int32 → Int32 → TM Unit) (a1 : Int32) (sf48 : Int32 → Int32 → Int32 → TM Unit) (v48_2 : Int32) (v48_3 : Int32) (v48_4 : Int32) : TM Unit :=
  tw_bd (fm_flows) fun x20 =>
  if x20 ≤ v48_4 then (fm_carriesOf_J112 sf35 v48_2 v48_3)
  else (if v48_2 ≤ 0 then (fm_carriesOf_J112 sf35 v48_2 v48_3)
  else ( tw_bd (tw_ld 34 (((8 : Int32) * a1) + v48_4)) fun x24 =>
   tw_bd (tw_ld 33 (((8 : Int32) * a1) + v48_4)) fun x27 =>
  if x24 = x27 then (fm_carriesOf_J106 sf48 v48_4 v48_2 v48_3)
  else ( tw_bd (tw_ld 34 (((8 : Int32) * a1) + v48_4)) fun x31 =>
  tw_bd (tw_st 34 (((8 : Int32) * a1) + v48_4) (x31 + (1 : Int32))) fun _ =>
 
  fm_carriesOf_J106 sf48 v48_4 (v48_2 + (-1 : Int32)) (1 : Int32))))
def fm_carriesOf_L35 (a1 : Int32) (sf35 : Int32 → Int32 → TM Unit) (v35_2 : Int32) (v35_3 : Int32) : TM Unit :=
  if v35_3 = 0 then (fm_carriesOf_J115 a1 v35_2)
  else (if v35_2 ≤ 0 then (fm_carriesOf_J115 a1 v35_2)
  else (tw_lp (fm_carriesOf_L48 sf35 a1) (fun _ _ _ _ => none) tw_fu v35_2 (0 : Int32) (0 : Int32)))
def fm_carriesOf_J34 (a1 : Int32) (x1 : Int32) (w34_0 : Int32) : TM Unit :=
  tw_lp (fm_carriesOf_L35 a1) (fun _ _ _ => none) tw_fu x1 w34_0
def fm_carriesOf (a1 : Int32) : TM Unit :=
   tw_bd (tw_ld 6 a1) fun x1 =>
    tw_bd (tw_ld 7 a1) fun x4 =>
  tw_bd (tw_ld 26 ((((24 : Int32) * a1) + (10 : Int32)) + x4)) fun x7 =>
  if x7 = 0 then (fm_carriesOf_J34 a1 x1 (1 : Int32))
  else (fm_carriesOf_J34 a1 x1 (0 : Int32))
theorem hdX6_carriesOf : yX6_carriesOf.cls = "LosslessFabricModel" ∧ (yX6_carriesOf.cls ≠ "java/lang/invoke/MethodHandle" ∧ yX6_carriesOf.cls ≠ "java/lang/invoke/VarHandle" ∧ (parseMethodDescriptor yX6_carriesOf.desc).map (fun d => d.parameters.length) = some 1) := by decide +kernel
set_option maxHeartbeats 4000000 in
theorem mm_carriesOf {l : Launch} {X : (Nat → Nat) × (Nat → Nat) × Nat} {D : va_G} {dA : Nat → ClassId} {o : Nat} {ad : Nat → Nat} {A : Nat → Prop} (hD : tw_D o ad A) (a1 : Int32) (t0 tZ : TS) (r : Unit) (hf : fm_carriesOf a1 t0 = some (r, tZ)) : Met l yX6_carriesOf (ws_ yX6_carriesOf cX6_carriesOf 6 (none)) ({ frames := 2, cells := 0, slots := 0, locals := 32 }) (va_Pc [.ref o, .int a1] (tw_W X A D dA o ad t0)) (tw_Qv D dA o ad A tZ) 0 0 A := by
  refine Met.ofW (cc := cX6_carriesOf) (maxL := 6) (ret := none) (by decide) rfl ?_
  intro p e s m args below meth c s₁ B hml hv
  obtain ⟨rfl, hP, hK, hX⟩ := hv
  have hx := B.exec
  have hb := B.bytes
  have hr := B.returns
  have hts := atoms_spec (ws := (ws_ yX6_carriesOf cX6_carriesOf 6 (none))) B.pre
  have hts : ∀ w ∈ lw_all, w.before _ s = true := fun w h => hts w (List.mem_cons_of_mem _ h)
  have hown : s.vm.findClass "LosslessFabricModel" = some m.cls := findClass_of_methodNamed B.named
  have hlk := B.notSynchronized
  have C : tw_C X p s m _ c cX6_carriesOf D dA o ad A := ⟨hx, hb, hts, hown, hK, hD, hX⟩
  have hS : va_S A s.heap s.heap [] := va_S.rf
  have hl := lv_entry ([.ref o, .int a1]) (n := 6) (Nat.le_of_ble_eq_true rfl)
  rw [lg_entry_eq]
  generalize (lg_sl ([.ref o, .int a1]) ++ List.replicate (6 - (lg_sl ([.ref o, .int a1])).length) Slot.unset).toArray = ls at hl ⊢
  have hl : lv_has ls 6 [(0, .ref o), (1, .int a1)] := hl
  unfold fm_carriesOf at hf
  refine lv_aload_n hx hb dX6_carriesOf_0 rfl (lv_at hl 0 rfl) ?_
  refine tw_aget (k := 6) C hP (by decide) (by decide) q1382 dX6_carriesOf_1 ?_
  refine lv_iload_n hx hb dX6_carriesOf_4 rfl (lv_at hl 1 rfl) ?_
  obtain ⟨x1, t2, e3, hf⟩ := tw_bdE hf
  refine tw_iald C hP e3 dX6_carriesOf_5 (fun hP => ?_)
  refine lv_istore_n (lv' := [(2, .int x1), (0, .ref o), (1, .int a1)]) hx hb dX6_carriesOf_6 rfl hl (by decide) rfl (fun ls hl => ?_)
  refine lv_aload_n hx hb dX6_carriesOf_7 rfl (lv_at hl 1 rfl) ?_
  refine tw_aget (k := 26) C hP (by decide) (by decide) q1402 dX6_carriesOf_8 ?_
  refine lv_bipush (v := (24 : Int32)) hx hb dX6_carriesOf_11 (by decide) ?_
  refine lv_iload_n hx hb dX6_carriesOf_13 rfl (lv_at hl 2 rfl) ?_
  refine lv_imul hx hb dX6_carriesOf_14 ?_
  refine lv_bipush (v := (10 : Int32)) hx hb dX6_carriesOf_15 (by decide) ?_
  refine lv_iadd hx hb dX6_carriesOf_17 ?_
  refine lv_aload_n hx hb dX6_carriesOf_18 rfl (lv_at hl 1 rfl) ?_
  refine tw_aget (k := 7) C hP (by decide) (by decide) q1383 dX6_carriesOf_19 ?_
  refine lv_iload_n hx hb dX6_carriesOf_22 rfl (lv_at hl 2 rfl) ?_
  obtain ⟨x4, t5, e6, hf⟩ := tw_bdE hf
  refine tw_iald C hP e6 dX6_carriesOf_23 (fun hP => ?_)
  refine lv_iadd hx hb dX6_carriesOf_24 ?_
  obtain ⟨x7, t8, e9, hf⟩ := tw_bdE hf
  refine tw_iald C hP e9 dX6_carriesOf_25 (fun hP => ?_)
  have k34 : ∀ (w34_0 : Int32) (t10 : TS) (H : Heap) (locs : List Loc) (ls : Array Slot), tw_P D dA o ad t10 H → va_S A s.heap H locs → lv_has ls 6 [(0, .ref o), (1, .int a1), (2, .int x1)] → fm_carriesOf_J34 a1 x1 w34_0 t10 = some (r, tZ) → W p l e (headSpec (ws_ yX6_carriesOf cX6_carriesOf 6 (none)) ({ frames := 2, cells := 0, slots := 0, locals := 32 })).room s m ([.ref o, .int a1] : List Value).toArray below meth c H locs 0 0 (MQ below (tw_Qv D dA o ad A tZ) ([.ref o, .int a1] : List Value).toArray s 0 0 A) (F0 m 34 ls [.int w34_0]) := by
    intro w34_0 t10 H locs ls hP hS hl hf
    unfold fm_carriesOf_J34 at hf
    refine lv_istore_n (lv' := [(3, .int w34_0), (0, .ref o), (1, .int a1), (2, .int x1)]) hx hb dX6_carriesOf_34 rfl hl (by decide) rfl (fun ls hl => ?_)
    have k35 : ∀ (n : Nat) (v35_2 : Int32) (v35_3 : Int32) (t11 : TS) (H : Heap) (locs : List Loc) (ls : Array Slot), tw_P D dA o ad t11 H → va_S A s.heap H locs → lv_has ls 6 [(0, .ref o), (1, .int a1), (2, .int v35_2), (3, .int v35_3)] → tw_lp (fm_carriesOf_L35 a1) (fun _ _ _ => none) n v35_2 v35_3 t11 = some (r, tZ) → W p l e (headSpec (ws_ yX6_carriesOf cX6_carriesOf 6 (none)) ({ frames := 2, cells := 0, slots := 0, locals := 32 })).room s m ([.ref o, .int a1] : List Value).toArray below meth c H locs 0 0 (MQ below (tw_Qv D dA o ad A tZ) ([.ref o, .int a1] : List Value).toArray s 0 0 A) (F0 m 35 ls []) := by
      intro n
      induction n with
      | zero => intro v35_2 v35_3 t11 H locs ls hP hS hl hf; exact (tw_no hf).elim
      | succ n ih35 =>
        intro v35_2 v35_3 t11 H locs ls hP hS hl hf
        obtain ⟨sf35, hs35⟩ : ∃ f, f = tw_lp (fm_carriesOf_L35 a1) (fun _ _ _ => none) n := ⟨_, rfl⟩
        rw [← hs35] at ih35
        have hf : fm_carriesOf_L35 a1 sf35 v35_2 v35_3 t11 = some (r, tZ) := by rw [hs35]; exact hf
        clear hs35
        unfold fm_carriesOf_L35 at hf
        refine lv_iload_n hx hb dX6_carriesOf_35 rfl (lv_at hl 3 rfl) ?_
        have k115 : ∀  (t12 : TS) (H : Heap) (locs : List Loc) (ls : Array Slot), tw_P D dA o ad t12 H → va_S A s.heap H locs → lv_has ls 6 [(0, .ref o), (1, .int a1), (2, .int v35_2)] → fm_carriesOf_J115 a1 v35_2  t12 = some (r, tZ) → W p l e (headSpec (ws_ yX6_carriesOf cX6_carriesOf 6 (none)) ({ frames := 2, cells := 0, slots := 0, locals := 32 })).room s m ([.ref o, .int a1] : List Value).toArray below meth c H locs 0 0 (MQ below (tw_Qv D dA o ad A tZ) ([.ref o, .int a1] : List Value).toArray s 0 0 A) (F0 m 115 ls []) := by
          intro t12 H locs ls hP hS hl hf
          unfold fm_carriesOf_J115 at hf
          refine lv_aload_n hx hb dX6_carriesOf_115 rfl (lv_at hl 0 rfl) ?_
          refine tw_aget (k := 26) C hP (by decide) (by decide) q1402 dX6_carriesOf_116 ?_
          refine lv_bipush (v := (24 : Int32)) hx hb dX6_carriesOf_119 (by decide) ?_
          refine lv_iload_n hx hb dX6_carriesOf_121 rfl (lv_at hl 1 rfl) ?_
          refine lv_imul hx hb dX6_carriesOf_122 ?_
          refine lv_bipush (v := (7 : Int32)) hx hb dX6_carriesOf_123 (by decide) ?_
          refine lv_iadd hx hb dX6_carriesOf_125 ?_
          refine lv_aload_n hx hb dX6_carriesOf_126 rfl (lv_at hl 0 rfl) ?_
          refine tw_aget (k := 6) C hP (by decide) (by decide) q1382 dX6_carriesOf_127 ?_
          refine lv_iload_n hx hb dX6_carriesOf_130 rfl (lv_at hl 1 rfl) ?_
          obtain ⟨x13, t14, e15, hf⟩ := tw_bdE hf
          refine tw_iald C hP e15 dX6_carriesOf_131 (fun hP => ?_)
          refine lv_iload_n hx hb dX6_carriesOf_132 rfl (lv_at hl 2 rfl) ?_
          refine lv_isub hx hb dX6_carriesOf_133 ?_
          obtain ⟨x16, t17, e18, hf⟩ := tw_bdE hf
          refine tw_iast C hP hS e18 dX6_carriesOf_134 (fun H locs hP hS => ?_)
          exact tw_iretv (tw_rtE hf).2 C hr hP hS hlk dX6_carriesOf_135
        refine lv_if_eq (tgt := 115) hx hb dX6_carriesOf_36 (by decide) (fun hc => ?_) (fun hc => ?_)
        · have hf := tw_ifT hc hf
          exact k115 _ _ _ _ hP hS (lv_sub hl [0, 1, 2] rfl) hf
        · have hf := tw_ifF hc hf
          refine lv_iload_n hx hb dX6_carriesOf_39 rfl (lv_at hl 2 rfl) ?_
          refine lv_if_le (tgt := 115) hx hb dX6_carriesOf_40 (by decide) (fun hc => ?_) (fun hc => ?_)
          · have hf := tw_ifT hc hf
            exact k115 _ _ _ _ hP hS (lv_sub hl [0, 1, 2] rfl) hf
          · have hf := tw_ifF hc hf
            refine lv_iconst (v := (0 : Int32)) hx hb dX6_carriesOf_43 (by decide) ?_
            refine lv_istore_n (lv' := [(3, .int (0 : Int32)), (0, .ref o), (1, .int a1), (2, .int v35_2)]) hx hb dX6_carriesOf_44 rfl hl (by decide) rfl (fun ls hl => ?_)
            refine lv_iconst (v := (0 : Int32)) hx hb dX6_carriesOf_45 (by decide) ?_
            refine lv_istore (lv' := [(4, .int (0 : Int32)), (3, .int (0 : Int32)), (0, .ref o), (1, .int a1), (2, .int v35_2)]) hx hb dX6_carriesOf_46 hl (by decide) rfl (fun ls hl => ?_)
            have k48 : ∀ (n : Nat) (v48_2 : Int32) (v48_3 : Int32) (v48_4 : Int32) (t19 : TS) (H : Heap) (locs : List Loc) (ls : Array Slot), tw_P D dA o ad t19 H → va_S A s.heap H locs → lv_has ls 6 [(0, .ref o), (1, .int a1), (2, .int v48_2), (3, .int v48_3), (4, .int v48_4)] → tw_lp (fm_carriesOf_L48 sf35 a1) (fun _ _ _ _ => none) n v48_2 v48_3 v48_4 t19 = some (r, tZ) → W p l e (headSpec (ws_ yX6_carriesOf cX6_carriesOf 6 (none)) ({ frames := 2, cells := 0, slots := 0, locals := 32 })).room s m ([.ref o, .int a1] : List Value).toArray below meth c H locs 0 0 (MQ below (tw_Qv D dA o ad A tZ) ([.ref o, .int a1] : List Value).toArray s 0 0 A) (F0 m 48 ls []) := by
              intro n
              induction n with
              | zero => intro v48_2 v48_3 v48_4 t19 H locs ls hP hS hl hf; exact (tw_no hf).elim
              | succ n ih48 =>
                intro v48_2 v48_3 v48_4 t19 H locs ls hP hS hl hf
                obtain ⟨sf48, hs48⟩ : ∃ f, f = tw_lp (fm_carriesOf_L48 sf35 a1) (fun _ _ _ _ => none) n := ⟨_, rfl⟩
                rw [← hs48] at ih48
                have hf : fm_carriesOf_L48 sf35 a1 sf48 v48_2 v48_3 v48_4 t19 = some (r, tZ) := by rw [hs48]; exact hf
                clear hs48
                unfold fm_carriesOf_L48 at hf
                refine lv_iload hx hb dX6_carriesOf_48 (lv_at hl 4 rfl) ?_
                refine lv_aload_n hx hb dX6_carriesOf_50 rfl (lv_at hl 0 rfl) ?_
                obtain ⟨x20, t21, e22, hf⟩ := tw_bdE hf
                refine tw_cVi (As := []) (rest := [.int v48_4]) C hml hP hS (mm_flows (l := l) (X := X) (D := D) (dA := dA) hD _ _ _ e22) (cwV 0 hts (lw_V q1372 q1374 qs44 q106 q1375) rfl rfl rfl hdX6_flows ⟨Nat.le_of_ble_eq_true rfl, Nat.le_of_ble_eq_true rfl⟩) rfl hl.1 rfl (Nat.le_of_ble_eq_true rfl) dX6_carriesOf_51 (fun H locs hP hS => ?_)
                have k112 : ∀  (t23 : TS) (H : Heap) (locs : List Loc) (ls : Array Slot), tw_P D dA o ad t23 H → va_S A s.heap H locs → lv_has ls 6 [(0, .ref o), (1, .int a1), (2, .int v48_2), (3, .int v48_3)] → fm_carriesOf_J112 sf35 v48_2 v48_3  t23 = some (r, tZ) → W p l e (headSpec (ws_ yX6_carriesOf cX6_carriesOf 6 (none)) ({ frames := 2, cells := 0, slots := 0, locals := 32 })).room s m ([.ref o, .int a1] : List Value).toArray below meth c H locs 0 0 (MQ below (tw_Qv D dA o ad A tZ) ([.ref o, .int a1] : List Value).toArray s 0 0 A) (F0 m 112 ls []) := by
                  intro t23 H locs ls hP hS hl hf
                  unfold fm_carriesOf_J112 at hf
                  refine lv_goto (tgt := 35) hx hb dX6_carriesOf_112 (by decide) ?_
                  exact ih35 _ _ _ _ _ _ hP hS (lv_sub hl [0, 1, 2, 3] rfl) hf
                refine lv_icmp_ge (tgt := 112) hx hb dX6_carriesOf_54 (by decide) (fun hc => ?_) (fun hc => ?_)
                · have hf := tw_ifT hc hf
                  exact k112 _ _ _ _ hP hS (lv_sub hl [0, 1, 2, 3] rfl) hf
                · have hf := tw_ifF hc hf
                  refine lv_iload_n hx hb dX6_carriesOf_57 rfl (lv_at hl 2 rfl) ?_
                  refine lv_if_le (tgt := 112) hx hb dX6_carriesOf_58 (by decide) (fun hc => ?_) (fun hc => ?_)
                  · have hf := tw_ifT hc hf
                    exact k112 _ _ _ _ hP hS (lv_sub hl [0, 1, 2, 3] rfl) hf
                  · have hf := tw_ifF hc hf
                    refine lv_bipush (v := (8 : Int32)) hx hb dX6_carriesOf_61 (by decide) ?_
                    refine lv_iload_n hx hb dX6_carriesOf_63 rfl (lv_at hl 1 rfl) ?_
                    refine lv_imul hx hb dX6_carriesOf_64 ?_
                    refine lv_iload hx hb dX6_carriesOf_65 (lv_at hl 4 rfl) ?_
                    refine lv_iadd hx hb dX6_carriesOf_67 ?_
                    refine lv_istore (lv' := [(5, .int (((8 : Int32) * a1) + v48_4)), (0, .ref o), (1, .int a1), (2, .int v48_2), (3, .int v48_3), (4, .int v48_4)]) hx hb dX6_carriesOf_68 hl (by decide) rfl (fun ls hl => ?_)
                    refine lv_aload_n hx hb dX6_carriesOf_70 rfl (lv_at hl 1 rfl) ?_
                    refine tw_aget (k := 34) C hP (by decide) (by decide) q1410 dX6_carriesOf_71 ?_
                    refine lv_iload hx hb dX6_carriesOf_74 (lv_at hl 0 rfl) ?_
                    obtain ⟨x24, t25, e26, hf⟩ := tw_bdE hf
                    refine tw_iald C hP e26 dX6_carriesOf_76 (fun hP => ?_)
                    refine lv_aload_n hx hb dX6_carriesOf_77 rfl (lv_at hl 1 rfl) ?_
                    refine tw_aget (k := 33) C hP (by decide) (by decide) q1409 dX6_carriesOf_78 ?_
                    refine lv_iload hx hb dX6_carriesOf_81 (lv_at hl 0 rfl) ?_
                    obtain ⟨x27, t28, e29, hf⟩ := tw_bdE hf
                    refine tw_iald C hP e29 dX6_carriesOf_83 (fun hP => ?_)
                    have k106 : ∀ (v106_2 : Int32) (v106_3 : Int32) (t30 : TS) (H : Heap) (locs : List Loc) (ls : Array Slot), tw_P D dA o ad t30 H → va_S A s.heap H locs → lv_has ls 6 [(0, .ref o), (1, .int a1), (2, .int v106_2), (3, .int v106_3), (4, .int v48_4)] → fm_carriesOf_J106 sf48 v48_4 v106_2 v106_3 t30 = some (r, tZ) → W p l e (headSpec (ws_ yX6_carriesOf cX6_carriesOf 6 (none)) ({ frames := 2, cells := 0, slots := 0, locals := 32 })).room s m ([.ref o, .int a1] : List Value).toArray below meth c H locs 0 0 (MQ below (tw_Qv D dA o ad A tZ) ([.ref o, .int a1] : List Value).toArray s 0 0 A) (F0 m 106 ls []) := by
                      intro v106_2 v106_3 t30 H locs ls hP hS hl hf
                      unfold fm_carriesOf_J106 at hf
                      refine lv_iinc (v := (v48_4 + (1 : Int32))) (lv' := [(4, .int (v48_4 + (1 : Int32))), (0, .ref o), (1, .int a1), (2, .int v106_2), (3, .int v106_3)]) hx hb dX6_carriesOf_106 hl (k := 4) rfl rfl (by decide) rfl (fun ls hl => ?_)
                      refine lv_goto (tgt := 48) hx hb dX6_carriesOf_109 (by decide) ?_
                      exact ih48 _ _ _ _ _ _ _ hP hS (lv_sub hl [1, 2, 3, 4, 0] rfl) hf
                    refine lv_icmp_ne (tgt := 90) hx hb dX6_carriesOf_84 (by decide) (fun hc => ?_) (fun hc => ?_)
                    · have hf := tw_ifF hc hf
                      refine lv_aload_n hx hb dX6_carriesOf_90 rfl (lv_at hl 1 rfl) ?_
                      refine tw_aget (k := 34) C hP (by decide) (by decide) q1410 dX6_carriesOf_91 ?_
                      refine lv_iload hx hb dX6_carriesOf_94 (lv_at hl 0 rfl) ?_
                      refine lv_dup2_11 hx hb dX6_carriesOf_96 rfl rfl ?_
                      obtain ⟨x31, t32, e33, hf⟩ := tw_bdE hf
                      refine tw_iald C hP e33 dX6_carriesOf_97 (fun hP => ?_)
                      refine lv_iconst (v := (1 : Int32)) hx hb dX6_carriesOf_98 (by decide) ?_
                      refine lv_iadd hx hb dX6_carriesOf_99 ?_
                      obtain ⟨x34, t35, e36, hf⟩ := tw_bdE hf
                      refine tw_iast C hP hS e36 dX6_carriesOf_100 (fun H locs hP hS => ?_)
                      refine lv_iinc (v := (v48_2 + (-1 : Int32))) (lv' := [(2, .int (v48_2 + (-1 : Int32))), (5, .int (((8 : Int32) * a1) + v48_4)), (0, .ref o), (1, .int a1), (3, .int v48_3), (4, .int v48_4)]) hx hb dX6_carriesOf_101 hl (k := 3) rfl rfl (by decide) rfl (fun ls hl => ?_)
                      refine lv_iconst (v := (1 : Int32)) hx hb dX6_carriesOf_104 (by decide) ?_
                      refine lv_istore_n (lv' := [(3, .int (1 : Int32)), (2, .int (v48_2 + (-1 : Int32))), (5, .int (((8 : Int32) * a1) + v48_4)), (0, .ref o), (1, .int a1), (4, .int v48_4)]) hx hb dX6_carriesOf_105 rfl hl (by decide) rfl (fun ls hl => ?_)
                      exact k106 _ _ _ _ _ _ hP hS (lv_sub hl [3, 4, 1, 0, 5] rfl) hf
                    · have hf := tw_ifT hc hf
                      refine lv_goto (tgt := 106) hx hb dX6_carriesOf_87 (by decide) ?_
                      exact k106 _ _ _ _ _ _ hP hS (lv_sub hl [1, 2, 3, 4, 5] rfl) hf
            exact k48 _ _ _ _ _ _ _ _ hP hS (lv_sub hl [2, 3, 4, 1, 0] rfl) hf
    exact k35 _ _ _ _ _ _ _ hP hS (lv_sub hl [1, 2, 3, 0] rfl) hf
  refine lv_if_ne (tgt := 33) hx hb dX6_carriesOf_26 (by decide) (fun hc => ?_) (fun hc => ?_)
  · have hf := tw_ifF hc hf
    refine lv_iconst (v := (0 : Int32)) hx hb dX6_carriesOf_33 (by decide) ?_
    exact k34 _ _ _ _ _ hP hS (lv_sub hl [1, 2, 0] rfl) hf
  · have hf := tw_ifT hc hf
    refine lv_iconst (v := (1 : Int32)) hx hb dX6_carriesOf_29 (by decide) ?_
    refine lv_goto (tgt := 34) hx hb dX6_carriesOf_30 (by decide) ?_
    exact k34 _ _ _ _ _ hP hS (lv_sub hl [1, 2, 0] rfl) hf
def fm_flowAt (a0 : Int32) : TM Int32 :=
  tw_rt ((240 : Int32) + ((12 : Int32) * a0))
theorem hdX6_flowAt : (yX6_flowAt.cls ≠ "java/lang/invoke/MethodHandle" ∧ yX6_flowAt.cls ≠ "java/lang/invoke/VarHandle" ∧ (parseMethodDescriptor yX6_flowAt.desc).map (fun d => d.parameters.length) = some 1) := by decide +kernel
set_option maxHeartbeats 4000000 in
theorem mm_flowAt {l : Launch} {X : (Nat → Nat) × (Nat → Nat) × Nat} {D : va_G} {dA : Nat → ClassId} {o : Nat} {ad : Nat → Nat} {A : Nat → Prop} (hD : tw_D o ad A) (a0 : Int32) (t0 tZ : TS) (r : Int32) (hf : fm_flowAt a0 t0 = some (r, tZ)) : Met l yX6_flowAt (ws_ yX6_flowAt cX6_flowAt 1 (some .int)) ({ frames := 1, cells := 0, slots := 0, locals := 12 }) (va_Pc [.int a0] (tw_W X A D dA o ad t0)) (tw_Qi D dA o ad A r tZ) 0 0 A := by
  refine Met.ofW (cc := cX6_flowAt) (maxL := 1) (ret := some .int) (by decide) rfl ?_
  intro p e s m args below meth c s₁ B hml hv
  obtain ⟨rfl, hP, hK, hX⟩ := hv
  have hx := B.exec
  have hb := B.bytes
  have hr := B.returns
  have hts := atoms_spec (ws := (ws_ yX6_flowAt cX6_flowAt 1 (some .int))) B.pre
  have hts : ∀ w ∈ lw_all, w.before _ s = true := fun w h => hts w (List.mem_cons_of_mem _ h)
  have hown : s.vm.findClass "LosslessFabricModel" = some m.cls := findClass_of_methodNamed B.named
  have hlk := B.notSynchronized
  have C : tw_C X p s m _ c cX6_flowAt D dA o ad A := ⟨hx, hb, hts, hown, hK, hD, hX⟩
  have hS : va_S A s.heap s.heap [] := va_S.rf
  have hl := lv_entry ([.int a0]) (n := 1) (Nat.le_of_ble_eq_true rfl)
  rw [lg_entry_eq]
  generalize (lg_sl ([.int a0]) ++ List.replicate (1 - (lg_sl ([.int a0])).length) Slot.unset).toArray = ls at hl ⊢
  have hl : lv_has ls 1 [(0, .int a0)] := hl
  unfold fm_flowAt at hf
  refine lv_sipush (v := (240 : Int32)) hx hb dX6_flowAt_0 (by decide) ?_
  refine lv_bipush (v := (12 : Int32)) hx hb dX6_flowAt_3 (by decide) ?_
  refine lv_iload_n hx hb dX6_flowAt_5 rfl (lv_at hl 0 rfl) ?_
  refine lv_imul hx hb dX6_flowAt_6 ?_
  refine lv_iadd hx hb dX6_flowAt_7 ?_
  exact tw_ireti (tw_rtE hf).1 (tw_rtE hf).2 C hr hP hS hlk dX6_flowAt_8
def fm_hopOf_L2 (a1 : Int32) (a2 : Int32) (sf2 : Int32 → TM Int32) (v2_3 : Int32) : TM Int32 :=
   tw_bd (tw_ld 14 a1) fun x2 =>
  if x2 ≤ v2_3 then (tw_rt (-1 : Int32))
  else ( tw_bd (tw_ld 15 (((5 : Int32) * a1) + v2_3)) fun x5 =>
  if x5 = a2 then (tw_rt v2_3)
  else (sf2 (v2_3 + (1 : Int32))))
def fm_hopOf (a1 : Int32) (a2 : Int32) : TM Int32 :=
  tw_lp (fm_hopOf_L2 a1 a2) (fun _ _ => none) tw_fu (0 : Int32)
theorem hdX6_hopOf : yX6_hopOf.cls = "LosslessFabricModel" ∧ (yX6_hopOf.cls ≠ "java/lang/invoke/MethodHandle" ∧ yX6_hopOf.cls ≠ "java/lang/invoke/VarHandle" ∧ (parseMethodDescriptor yX6_hopOf.desc).map (fun d => d.parameters.length) = some 2) := by decide +kernel
set_option maxHeartbeats 4000000 in
theorem mm_hopOf {l : Launch} {X : (Nat → Nat) × (Nat → Nat) × Nat} {D : va_G} {dA : Nat → ClassId} {o : Nat} {ad : Nat → Nat} {A : Nat → Prop} (hD : tw_D o ad A) (a1 : Int32) (a2 : Int32) (t0 tZ : TS) (r : Int32) (hf : fm_hopOf a1 a2 t0 = some (r, tZ)) : Met l yX6_hopOf (ws_ yX6_hopOf cX6_hopOf 4 (some .int)) ({ frames := 1, cells := 0, slots := 0, locals := 12 }) (va_Pc [.ref o, .int a1, .int a2] (tw_W X A D dA o ad t0)) (tw_Qi D dA o ad A r tZ) 0 0 A := by
  refine Met.ofW (cc := cX6_hopOf) (maxL := 4) (ret := some .int) (by decide) rfl ?_
  intro p e s m args below meth c s₁ B hml hv
  obtain ⟨rfl, hP, hK, hX⟩ := hv
  have hx := B.exec
  have hb := B.bytes
  have hr := B.returns
  have hts := atoms_spec (ws := (ws_ yX6_hopOf cX6_hopOf 4 (some .int))) B.pre
  have hts : ∀ w ∈ lw_all, w.before _ s = true := fun w h => hts w (List.mem_cons_of_mem _ h)
  have hown : s.vm.findClass "LosslessFabricModel" = some m.cls := findClass_of_methodNamed B.named
  have hlk := B.notSynchronized
  have C : tw_C X p s m _ c cX6_hopOf D dA o ad A := ⟨hx, hb, hts, hown, hK, hD, hX⟩
  have hS : va_S A s.heap s.heap [] := va_S.rf
  have hl := lv_entry ([.ref o, .int a1, .int a2]) (n := 4) (Nat.le_of_ble_eq_true rfl)
  rw [lg_entry_eq]
  generalize (lg_sl ([.ref o, .int a1, .int a2]) ++ List.replicate (4 - (lg_sl ([.ref o, .int a1, .int a2])).length) Slot.unset).toArray = ls at hl ⊢
  have hl : lv_has ls 4 [(0, .ref o), (1, .int a1), (2, .int a2)] := hl
  unfold fm_hopOf at hf
  refine lv_iconst (v := (0 : Int32)) hx hb dX6_hopOf_0 (by decide) ?_
  refine lv_istore_n (lv' := [(3, .int (0 : Int32)), (0, .ref o), (1, .int a1), (2, .int a2)]) hx hb dX6_hopOf_1 rfl hl (by decide) rfl (fun ls hl => ?_)
  have k2 : ∀ (n : Nat) (v2_3 : Int32) (t1 : TS) (H : Heap) (locs : List Loc) (ls : Array Slot), tw_P D dA o ad t1 H → va_S A s.heap H locs → lv_has ls 4 [(0, .ref o), (1, .int a1), (2, .int a2), (3, .int v2_3)] → tw_lp (fm_hopOf_L2 a1 a2) (fun _ _ => none) n v2_3 t1 = some (r, tZ) → W p l e (headSpec (ws_ yX6_hopOf cX6_hopOf 4 (some .int)) ({ frames := 1, cells := 0, slots := 0, locals := 12 })).room s m ([.ref o, .int a1, .int a2] : List Value).toArray below meth c H locs 0 0 (MQ below (tw_Qi D dA o ad A r tZ) ([.ref o, .int a1, .int a2] : List Value).toArray s 0 0 A) (F0 m 2 ls []) := by
    intro n
    induction n with
    | zero => intro v2_3 t1 H locs ls hP hS hl hf; exact (tw_no hf).elim
    | succ n ih2 =>
      intro v2_3 t1 H locs ls hP hS hl hf
      obtain ⟨sf2, hs2⟩ : ∃ f, f = tw_lp (fm_hopOf_L2 a1 a2) (fun _ _ => none) n := ⟨_, rfl⟩
      rw [← hs2] at ih2
      have hf : fm_hopOf_L2 a1 a2 sf2 v2_3 t1 = some (r, tZ) := by rw [hs2]; exact hf
      clear hs2
      unfold fm_hopOf_L2 at hf
      refine lv_iload_n hx hb dX6_hopOf_2 rfl (lv_at hl 3 rfl) ?_
      refine lv_aload_n hx hb dX6_hopOf_3 rfl (lv_at hl 0 rfl) ?_
      refine tw_aget (k := 14) C hP (by decide) (by decide) q1390 dX6_hopOf_4 ?_
      refine lv_iload_n hx hb dX6_hopOf_7 rfl (lv_at hl 1 rfl) ?_
      obtain ⟨x2, t3, e4, hf⟩ := tw_bdE hf
      refine tw_iald C hP e4 dX6_hopOf_8 (fun hP => ?_)
      refine lv_icmp_ge (tgt := 34) hx hb dX6_hopOf_9 (by decide) (fun hc => ?_) (fun hc => ?_)
      · have hf := tw_ifT hc hf
        refine lv_iconst (v := (-1 : Int32)) hx hb dX6_hopOf_34 (by decide) ?_
        exact tw_ireti (tw_rtE hf).1 (tw_rtE hf).2 C hr hP hS hlk dX6_hopOf_35
      · have hf := tw_ifF hc hf
        refine lv_aload_n hx hb dX6_hopOf_12 rfl (lv_at hl 0 rfl) ?_
        refine tw_aget (k := 15) C hP (by decide) (by decide) q1391 dX6_hopOf_13 ?_
        refine lv_iconst (v := (5 : Int32)) hx hb dX6_hopOf_16 (by decide) ?_
        refine lv_iload_n hx hb dX6_hopOf_17 rfl (lv_at hl 1 rfl) ?_
        refine lv_imul hx hb dX6_hopOf_18 ?_
        refine lv_iload_n hx hb dX6_hopOf_19 rfl (lv_at hl 3 rfl) ?_
        refine lv_iadd hx hb dX6_hopOf_20 ?_
        obtain ⟨x5, t6, e7, hf⟩ := tw_bdE hf
        refine tw_iald C hP e7 dX6_hopOf_21 (fun hP => ?_)
        refine lv_iload_n hx hb dX6_hopOf_22 rfl (lv_at hl 2 rfl) ?_
        refine lv_icmp_ne (tgt := 28) hx hb dX6_hopOf_23 (by decide) (fun hc => ?_) (fun hc => ?_)
        · have hf := tw_ifF hc hf
          refine lv_iinc (v := (v2_3 + (1 : Int32))) (lv' := [(3, .int (v2_3 + (1 : Int32))), (0, .ref o), (1, .int a1), (2, .int a2)]) hx hb dX6_hopOf_28 hl (k := 3) rfl rfl (by decide) rfl (fun ls hl => ?_)
          refine lv_goto (tgt := 2) hx hb dX6_hopOf_31 (by decide) ?_
          exact ih2 _ _ _ _ _ hP hS (lv_sub hl [1, 2, 3, 0] rfl) hf
        · have hf := tw_ifT hc hf
          refine lv_iload_n hx hb dX6_hopOf_26 rfl (lv_at hl 3 rfl) ?_
          exact tw_ireti (tw_rtE hf).1 (tw_rtE hf).2 C hr hP hS hlk dX6_hopOf_27
  exact k2 _ _ _ _ _ _ hP hS (lv_sub hl [1, 2, 3, 0] rfl) hf
def fm_within_J19  (w19_0 : Int32) : TM Int32 :=
  tw_rt w19_0
def fm_within (a0 : Int32) (a1 : Int32) (a2 : Int32) : TM Int32 :=
  if a1 ≤ a0 then (if a0 ≤ a2 then (fm_within_J19 a0)
  else (fm_within_J19 a2))
  else (fm_within_J19 a1)
theorem hdX6_within : (yX6_within.cls ≠ "java/lang/invoke/MethodHandle" ∧ yX6_within.cls ≠ "java/lang/invoke/VarHandle" ∧ (parseMethodDescriptor yX6_within.desc).map (fun d => d.parameters.length) = some 3) := by decide +kernel
set_option maxHeartbeats 4000000 in
theorem mm_within {l : Launch} {X : (Nat → Nat) × (Nat → Nat) × Nat} {D : va_G} {dA : Nat → ClassId} {o : Nat} {ad : Nat → Nat} {A : Nat → Prop} (hD : tw_D o ad A) (a0 : Int32) (a1 : Int32) (a2 : Int32) (t0 tZ : TS) (r : Int32) (hf : fm_within a0 a1 a2 t0 = some (r, tZ)) : Met l yX6_within (ws_ yX6_within cX6_within 3 (some .int)) ({ frames := 1, cells := 0, slots := 0, locals := 12 }) (va_Pc [.int a0, .int a1, .int a2] (tw_W X A D dA o ad t0)) (tw_Qi D dA o ad A r tZ) 0 0 A := by
  refine Met.ofW (cc := cX6_within) (maxL := 3) (ret := some .int) (by decide) rfl ?_
  intro p e s m args below meth c s₁ B hml hv
  obtain ⟨rfl, hP, hK, hX⟩ := hv
  have hx := B.exec
  have hb := B.bytes
  have hr := B.returns
  have hts := atoms_spec (ws := (ws_ yX6_within cX6_within 3 (some .int))) B.pre
  have hts : ∀ w ∈ lw_all, w.before _ s = true := fun w h => hts w (List.mem_cons_of_mem _ h)
  have hown : s.vm.findClass "LosslessFabricModel" = some m.cls := findClass_of_methodNamed B.named
  have hlk := B.notSynchronized
  have C : tw_C X p s m _ c cX6_within D dA o ad A := ⟨hx, hb, hts, hown, hK, hD, hX⟩
  have hS : va_S A s.heap s.heap [] := va_S.rf
  have hl := lv_entry ([.int a0, .int a1, .int a2]) (n := 3) (Nat.le_of_ble_eq_true rfl)
  rw [lg_entry_eq]
  generalize (lg_sl ([.int a0, .int a1, .int a2]) ++ List.replicate (3 - (lg_sl ([.int a0, .int a1, .int a2])).length) Slot.unset).toArray = ls at hl ⊢
  have hl : lv_has ls 3 [(0, .int a0), (1, .int a1), (2, .int a2)] := hl
  unfold fm_within at hf
  refine lv_iload_n hx hb dX6_within_0 rfl (lv_at hl 0 rfl) ?_
  refine lv_iload_n hx hb dX6_within_1 rfl (lv_at hl 1 rfl) ?_
  have k19 : ∀ (w19_0 : Int32) (t1 : TS) (H : Heap) (locs : List Loc) (ls : Array Slot), tw_P D dA o ad t1 H → va_S A s.heap H locs → lv_has ls 3 [] → fm_within_J19 w19_0 t1 = some (r, tZ) → W p l e (headSpec (ws_ yX6_within cX6_within 3 (some .int)) ({ frames := 1, cells := 0, slots := 0, locals := 12 })).room s m ([.int a0, .int a1, .int a2] : List Value).toArray below meth c H locs 0 0 (MQ below (tw_Qi D dA o ad A r tZ) ([.int a0, .int a1, .int a2] : List Value).toArray s 0 0 A) (F0 m 19 ls [.int w19_0]) := by
    intro w19_0 t1 H locs ls hP hS hl hf
    unfold fm_within_J19 at hf
    exact tw_ireti (tw_rtE hf).1 (tw_rtE hf).2 C hr hP hS hlk dX6_within_19
  refine lv_icmp_ge (tgt := 9) hx hb dX6_within_2 (by decide) (fun hc => ?_) (fun hc => ?_)
  · have hf := tw_ifT hc hf
    refine lv_iload_n hx hb dX6_within_9 rfl (lv_at hl 0 rfl) ?_
    refine lv_iload_n hx hb dX6_within_10 rfl (lv_at hl 2 rfl) ?_
    refine lv_icmp_le (tgt := 18) hx hb dX6_within_11 (by decide) (fun hc => ?_) (fun hc => ?_)
    · have hf := tw_ifT hc hf
      refine lv_iload_n hx hb dX6_within_18 rfl (lv_at hl 0 rfl) ?_
      exact k19 _ _ _ _ _ hP hS (lv_sub hl [] rfl) hf
    · have hf := tw_ifF hc hf
      refine lv_iload_n hx hb dX6_within_14 rfl (lv_at hl 2 rfl) ?_
      refine lv_goto (tgt := 19) hx hb dX6_within_15 (by decide) ?_
      exact k19 _ _ _ _ _ hP hS (lv_sub hl [] rfl) hf
  · have hf := tw_ifF hc hf
    refine lv_iload_n hx hb dX6_within_5 rfl (lv_at hl 1 rfl) ?_
    refine lv_goto (tgt := 19) hx hb dX6_within_6 (by decide) ?_
    exact k19 _ _ _ _ _ hP hS (lv_sub hl [] rfl) hf
def fm_comesTo_J222 (a1 : Int32) (w222_0 : Int32) : TM Unit :=
  tw_bd (tw_st 26 (((24 : Int32) * a1) + (4 : Int32)) w222_0) fun _ =>
  tw_rt ()
def fm_comesTo_J170 (sf2 : Int32 → TM Unit) (v2_2 : Int32)  : TM Unit :=
  sf2 (v2_2 + (1 : Int32))
def fm_comesTo_J96 (x18 : Int32) (a1 : Int32) (v2_2 : Int32) (sf2 : Int32 → TM Unit) (w96_0 : Int32) : TM Unit :=
  tw_bd (fm_within x18 (0 : Int32) w96_0) fun x35 =>
   tw_bd (tw_ld 26 ((((24 : Int32) * a1) + (15 : Int32)) + v2_2)) fun x38 =>
  tw_bd (tw_st 26 ((((24 : Int32) * a1) + (15 : Int32)) + v2_2) (x38 + x35)) fun _ =>
   tw_bd (tw_st 35 (((8 : Int32) * a1) + v2_2) x35) fun _ =>
   tw_bd (tw_ld 26 (((24 : Int32) * a1) + (3 : Int32))) fun x47 =>
  tw_bd (tw_st 26 (((24 : Int32) * a1) + (3 : Int32)) (x47 + (x18 - x35))) fun _ =>
   tw_bd (fm_flowAt v2_2) fun x53 =>
  tw_bd (tw_ld 26 (x53 + (11 : Int32))) fun x56 =>
  tw_bd (tw_st 26 (x53 + (11 : Int32)) (x56 + (x18 - x35))) fun _ =>
 
  fm_comesTo_J170 sf2 v2_2
def fm_comesTo_L2 (a1 : Int32) (sf2 : Int32 → TM Unit) (v2_2 : Int32) : TM Unit :=
  tw_bd (fm_flows) fun x2 =>
  if x2 ≤ v2_2 then (tw_bd (fm_queueOf a1) fun x5 =>
    tw_bd (tw_ld 26 (((24 : Int32) * a1) + (4 : Int32))) fun x8 =>
  if x5 ≤ x8 then ( tw_bd (tw_ld 26 (((24 : Int32) * a1) + (4 : Int32))) fun x15 =>
 
  fm_comesTo_J222 a1 x15)
  else (fm_comesTo_J222 a1 x5))
  else ( tw_bd (tw_ld 34 (((8 : Int32) * a1) + v2_2)) fun x18 =>
  if x18 = 0 then (fm_comesTo_J170 sf2 v2_2)
  else (tw_bd (fm_hopOf v2_2 a1) fun x22 =>
   tw_bd (tw_ld 14 v2_2) fun x25 =>
  if x22 = (x25 - (1 : Int32)) then ( tw_bd (fm_flowAt v2_2) fun x62 =>
  tw_bd (tw_ld 26 (x62 + (5 : Int32))) fun x65 =>
  tw_bd (tw_st 26 (x62 + (5 : Int32)) (x65 + x18)) fun _ =>
 
  fm_comesTo_J170 sf2 v2_2)
  else ( tw_bd (tw_ld 26 (((24 : Int32) * a1) + (2 : Int32))) fun x28 =>
  tw_bd (fm_queueOf a1) fun x31 =>
  if (x28 - x31) ≤ 0 then (fm_comesTo_J96 x18 a1 v2_2 sf2 (0 : Int32))
  else (fm_comesTo_J96 x18 a1 v2_2 sf2 (x28 - x31)))))
def fm_comesTo (a1 : Int32) : TM Unit :=
  tw_lp (fm_comesTo_L2 a1) (fun _ _ => none) tw_fu (0 : Int32)
theorem hdX6_comesTo : yX6_comesTo.cls = "LosslessFabricModel" ∧ (yX6_comesTo.cls ≠ "java/lang/invoke/MethodHandle" ∧ yX6_comesTo.cls ≠ "java/lang/invoke/VarHandle" ∧ (parseMethodDescriptor yX6_comesTo.desc).map (fun d => d.parameters.length) = some 1) := by decide +kernel
set_option maxHeartbeats 4000000 in
theorem mm_comesTo {l : Launch} {X : (Nat → Nat) × (Nat → Nat) × Nat} {D : va_G} {dA : Nat → ClassId} {o : Nat} {ad : Nat → Nat} {A : Nat → Prop} (hD : tw_D o ad A) (a1 : Int32) (t0 tZ : TS) (r : Unit) (hf : fm_comesTo a1 t0 = some (r, tZ)) : Met l yX6_comesTo (ws_ yX6_comesTo cX6_comesTo 6 (none)) ({ frames := 2, cells := 0, slots := 0, locals := 35 }) (va_Pc [.ref o, .int a1] (tw_W X A D dA o ad t0)) (tw_Qv D dA o ad A tZ) 0 0 A := by
  refine Met.ofW (cc := cX6_comesTo) (maxL := 6) (ret := none) (by decide) rfl ?_
  intro p e s m args below meth c s₁ B hml hv
  obtain ⟨rfl, hP, hK, hX⟩ := hv
  have hx := B.exec
  have hb := B.bytes
  have hr := B.returns
  have hts := atoms_spec (ws := (ws_ yX6_comesTo cX6_comesTo 6 (none))) B.pre
  have hts : ∀ w ∈ lw_all, w.before _ s = true := fun w h => hts w (List.mem_cons_of_mem _ h)
  have hown : s.vm.findClass "LosslessFabricModel" = some m.cls := findClass_of_methodNamed B.named
  have hlk := B.notSynchronized
  have C : tw_C X p s m _ c cX6_comesTo D dA o ad A := ⟨hx, hb, hts, hown, hK, hD, hX⟩
  have hS : va_S A s.heap s.heap [] := va_S.rf
  have hl := lv_entry ([.ref o, .int a1]) (n := 6) (Nat.le_of_ble_eq_true rfl)
  rw [lg_entry_eq]
  generalize (lg_sl ([.ref o, .int a1]) ++ List.replicate (6 - (lg_sl ([.ref o, .int a1])).length) Slot.unset).toArray = ls at hl ⊢
  have hl : lv_has ls 6 [(0, .ref o), (1, .int a1)] := hl
  unfold fm_comesTo at hf
  refine lv_iconst (v := (0 : Int32)) hx hb dX6_comesTo_0 (by decide) ?_
  refine lv_istore_n (lv' := [(2, .int (0 : Int32)), (0, .ref o), (1, .int a1)]) hx hb dX6_comesTo_1 rfl hl (by decide) rfl (fun ls hl => ?_)
  have k2 : ∀ (n : Nat) (v2_2 : Int32) (t1 : TS) (H : Heap) (locs : List Loc) (ls : Array Slot), tw_P D dA o ad t1 H → va_S A s.heap H locs → lv_has ls 6 [(0, .ref o), (1, .int a1), (2, .int v2_2)] → tw_lp (fm_comesTo_L2 a1) (fun _ _ => none) n v2_2 t1 = some (r, tZ) → W p l e (headSpec (ws_ yX6_comesTo cX6_comesTo 6 (none)) ({ frames := 2, cells := 0, slots := 0, locals := 35 })).room s m ([.ref o, .int a1] : List Value).toArray below meth c H locs 0 0 (MQ below (tw_Qv D dA o ad A tZ) ([.ref o, .int a1] : List Value).toArray s 0 0 A) (F0 m 2 ls []) := by
    intro n
    induction n with
    | zero => intro v2_2 t1 H locs ls hP hS hl hf; exact (tw_no hf).elim
    | succ n ih2 =>
      intro v2_2 t1 H locs ls hP hS hl hf
      obtain ⟨sf2, hs2⟩ : ∃ f, f = tw_lp (fm_comesTo_L2 a1) (fun _ _ => none) n := ⟨_, rfl⟩
      rw [← hs2] at ih2
      have hf : fm_comesTo_L2 a1 sf2 v2_2 t1 = some (r, tZ) := by rw [hs2]; exact hf
      clear hs2
      unfold fm_comesTo_L2 at hf
      refine lv_iload_n hx hb dX6_comesTo_2 rfl (lv_at hl 2 rfl) ?_
      refine lv_aload_n hx hb dX6_comesTo_3 rfl (lv_at hl 0 rfl) ?_
      obtain ⟨x2, t3, e4, hf⟩ := tw_bdE hf
      refine tw_cVi (As := []) (rest := [.int v2_2]) C hml hP hS (mm_flows (l := l) (X := X) (D := D) (dA := dA) hD _ _ _ e4) (cwV 0 hts (lw_V q1372 q1374 qs44 q106 q1375) rfl rfl rfl hdX6_flows ⟨Nat.le_of_ble_eq_true rfl, Nat.le_of_ble_eq_true rfl⟩) rfl hl.1 rfl (Nat.le_of_ble_eq_true rfl) dX6_comesTo_4 (fun H locs hP hS => ?_)
      refine lv_icmp_ge (tgt := 176) hx hb dX6_comesTo_7 (by decide) (fun hc => ?_) (fun hc => ?_)
      · have hf := tw_ifT hc hf
        refine lv_aload_n hx hb dX6_comesTo_176 rfl (lv_at hl 0 rfl) ?_
        refine lv_iload_n hx hb dX6_comesTo_177 rfl (lv_at hl 1 rfl) ?_
        obtain ⟨x5, t6, e7, hf⟩ := tw_bdE hf
        refine tw_cVi (As := [.int a1]) (rest := []) C hml hP hS (mm_queueOf (l := l) (X := X) (D := D) (dA := dA) hD _ _ _ _ e7) (cwV 1 hts (lw_V q1691 q1693 qs72 q106 q1694) rfl rfl rfl hdX6_queueOf ⟨Nat.le_of_ble_eq_true rfl, Nat.le_of_ble_eq_true rfl⟩) rfl hl.1 rfl (Nat.le_of_ble_eq_true rfl) dX6_comesTo_178 (fun H locs hP hS => ?_)
        refine lv_istore_n (lv' := [(2, .int x5), (0, .ref o), (1, .int a1)]) hx hb dX6_comesTo_181 rfl hl (by decide) rfl (fun ls hl => ?_)
        refine lv_aload_n hx hb dX6_comesTo_182 rfl (lv_at hl 1 rfl) ?_
        refine tw_aget (k := 26) C hP (by decide) (by decide) q1402 dX6_comesTo_183 ?_
        refine lv_bipush (v := (24 : Int32)) hx hb dX6_comesTo_186 (by decide) ?_
        refine lv_iload_n hx hb dX6_comesTo_188 rfl (lv_at hl 2 rfl) ?_
        refine lv_imul hx hb dX6_comesTo_189 ?_
        refine lv_iconst (v := (4 : Int32)) hx hb dX6_comesTo_190 (by decide) ?_
        refine lv_iadd hx hb dX6_comesTo_191 ?_
        refine lv_iload_n hx hb dX6_comesTo_192 rfl (lv_at hl 0 rfl) ?_
        refine lv_aload_n hx hb dX6_comesTo_193 rfl (lv_at hl 1 rfl) ?_
        refine tw_aget (k := 26) C hP (by decide) (by decide) q1402 dX6_comesTo_194 ?_
        refine lv_bipush (v := (24 : Int32)) hx hb dX6_comesTo_197 (by decide) ?_
        refine lv_iload_n hx hb dX6_comesTo_199 rfl (lv_at hl 2 rfl) ?_
        refine lv_imul hx hb dX6_comesTo_200 ?_
        refine lv_iconst (v := (4 : Int32)) hx hb dX6_comesTo_201 (by decide) ?_
        refine lv_iadd hx hb dX6_comesTo_202 ?_
        obtain ⟨x8, t9, e10, hf⟩ := tw_bdE hf
        refine tw_iald C hP e10 dX6_comesTo_203 (fun hP => ?_)
        have k222 : ∀ (w222_0 : Int32) (t11 : TS) (H : Heap) (locs : List Loc) (ls : Array Slot), tw_P D dA o ad t11 H → va_S A s.heap H locs → lv_has ls 6 [] → fm_comesTo_J222 a1 w222_0 t11 = some (r, tZ) → W p l e (headSpec (ws_ yX6_comesTo cX6_comesTo 6 (none)) ({ frames := 2, cells := 0, slots := 0, locals := 35 })).room s m ([.ref o, .int a1] : List Value).toArray below meth c H locs 0 0 (MQ below (tw_Qv D dA o ad A tZ) ([.ref o, .int a1] : List Value).toArray s 0 0 A) (F0 m 222 ls [.int w222_0, .int (((24 : Int32) * a1) + (4 : Int32)), .ref (ad 26)]) := by
          intro w222_0 t11 H locs ls hP hS hl hf
          unfold fm_comesTo_J222 at hf
          obtain ⟨x12, t13, e14, hf⟩ := tw_bdE hf
          refine tw_iast C hP hS e14 dX6_comesTo_222 (fun H locs hP hS => ?_)
          exact tw_iretv (tw_rtE hf).2 C hr hP hS hlk dX6_comesTo_223
        refine lv_icmp_le (tgt := 211) hx hb dX6_comesTo_204 (by decide) (fun hc => ?_) (fun hc => ?_)
        · have hf := tw_ifT hc hf
          refine lv_aload_n hx hb dX6_comesTo_211 rfl (lv_at hl 1 rfl) ?_
          refine tw_aget (k := 26) C hP (by decide) (by decide) q1402 dX6_comesTo_212 ?_
          refine lv_bipush (v := (24 : Int32)) hx hb dX6_comesTo_215 (by decide) ?_
          refine lv_iload_n hx hb dX6_comesTo_217 rfl (lv_at hl 2 rfl) ?_
          refine lv_imul hx hb dX6_comesTo_218 ?_
          refine lv_iconst (v := (4 : Int32)) hx hb dX6_comesTo_219 (by decide) ?_
          refine lv_iadd hx hb dX6_comesTo_220 ?_
          obtain ⟨x15, t16, e17, hf⟩ := tw_bdE hf
          refine tw_iald C hP e17 dX6_comesTo_221 (fun hP => ?_)
          exact k222 _ _ _ _ _ hP hS (lv_sub hl [] rfl) hf
        · have hf := tw_ifF hc hf
          refine lv_iload_n hx hb dX6_comesTo_207 rfl (lv_at hl 0 rfl) ?_
          refine lv_goto (tgt := 222) hx hb dX6_comesTo_208 (by decide) ?_
          exact k222 _ _ _ _ _ hP hS (lv_sub hl [] rfl) hf
      · have hf := tw_ifF hc hf
        refine lv_aload_n hx hb dX6_comesTo_10 rfl (lv_at hl 0 rfl) ?_
        refine tw_aget (k := 34) C hP (by decide) (by decide) q1410 dX6_comesTo_11 ?_
        refine lv_bipush (v := (8 : Int32)) hx hb dX6_comesTo_14 (by decide) ?_
        refine lv_iload_n hx hb dX6_comesTo_16 rfl (lv_at hl 1 rfl) ?_
        refine lv_imul hx hb dX6_comesTo_17 ?_
        refine lv_iload_n hx hb dX6_comesTo_18 rfl (lv_at hl 2 rfl) ?_
        refine lv_iadd hx hb dX6_comesTo_19 ?_
        obtain ⟨x18, t19, e20, hf⟩ := tw_bdE hf
        refine tw_iald C hP e20 dX6_comesTo_20 (fun hP => ?_)
        refine lv_istore_n (lv' := [(3, .int x18), (0, .ref o), (1, .int a1), (2, .int v2_2)]) hx hb dX6_comesTo_21 rfl hl (by decide) rfl (fun ls hl => ?_)
        refine lv_iload_n hx hb dX6_comesTo_22 rfl (lv_at hl 0 rfl) ?_
        have k170 : ∀  (t21 : TS) (H : Heap) (locs : List Loc) (ls : Array Slot), tw_P D dA o ad t21 H → va_S A s.heap H locs → lv_has ls 6 [(0, .ref o), (1, .int a1), (2, .int v2_2)] → fm_comesTo_J170 sf2 v2_2  t21 = some (r, tZ) → W p l e (headSpec (ws_ yX6_comesTo cX6_comesTo 6 (none)) ({ frames := 2, cells := 0, slots := 0, locals := 35 })).room s m ([.ref o, .int a1] : List Value).toArray below meth c H locs 0 0 (MQ below (tw_Qv D dA o ad A tZ) ([.ref o, .int a1] : List Value).toArray s 0 0 A) (F0 m 170 ls []) := by
          intro t21 H locs ls hP hS hl hf
          unfold fm_comesTo_J170 at hf
          refine lv_iinc (v := (v2_2 + (1 : Int32))) (lv' := [(2, .int (v2_2 + (1 : Int32))), (0, .ref o), (1, .int a1)]) hx hb dX6_comesTo_170 hl (k := 2) rfl rfl (by decide) rfl (fun ls hl => ?_)
          refine lv_goto (tgt := 2) hx hb dX6_comesTo_173 (by decide) ?_
          exact ih2 _ _ _ _ _ hP hS (lv_sub hl [1, 2, 0] rfl) hf
        refine lv_if_ne (tgt := 29) hx hb dX6_comesTo_23 (by decide) (fun hc => ?_) (fun hc => ?_)
        · have hf := tw_ifF hc hf
          refine lv_aload_n hx hb dX6_comesTo_29 rfl (lv_at hl 1 rfl) ?_
          refine lv_iload_n hx hb dX6_comesTo_30 rfl (lv_at hl 3 rfl) ?_
          refine lv_iload_n hx hb dX6_comesTo_31 rfl (lv_at hl 2 rfl) ?_
          obtain ⟨x22, t23, e24, hf⟩ := tw_bdE hf
          refine tw_cVi (As := [.int v2_2, .int a1]) (rest := []) C hml hP hS (mm_hopOf (l := l) (X := X) (D := D) (dA := dA) hD _ _ _ _ _ e24) (cwV 2 hts (lw_V q1675 q1677 qs68 q106 q1678) rfl rfl rfl hdX6_hopOf ⟨Nat.le_of_ble_eq_true rfl, Nat.le_of_ble_eq_true rfl⟩) rfl hl.1 rfl (Nat.le_of_ble_eq_true rfl) dX6_comesTo_32 (fun H locs hP hS => ?_)
          refine lv_aload_n hx hb dX6_comesTo_35 rfl (lv_at hl 1 rfl) ?_
          refine tw_aget (k := 14) C hP (by decide) (by decide) q1390 dX6_comesTo_36 ?_
          refine lv_iload_n hx hb dX6_comesTo_39 rfl (lv_at hl 3 rfl) ?_
          obtain ⟨x25, t26, e27, hf⟩ := tw_bdE hf
          refine tw_iald C hP e27 dX6_comesTo_40 (fun hP => ?_)
          refine lv_iconst (v := (1 : Int32)) hx hb dX6_comesTo_41 (by decide) ?_
          refine lv_isub hx hb dX6_comesTo_42 ?_
          refine lv_icmp_ne (tgt := 64) hx hb dX6_comesTo_43 (by decide) (fun hc => ?_) (fun hc => ?_)
          · have hf := tw_ifF hc hf
            refine lv_aload_n hx hb dX6_comesTo_64 rfl (lv_at hl 1 rfl) ?_
            refine tw_aget (k := 26) C hP (by decide) (by decide) q1402 dX6_comesTo_65 ?_
            refine lv_bipush (v := (24 : Int32)) hx hb dX6_comesTo_68 (by decide) ?_
            refine lv_iload_n hx hb dX6_comesTo_70 rfl (lv_at hl 2 rfl) ?_
            refine lv_imul hx hb dX6_comesTo_71 ?_
            refine lv_iconst (v := (2 : Int32)) hx hb dX6_comesTo_72 (by decide) ?_
            refine lv_iadd hx hb dX6_comesTo_73 ?_
            obtain ⟨x28, t29, e30, hf⟩ := tw_bdE hf
            refine tw_iald C hP e30 dX6_comesTo_74 (fun hP => ?_)
            refine lv_aload_n hx hb dX6_comesTo_75 rfl (lv_at hl 1 rfl) ?_
            refine lv_iload_n hx hb dX6_comesTo_76 rfl (lv_at hl 2 rfl) ?_
            obtain ⟨x31, t32, e33, hf⟩ := tw_bdE hf
            refine tw_cVi (As := [.int a1]) (rest := [.int x28]) C hml hP hS (mm_queueOf (l := l) (X := X) (D := D) (dA := dA) hD _ _ _ _ e33) (cwV 1 hts (lw_V q1691 q1693 qs72 q106 q1694) rfl rfl rfl hdX6_queueOf ⟨Nat.le_of_ble_eq_true rfl, Nat.le_of_ble_eq_true rfl⟩) rfl hl.1 rfl (Nat.le_of_ble_eq_true rfl) dX6_comesTo_77 (fun H locs hP hS => ?_)
            refine lv_isub hx hb dX6_comesTo_80 ?_
            refine lv_istore (lv' := [(4, .int (x28 - x31)), (3, .int x18), (0, .ref o), (1, .int a1), (2, .int v2_2)]) hx hb dX6_comesTo_81 hl (by decide) rfl (fun ls hl => ?_)
            refine lv_iload_n hx hb dX6_comesTo_83 rfl (lv_at hl 1 rfl) ?_
            refine lv_iconst (v := (0 : Int32)) hx hb dX6_comesTo_84 (by decide) ?_
            refine lv_iload hx hb dX6_comesTo_85 (lv_at hl 0 rfl) ?_
            have k96 : ∀ (w96_0 : Int32) (t34 : TS) (H : Heap) (locs : List Loc) (ls : Array Slot), tw_P D dA o ad t34 H → va_S A s.heap H locs → lv_has ls 6 [(0, .ref o), (1, .int a1), (2, .int v2_2), (3, .int x18)] → fm_comesTo_J96 x18 a1 v2_2 sf2 w96_0 t34 = some (r, tZ) → W p l e (headSpec (ws_ yX6_comesTo cX6_comesTo 6 (none)) ({ frames := 2, cells := 0, slots := 0, locals := 35 })).room s m ([.ref o, .int a1] : List Value).toArray below meth c H locs 0 0 (MQ below (tw_Qv D dA o ad A tZ) ([.ref o, .int a1] : List Value).toArray s 0 0 A) (F0 m 96 ls [.int w96_0, .int (0 : Int32), .int x18]) := by
              intro w96_0 t34 H locs ls hP hS hl hf
              unfold fm_comesTo_J96 at hf
              obtain ⟨x35, t36, e37, hf⟩ := tw_bdE hf
              refine tw_cSi (As := [.int x18, .int (0 : Int32), .int w96_0]) (rest := []) C hml hP hS (mm_within (l := l) (X := X) (D := D) (dA := dA) hD _ _ _ _ _ _ e37) (va_cwS 3 hts (lw_S q1668 q1669 q106 q1670) rfl rfl rfl hdX6_within ⟨Nat.le_of_ble_eq_true rfl, Nat.le_of_ble_eq_true rfl⟩) rfl hl.1 rfl (Nat.le_of_ble_eq_true rfl) dX6_comesTo_96 (fun H locs hP hS => ?_)
              refine lv_istore (lv' := [(5, .int x35), (0, .ref o), (1, .int a1), (2, .int v2_2), (3, .int x18)]) hx hb dX6_comesTo_99 hl (by decide) rfl (fun ls hl => ?_)
              refine lv_aload_n hx hb dX6_comesTo_101 rfl (lv_at hl 1 rfl) ?_
              refine tw_aget (k := 26) C hP (by decide) (by decide) q1402 dX6_comesTo_102 ?_
              refine lv_bipush (v := (24 : Int32)) hx hb dX6_comesTo_105 (by decide) ?_
              refine lv_iload_n hx hb dX6_comesTo_107 rfl (lv_at hl 2 rfl) ?_
              refine lv_imul hx hb dX6_comesTo_108 ?_
              refine lv_bipush (v := (15 : Int32)) hx hb dX6_comesTo_109 (by decide) ?_
              refine lv_iadd hx hb dX6_comesTo_111 ?_
              refine lv_iload_n hx hb dX6_comesTo_112 rfl (lv_at hl 3 rfl) ?_
              refine lv_iadd hx hb dX6_comesTo_113 ?_
              refine lv_dup2_11 hx hb dX6_comesTo_114 rfl rfl ?_
              obtain ⟨x38, t39, e40, hf⟩ := tw_bdE hf
              refine tw_iald C hP e40 dX6_comesTo_115 (fun hP => ?_)
              refine lv_iload hx hb dX6_comesTo_116 (lv_at hl 0 rfl) ?_
              refine lv_iadd hx hb dX6_comesTo_118 ?_
              obtain ⟨x41, t42, e43, hf⟩ := tw_bdE hf
              refine tw_iast C hP hS e43 dX6_comesTo_119 (fun H locs hP hS => ?_)
              refine lv_aload_n hx hb dX6_comesTo_120 rfl (lv_at hl 1 rfl) ?_
              refine tw_aget (k := 35) C hP (by decide) (by decide) q1411 dX6_comesTo_121 ?_
              refine lv_bipush (v := (8 : Int32)) hx hb dX6_comesTo_124 (by decide) ?_
              refine lv_iload_n hx hb dX6_comesTo_126 rfl (lv_at hl 2 rfl) ?_
              refine lv_imul hx hb dX6_comesTo_127 ?_
              refine lv_iload_n hx hb dX6_comesTo_128 rfl (lv_at hl 3 rfl) ?_
              refine lv_iadd hx hb dX6_comesTo_129 ?_
              refine lv_iload hx hb dX6_comesTo_130 (lv_at hl 0 rfl) ?_
              obtain ⟨x44, t45, e46, hf⟩ := tw_bdE hf
              refine tw_iast C hP hS e46 dX6_comesTo_132 (fun H locs hP hS => ?_)
              refine lv_aload_n hx hb dX6_comesTo_133 rfl (lv_at hl 1 rfl) ?_
              refine tw_aget (k := 26) C hP (by decide) (by decide) q1402 dX6_comesTo_134 ?_
              refine lv_bipush (v := (24 : Int32)) hx hb dX6_comesTo_137 (by decide) ?_
              refine lv_iload_n hx hb dX6_comesTo_139 rfl (lv_at hl 2 rfl) ?_
              refine lv_imul hx hb dX6_comesTo_140 ?_
              refine lv_iconst (v := (3 : Int32)) hx hb dX6_comesTo_141 (by decide) ?_
              refine lv_iadd hx hb dX6_comesTo_142 ?_
              refine lv_dup2_11 hx hb dX6_comesTo_143 rfl rfl ?_
              obtain ⟨x47, t48, e49, hf⟩ := tw_bdE hf
              refine tw_iald C hP e49 dX6_comesTo_144 (fun hP => ?_)
              refine lv_iload_n hx hb dX6_comesTo_145 rfl (lv_at hl 4 rfl) ?_
              refine lv_iload hx hb dX6_comesTo_146 (lv_at hl 0 rfl) ?_
              refine lv_isub hx hb dX6_comesTo_148 ?_
              refine lv_iadd hx hb dX6_comesTo_149 ?_
              obtain ⟨x50, t51, e52, hf⟩ := tw_bdE hf
              refine tw_iast C hP hS e52 dX6_comesTo_150 (fun H locs hP hS => ?_)
              refine lv_aload_n hx hb dX6_comesTo_151 rfl (lv_at hl 1 rfl) ?_
              refine tw_aget (k := 26) C hP (by decide) (by decide) q1402 dX6_comesTo_152 ?_
              refine lv_iload_n hx hb dX6_comesTo_155 rfl (lv_at hl 3 rfl) ?_
              obtain ⟨x53, t54, e55, hf⟩ := tw_bdE hf
              refine tw_cSi (As := [.int v2_2]) (rest := [.ref (ad 26)]) C hml hP hS (mm_flowAt (l := l) (X := X) (D := D) (dA := dA) hD _ _ _ _ e55) (va_cwS 1 hts (lw_S q1661 q1662 q106 q1663) rfl rfl rfl hdX6_flowAt ⟨Nat.le_of_ble_eq_true rfl, Nat.le_of_ble_eq_true rfl⟩) rfl hl.1 rfl (Nat.le_of_ble_eq_true rfl) dX6_comesTo_156 (fun H locs hP hS => ?_)
              refine lv_bipush (v := (11 : Int32)) hx hb dX6_comesTo_159 (by decide) ?_
              refine lv_iadd hx hb dX6_comesTo_161 ?_
              refine lv_dup2_11 hx hb dX6_comesTo_162 rfl rfl ?_
              obtain ⟨x56, t57, e58, hf⟩ := tw_bdE hf
              refine tw_iald C hP e58 dX6_comesTo_163 (fun hP => ?_)
              refine lv_iload_n hx hb dX6_comesTo_164 rfl (lv_at hl 4 rfl) ?_
              refine lv_iload hx hb dX6_comesTo_165 (lv_at hl 0 rfl) ?_
              refine lv_isub hx hb dX6_comesTo_167 ?_
              refine lv_iadd hx hb dX6_comesTo_168 ?_
              obtain ⟨x59, t60, e61, hf⟩ := tw_bdE hf
              refine tw_iast C hP hS e61 dX6_comesTo_169 (fun H locs hP hS => ?_)
              exact k170 _ _ _ _ hP hS (lv_sub hl [1, 2, 3] rfl) hf
            refine lv_if_le (tgt := 95) hx hb dX6_comesTo_87 (by decide) (fun hc => ?_) (fun hc => ?_)
            · have hf := tw_ifT hc hf
              refine lv_iconst (v := (0 : Int32)) hx hb dX6_comesTo_95 (by decide) ?_
              exact k96 _ _ _ _ _ hP hS (lv_sub hl [2, 3, 4, 1] rfl) hf
            · have hf := tw_ifF hc hf
              refine lv_iload hx hb dX6_comesTo_90 (lv_at hl 0 rfl) ?_
              refine lv_goto (tgt := 96) hx hb dX6_comesTo_92 (by decide) ?_
              exact k96 _ _ _ _ _ hP hS (lv_sub hl [2, 3, 4, 1] rfl) hf
          · have hf := tw_ifT hc hf
            refine lv_aload_n hx hb dX6_comesTo_46 rfl (lv_at hl 1 rfl) ?_
            refine tw_aget (k := 26) C hP (by decide) (by decide) q1402 dX6_comesTo_47 ?_
            refine lv_iload_n hx hb dX6_comesTo_50 rfl (lv_at hl 3 rfl) ?_
            obtain ⟨x62, t63, e64, hf⟩ := tw_bdE hf
            refine tw_cSi (As := [.int v2_2]) (rest := [.ref (ad 26)]) C hml hP hS (mm_flowAt (l := l) (X := X) (D := D) (dA := dA) hD _ _ _ _ e64) (va_cwS 1 hts (lw_S q1661 q1662 q106 q1663) rfl rfl rfl hdX6_flowAt ⟨Nat.le_of_ble_eq_true rfl, Nat.le_of_ble_eq_true rfl⟩) rfl hl.1 rfl (Nat.le_of_ble_eq_true rfl) dX6_comesTo_51 (fun H locs hP hS => ?_)
            refine lv_iconst (v := (5 : Int32)) hx hb dX6_comesTo_54 (by decide) ?_
            refine lv_iadd hx hb dX6_comesTo_55 ?_
            refine lv_dup2_11 hx hb dX6_comesTo_56 rfl rfl ?_
            obtain ⟨x65, t66, e67, hf⟩ := tw_bdE hf
            refine tw_iald C hP e67 dX6_comesTo_57 (fun hP => ?_)
            refine lv_iload_n hx hb dX6_comesTo_58 rfl (lv_at hl 0 rfl) ?_
            refine lv_iadd hx hb dX6_comesTo_59 ?_
            obtain ⟨x68, t69, e70, hf⟩ := tw_bdE hf
            refine tw_iast C hP hS e70 dX6_comesTo_60 (fun H locs hP hS => ?_)
            refine lv_goto (tgt := 170) hx hb dX6_comesTo_61 (by decide) ?_
            exact k170 _ _ _ _ hP hS (lv_sub hl [1, 2, 3] rfl) hf
        · have hf := tw_ifT hc hf
          refine lv_goto (tgt := 170) hx hb dX6_comesTo_26 (by decide) ?_
          exact k170 _ _ _ _ hP hS (lv_sub hl [1, 2, 3] rfl) hf
  exact k2 _ _ _ _ _ _ hP hS (lv_sub hl [1, 2, 0] rfl) hf