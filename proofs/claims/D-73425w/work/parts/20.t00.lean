def fm_reads (a1 : Int32) (a2 : Int32) : TM Unit :=
   tw_bd (tw_st 3 ((9 : Int32) + a1) a2) fun _ =>
  tw_rt ()
theorem hdX6_reads : yX6_reads.cls = "LosslessFabricModel" ∧ (yX6_reads.cls ≠ "java/lang/invoke/MethodHandle" ∧ yX6_reads.cls ≠ "java/lang/invoke/VarHandle" ∧ (parseMethodDescriptor yX6_reads.desc).map (fun d => d.parameters.length) = some 2) := by decide +kernel
set_option maxHeartbeats 4000000 in
theorem mm_reads {l : Launch} {X : (Nat → Nat) × (Nat → Nat) × Nat} {D : va_G} {dA : Nat → ClassId} {o : Nat} {ad : Nat → Nat} {A : Nat → Prop} (hD : tw_D o ad A) (a1 : Int32) (a2 : Int32) (t0 tZ : TS) (r : Unit) (hf : fm_reads a1 a2 t0 = some (r, tZ)) : Met l yX6_reads (ws_ yX6_reads cX6_reads 3 (none)) ({ frames := 1, cells := 0, slots := 0, locals := 12 }) (va_Pc [.ref o, .int a1, .int a2] (tw_W X A D dA o ad t0)) (tw_Qv D dA o ad A tZ) 0 0 A := by
  refine Met.ofW (cc := cX6_reads) (maxL := 3) (ret := none) (by decide) rfl ?_
  intro p e s m args below meth c s₁ B hml hv
  obtain ⟨rfl, hP, hK, hX⟩ := hv
  have hx := B.exec
  have hb := B.bytes
  have hr := B.returns
  have hts := atoms_spec (ws := (ws_ yX6_reads cX6_reads 3 (none))) B.pre
  have hts : ∀ w ∈ lw_all, w.before _ s = true := fun w h => hts w (List.mem_cons_of_mem _ h)
  have hown : s.vm.findClass "LosslessFabricModel" = some m.cls := findClass_of_methodNamed B.named
  have hlk := B.notSynchronized
  have C : tw_C X p s m _ c cX6_reads D dA o ad A := ⟨hx, hb, hts, hown, hK, hD, hX⟩
  have hS : va_S A s.heap s.heap [] := va_S.rf
  have hl := lv_entry ([.ref o, .int a1, .int a2]) (n := 3) (Nat.le_of_ble_eq_true rfl)
  rw [lg_entry_eq]
  generalize (lg_sl ([.ref o, .int a1, .int a2]) ++ List.replicate (3 - (lg_sl ([.ref o, .int a1, .int a2])).length) Slot.unset).toArray = ls at hl ⊢
  have hl : lv_has ls 3 [(0, .ref o), (1, .int a1), (2, .int a2)] := hl
  unfold fm_reads at hf
  refine lv_aload_n hx hb dX6_reads_0 rfl (lv_at hl 0 rfl) ?_
  refine tw_aget (k := 3) C hP (by decide) (by decide) q1379 dX6_reads_1 ?_
  refine lv_bipush (v := (9 : Int32)) hx hb dX6_reads_4 (by decide) ?_
  refine lv_iload_n hx hb dX6_reads_6 rfl (lv_at hl 1 rfl) ?_
  refine lv_iadd hx hb dX6_reads_7 ?_
  refine lv_iload_n hx hb dX6_reads_8 rfl (lv_at hl 2 rfl) ?_
  obtain ⟨x1, t2, e3, hf⟩ := tw_bdE hf
  refine tw_iast C hP hS e3 dX6_reads_9 (fun H locs hP hS => ?_)
  exact tw_iretv (tw_rtE hf).2 C hr hP hS hlk dX6_reads_10
def fm_freshText_L64  (sf64 : Int32 → TM Unit) (v64_1 : Int32) : TM Unit :=
  if (6 : Int32) ≤ v64_1 then (tw_rt ())
  else ( tw_bd (tw_sz 4 v64_1 (0 : Int32)) fun _ =>
 
  sf64 (v64_1 + (1 : Int32)))
def fm_freshText_L2  (sf2 : Int32 → TM Unit) (v2_1 : Int32) : TM Unit :=
  if (9 : Int32) ≤ v2_1 then (tw_bd (fm_reads (2 : Int32) (20 : Int32)) fun _ =>
  tw_bd (fm_reads (3 : Int32) (26 : Int32)) fun _ =>
  tw_bd (fm_reads (4 : Int32) (2 : Int32)) fun _ =>
  tw_bd (fm_reads (5 : Int32) (50 : Int32)) fun _ =>
  tw_bd (fm_reads (6 : Int32) (10 : Int32)) fun _ =>
  tw_bd (fm_reads (7 : Int32) (4 : Int32)) fun _ =>
 
  tw_lp (fm_freshText_L64) (fun _ _ => none) tw_fu (0 : Int32))
  else (tw_bd (fm_reads v2_1 (0 : Int32)) fun _ =>
 
  sf2 (v2_1 + (1 : Int32)))
def fm_freshText  : TM Unit :=
  tw_lp (fm_freshText_L2) (fun _ _ => none) tw_fu (0 : Int32)
theorem hdX6_freshText : yX6_freshText.cls = "LosslessFabricModel" ∧ (yX6_freshText.cls ≠ "java/lang/invoke/MethodHandle" ∧ yX6_freshText.cls ≠ "java/lang/invoke/VarHandle" ∧ (parseMethodDescriptor yX6_freshText.desc).map (fun d => d.parameters.length) = some 0) := by decide +kernel
set_option maxHeartbeats 4000000 in
theorem mm_freshText {l : Launch} {X : (Nat → Nat) × (Nat → Nat) × Nat} {D : va_G} {dA : Nat → ClassId} {o : Nat} {ad : Nat → Nat} {A : Nat → Prop} (hD : tw_D o ad A)  (t0 tZ : TS) (r : Unit) (hf : fm_freshText  t0 = some (r, tZ)) : Met l yX6_freshText (ws_ yX6_freshText cX6_freshText 2 (none)) ({ frames := 2, cells := 0, slots := 0, locals := 34 }) (va_Pc [.ref o] (tw_W X A D dA o ad t0)) (tw_Qv D dA o ad A tZ) 0 0 A := by
  refine Met.ofW (cc := cX6_freshText) (maxL := 2) (ret := none) (by decide) rfl ?_
  intro p e s m args below meth c s₁ B hml hv
  obtain ⟨rfl, hP, hK, hX⟩ := hv
  have hx := B.exec
  have hb := B.bytes
  have hr := B.returns
  have hts := atoms_spec (ws := (ws_ yX6_freshText cX6_freshText 2 (none))) B.pre
  have hts : ∀ w ∈ lw_all, w.before _ s = true := fun w h => hts w (List.mem_cons_of_mem _ h)
  have hown : s.vm.findClass "LosslessFabricModel" = some m.cls := findClass_of_methodNamed B.named
  have hlk := B.notSynchronized
  have C : tw_C X p s m _ c cX6_freshText D dA o ad A := ⟨hx, hb, hts, hown, hK, hD, hX⟩
  have hS : va_S A s.heap s.heap [] := va_S.rf
  have hl := lv_entry ([.ref o]) (n := 2) (Nat.le_of_ble_eq_true rfl)
  rw [lg_entry_eq]
  generalize (lg_sl ([.ref o]) ++ List.replicate (2 - (lg_sl ([.ref o])).length) Slot.unset).toArray = ls at hl ⊢
  have hl : lv_has ls 2 [(0, .ref o)] := hl
  unfold fm_freshText at hf
  refine lv_iconst (v := (0 : Int32)) hx hb dX6_freshText_0 (by decide) ?_
  refine lv_istore_n (lv' := [(1, .int (0 : Int32)), (0, .ref o)]) hx hb dX6_freshText_1 rfl hl (by decide) rfl (fun ls hl => ?_)
  have k2 : ∀ (n : Nat) (v2_1 : Int32) (t1 : TS) (H : Heap) (locs : List Loc) (ls : Array Slot), tw_P D dA o ad t1 H → va_S A s.heap H locs → lv_has ls 2 [(0, .ref o), (1, .int v2_1)] → tw_lp (fm_freshText_L2) (fun _ _ => none) n v2_1 t1 = some (r, tZ) → W p l e (headSpec (ws_ yX6_freshText cX6_freshText 2 (none)) ({ frames := 2, cells := 0, slots := 0, locals := 34 })).room s m ([.ref o] : List Value).toArray below meth c H locs 0 0 (MQ below (tw_Qv D dA o ad A tZ) ([.ref o] : List Value).toArray s 0 0 A) (F0 m 2 ls []) := by
    intro n
    induction n with
    | zero => intro v2_1 t1 H locs ls hP hS hl hf; exact (tw_no hf).elim
    | succ n ih2 =>
      intro v2_1 t1 H locs ls hP hS hl hf
      obtain ⟨sf2, hs2⟩ : ∃ f, f = tw_lp (fm_freshText_L2) (fun _ _ => none) n := ⟨_, rfl⟩
      rw [← hs2] at ih2
      have hf : fm_freshText_L2 sf2 v2_1 t1 = some (r, tZ) := by rw [hs2]; exact hf
      clear hs2
      unfold fm_freshText_L2 at hf
      refine lv_iload_n hx hb dX6_freshText_2 rfl (lv_at hl 1 rfl) ?_
      refine lv_bipush (v := (9 : Int32)) hx hb dX6_freshText_3 (by decide) ?_
      refine lv_icmp_ge (tgt := 20) hx hb dX6_freshText_5 (by decide) (fun hc => ?_) (fun hc => ?_)
      · have hf := tw_ifT hc hf
        refine lv_aload_n hx hb dX6_freshText_20 rfl (lv_at hl 0 rfl) ?_
        refine lv_iconst (v := (2 : Int32)) hx hb dX6_freshText_21 (by decide) ?_
        refine lv_bipush (v := (20 : Int32)) hx hb dX6_freshText_22 (by decide) ?_
        obtain ⟨x2, t3, e4, hf⟩ := tw_bdE hf
        refine tw_cVv (As := [.int (2 : Int32), .int (20 : Int32)]) (rest := []) C hml hP hS (mm_reads (l := l) (X := X) (D := D) (dA := dA) hD _ _ _ _ _ e4) (cwV 2 hts (lw_V q1352 q1354 qs39 q106 q1355) rfl rfl rfl hdX6_reads ⟨Nat.le_of_ble_eq_true rfl, Nat.le_of_ble_eq_true rfl⟩) rfl hl.1 rfl (Nat.le_of_ble_eq_true rfl) dX6_freshText_24 (fun H locs hP hS => ?_)
        refine lv_aload_n hx hb dX6_freshText_27 rfl (lv_at hl 0 rfl) ?_
        refine lv_iconst (v := (3 : Int32)) hx hb dX6_freshText_28 (by decide) ?_
        refine lv_bipush (v := (26 : Int32)) hx hb dX6_freshText_29 (by decide) ?_
        obtain ⟨x5, t6, e7, hf⟩ := tw_bdE hf
        refine tw_cVv (As := [.int (3 : Int32), .int (26 : Int32)]) (rest := []) C hml hP hS (mm_reads (l := l) (X := X) (D := D) (dA := dA) hD _ _ _ _ _ e7) (cwV 2 hts (lw_V q1352 q1354 qs39 q106 q1355) rfl rfl rfl hdX6_reads ⟨Nat.le_of_ble_eq_true rfl, Nat.le_of_ble_eq_true rfl⟩) rfl hl.1 rfl (Nat.le_of_ble_eq_true rfl) dX6_freshText_31 (fun H locs hP hS => ?_)
        refine lv_aload_n hx hb dX6_freshText_34 rfl (lv_at hl 0 rfl) ?_
        refine lv_iconst (v := (4 : Int32)) hx hb dX6_freshText_35 (by decide) ?_
        refine lv_iconst (v := (2 : Int32)) hx hb dX6_freshText_36 (by decide) ?_
        obtain ⟨x8, t9, e10, hf⟩ := tw_bdE hf
        refine tw_cVv (As := [.int (4 : Int32), .int (2 : Int32)]) (rest := []) C hml hP hS (mm_reads (l := l) (X := X) (D := D) (dA := dA) hD _ _ _ _ _ e10) (cwV 2 hts (lw_V q1352 q1354 qs39 q106 q1355) rfl rfl rfl hdX6_reads ⟨Nat.le_of_ble_eq_true rfl, Nat.le_of_ble_eq_true rfl⟩) rfl hl.1 rfl (Nat.le_of_ble_eq_true rfl) dX6_freshText_37 (fun H locs hP hS => ?_)
        refine lv_aload_n hx hb dX6_freshText_40 rfl (lv_at hl 0 rfl) ?_
        refine lv_iconst (v := (5 : Int32)) hx hb dX6_freshText_41 (by decide) ?_
        refine lv_bipush (v := (50 : Int32)) hx hb dX6_freshText_42 (by decide) ?_
        obtain ⟨x11, t12, e13, hf⟩ := tw_bdE hf
        refine tw_cVv (As := [.int (5 : Int32), .int (50 : Int32)]) (rest := []) C hml hP hS (mm_reads (l := l) (X := X) (D := D) (dA := dA) hD _ _ _ _ _ e13) (cwV 2 hts (lw_V q1352 q1354 qs39 q106 q1355) rfl rfl rfl hdX6_reads ⟨Nat.le_of_ble_eq_true rfl, Nat.le_of_ble_eq_true rfl⟩) rfl hl.1 rfl (Nat.le_of_ble_eq_true rfl) dX6_freshText_44 (fun H locs hP hS => ?_)
        refine lv_aload_n hx hb dX6_freshText_47 rfl (lv_at hl 0 rfl) ?_
        refine lv_bipush (v := (6 : Int32)) hx hb dX6_freshText_48 (by decide) ?_
        refine lv_bipush (v := (10 : Int32)) hx hb dX6_freshText_50 (by decide) ?_
        obtain ⟨x14, t15, e16, hf⟩ := tw_bdE hf
        refine tw_cVv (As := [.int (6 : Int32), .int (10 : Int32)]) (rest := []) C hml hP hS (mm_reads (l := l) (X := X) (D := D) (dA := dA) hD _ _ _ _ _ e16) (cwV 2 hts (lw_V q1352 q1354 qs39 q106 q1355) rfl rfl rfl hdX6_reads ⟨Nat.le_of_ble_eq_true rfl, Nat.le_of_ble_eq_true rfl⟩) rfl hl.1 rfl (Nat.le_of_ble_eq_true rfl) dX6_freshText_52 (fun H locs hP hS => ?_)
        refine lv_aload_n hx hb dX6_freshText_55 rfl (lv_at hl 0 rfl) ?_
        refine lv_bipush (v := (7 : Int32)) hx hb dX6_freshText_56 (by decide) ?_
        refine lv_iconst (v := (4 : Int32)) hx hb dX6_freshText_58 (by decide) ?_
        obtain ⟨x17, t18, e19, hf⟩ := tw_bdE hf
        refine tw_cVv (As := [.int (7 : Int32), .int (4 : Int32)]) (rest := []) C hml hP hS (mm_reads (l := l) (X := X) (D := D) (dA := dA) hD _ _ _ _ _ e19) (cwV 2 hts (lw_V q1352 q1354 qs39 q106 q1355) rfl rfl rfl hdX6_reads ⟨Nat.le_of_ble_eq_true rfl, Nat.le_of_ble_eq_true rfl⟩) rfl hl.1 rfl (Nat.le_of_ble_eq_true rfl) dX6_freshText_59 (fun H locs hP hS => ?_)
        refine lv_iconst (v := (0 : Int32)) hx hb dX6_freshText_62 (by decide) ?_
        refine lv_istore_n (lv' := [(1, .int (0 : Int32)), (0, .ref o)]) hx hb dX6_freshText_63 rfl hl (by decide) rfl (fun ls hl => ?_)
        have k64 : ∀ (n : Nat) (v64_1 : Int32) (t20 : TS) (H : Heap) (locs : List Loc) (ls : Array Slot), tw_P D dA o ad t20 H → va_S A s.heap H locs → lv_has ls 2 [(0, .ref o), (1, .int v64_1)] → tw_lp (fm_freshText_L64) (fun _ _ => none) n v64_1 t20 = some (r, tZ) → W p l e (headSpec (ws_ yX6_freshText cX6_freshText 2 (none)) ({ frames := 2, cells := 0, slots := 0, locals := 34 })).room s m ([.ref o] : List Value).toArray below meth c H locs 0 0 (MQ below (tw_Qv D dA o ad A tZ) ([.ref o] : List Value).toArray s 0 0 A) (F0 m 64 ls []) := by
          intro n
          induction n with
          | zero => intro v64_1 t20 H locs ls hP hS hl hf; exact (tw_no hf).elim
          | succ n ih64 =>
            intro v64_1 t20 H locs ls hP hS hl hf
            obtain ⟨sf64, hs64⟩ : ∃ f, f = tw_lp (fm_freshText_L64) (fun _ _ => none) n := ⟨_, rfl⟩
            rw [← hs64] at ih64
            have hf : fm_freshText_L64 sf64 v64_1 t20 = some (r, tZ) := by rw [hs64]; exact hf
            clear hs64
            unfold fm_freshText_L64 at hf
            refine lv_iload_n hx hb dX6_freshText_64 rfl (lv_at hl 1 rfl) ?_
            refine lv_bipush (v := (6 : Int32)) hx hb dX6_freshText_65 (by decide) ?_
            refine lv_icmp_ge (tgt := 83) hx hb dX6_freshText_67 (by decide) (fun hc => ?_) (fun hc => ?_)
            · have hf := tw_ifT hc hf
              exact tw_iretv (tw_rtE hf).2 C hr hP hS hlk dX6_freshText_83
            · have hf := tw_ifF hc hf
              refine lv_aload_n hx hb dX6_freshText_70 rfl (lv_at hl 0 rfl) ?_
              refine tw_aget (k := 4) C hP (by decide) (by decide) q1380 dX6_freshText_71 ?_
              refine lv_iload_n hx hb dX6_freshText_74 rfl (lv_at hl 1 rfl) ?_
              refine lv_iconst (v := (0 : Int32)) hx hb dX6_freshText_75 (by decide) ?_
              obtain ⟨x21, t22, e23, hf⟩ := tw_bdE hf
              refine tw_zast C hP hS e23 dX6_freshText_76 (fun H locs hP hS => ?_)
              refine lv_iinc (v := (v64_1 + (1 : Int32))) (lv' := [(1, .int (v64_1 + (1 : Int32))), (0, .ref o)]) hx hb dX6_freshText_77 hl (k := 1) rfl rfl (by decide) rfl (fun ls hl => ?_)
              refine lv_goto (tgt := 64) hx hb dX6_freshText_80 (by decide) ?_
              exact ih64 _ _ _ _ _ hP hS (lv_sub hl [1, 0] rfl) hf
        exact k64 _ _ _ _ _ _ hP hS (lv_sub hl [1, 0] rfl) hf
      · have hf := tw_ifF hc hf
        refine lv_aload_n hx hb dX6_freshText_8 rfl (lv_at hl 0 rfl) ?_
        refine lv_iload_n hx hb dX6_freshText_9 rfl (lv_at hl 1 rfl) ?_
        refine lv_iconst (v := (0 : Int32)) hx hb dX6_freshText_10 (by decide) ?_
        obtain ⟨x24, t25, e26, hf⟩ := tw_bdE hf
        refine tw_cVv (As := [.int v2_1, .int (0 : Int32)]) (rest := []) C hml hP hS (mm_reads (l := l) (X := X) (D := D) (dA := dA) hD _ _ _ _ _ e26) (cwV 2 hts (lw_V q1352 q1354 qs39 q106 q1355) rfl rfl rfl hdX6_reads ⟨Nat.le_of_ble_eq_true rfl, Nat.le_of_ble_eq_true rfl⟩) rfl hl.1 rfl (Nat.le_of_ble_eq_true rfl) dX6_freshText_11 (fun H locs hP hS => ?_)
        refine lv_iinc (v := (v2_1 + (1 : Int32))) (lv' := [(1, .int (v2_1 + (1 : Int32))), (0, .ref o)]) hx hb dX6_freshText_14 hl (k := 1) rfl rfl (by decide) rfl (fun ls hl => ?_)
        refine lv_goto (tgt := 2) hx hb dX6_freshText_17 (by decide) ?_
        exact ih2 _ _ _ _ _ hP hS (lv_sub hl [1, 0] rfl) hf
  exact k2 _ _ _ _ _ _ hP hS (lv_sub hl [1, 0] rfl) hf
def fm_reading (a1 : Int32) : TM Int32 :=
   tw_bd (tw_ld 3 ((9 : Int32) + a1)) fun x1 =>
  tw_rt x1
theorem hdX6_reading : yX6_reading.cls = "LosslessFabricModel" ∧ (yX6_reading.cls ≠ "java/lang/invoke/MethodHandle" ∧ yX6_reading.cls ≠ "java/lang/invoke/VarHandle" ∧ (parseMethodDescriptor yX6_reading.desc).map (fun d => d.parameters.length) = some 1) := by decide +kernel
set_option maxHeartbeats 4000000 in
theorem mm_reading {l : Launch} {X : (Nat → Nat) × (Nat → Nat) × Nat} {D : va_G} {dA : Nat → ClassId} {o : Nat} {ad : Nat → Nat} {A : Nat → Prop} (hD : tw_D o ad A) (a1 : Int32) (t0 tZ : TS) (r : Int32) (hf : fm_reading a1 t0 = some (r, tZ)) : Met l yX6_reading (ws_ yX6_reading cX6_reading 2 (some .int)) ({ frames := 1, cells := 0, slots := 0, locals := 12 }) (va_Pc [.ref o, .int a1] (tw_W X A D dA o ad t0)) (tw_Qi D dA o ad A r tZ) 0 0 A := by
  refine Met.ofW (cc := cX6_reading) (maxL := 2) (ret := some .int) (by decide) rfl ?_
  intro p e s m args below meth c s₁ B hml hv
  obtain ⟨rfl, hP, hK, hX⟩ := hv
  have hx := B.exec
  have hb := B.bytes
  have hr := B.returns
  have hts := atoms_spec (ws := (ws_ yX6_reading cX6_reading 2 (some .int))) B.pre
  have hts : ∀ w ∈ lw_all, w.before _ s = true := fun w h => hts w (List.mem_cons_of_mem _ h)
  have hown : s.vm.findClass "LosslessFabricModel" = some m.cls := findClass_of_methodNamed B.named
  have hlk := B.notSynchronized
  have C : tw_C X p s m _ c cX6_reading D dA o ad A := ⟨hx, hb, hts, hown, hK, hD, hX⟩
  have hS : va_S A s.heap s.heap [] := va_S.rf
  have hl := lv_entry ([.ref o, .int a1]) (n := 2) (Nat.le_of_ble_eq_true rfl)
  rw [lg_entry_eq]
  generalize (lg_sl ([.ref o, .int a1]) ++ List.replicate (2 - (lg_sl ([.ref o, .int a1])).length) Slot.unset).toArray = ls at hl ⊢
  have hl : lv_has ls 2 [(0, .ref o), (1, .int a1)] := hl
  unfold fm_reading at hf
  refine lv_aload_n hx hb dX6_reading_0 rfl (lv_at hl 0 rfl) ?_
  refine tw_aget (k := 3) C hP (by decide) (by decide) q1379 dX6_reading_1 ?_
  refine lv_bipush (v := (9 : Int32)) hx hb dX6_reading_4 (by decide) ?_
  refine lv_iload_n hx hb dX6_reading_6 rfl (lv_at hl 1 rfl) ?_
  refine lv_iadd hx hb dX6_reading_7 ?_
  obtain ⟨x1, t2, e3, hf⟩ := tw_bdE hf
  refine tw_iald C hP e3 dX6_reading_8 (fun hP => ?_)
  exact tw_ireti (tw_rtE hf).1 (tw_rtE hf).2 C hr hP hS hlk dX6_reading_9
def fm_takeText_L205  (sf205 : Int32 → TM Unit) (v205_1 : Int32) : TM Unit :=
  if (40 : Int32) ≤ v205_1 then (tw_rt ())
  else (  tw_bd (tw_ld 15 ((40 : Int32) + v205_1)) fun x5 =>
  tw_bd (tw_st 15 v205_1 x5) fun _ =>
 
  sf205 (v205_1 + (1 : Int32)))
def fm_takeText_L131  (sf131 : Int32 → TM Unit) (v131_1 : Int32) : TM Unit :=
  if (8 : Int32) ≤ v131_1 then (tw_lp (fm_takeText_L205) (fun _ _ => none) tw_fu (0 : Int32))
  else (  tw_bd (tw_ld 11 ((8 : Int32) + v131_1)) fun x11 =>
  tw_bd (tw_st 11 v131_1 x11) fun _ =>
    tw_bd (tw_ld 12 ((8 : Int32) + v131_1)) fun x17 =>
  tw_bd (tw_st 12 v131_1 x17) fun _ =>
    tw_bd (tw_lz 13 ((8 : Int32) + v131_1)) fun x23 =>
  tw_bd (tw_sz 13 v131_1 x23) fun _ =>
    tw_bd (tw_ld 14 ((8 : Int32) + v131_1)) fun x29 =>
  tw_bd (tw_st 14 v131_1 x29) fun _ =>
 
  sf131 (v131_1 + (1 : Int32)))
def fm_takeText_L27  (sf27 : Int32 → TM Unit) (v27_1 : Int32) : TM Unit :=
  if (10 : Int32) ≤ v27_1 then (tw_lp (fm_takeText_L131) (fun _ _ => none) tw_fu (0 : Int32))
  else (  tw_bd (tw_ld 5 ((10 : Int32) + v27_1)) fun x35 =>
  tw_bd (tw_st 5 v27_1 x35) fun _ =>
    tw_bd (tw_ld 6 ((10 : Int32) + v27_1)) fun x41 =>
  tw_bd (tw_st 6 v27_1 x41) fun _ =>
    tw_bd (tw_ld 7 ((10 : Int32) + v27_1)) fun x47 =>
  tw_bd (tw_st 7 v27_1 x47) fun _ =>
    tw_bd (tw_ld 8 ((10 : Int32) + v27_1)) fun x53 =>
  tw_bd (tw_st 8 v27_1 x53) fun _ =>
    tw_bd (tw_ld 9 ((10 : Int32) + v27_1)) fun x59 =>
  tw_bd (tw_st 9 v27_1 x59) fun _ =>
    tw_bd (tw_ld 10 ((10 : Int32) + v27_1)) fun x65 =>
  tw_bd (tw_st 10 v27_1 x65) fun _ =>
 
  sf27 (v27_1 + (1 : Int32)))
def fm_takeText_L2  (sf2 : Int32 → TM Unit) (v2_1 : Int32) : TM Unit :=
  if (9 : Int32) ≤ v2_1 then (tw_lp (fm_takeText_L27) (fun _ _ => none) tw_fu (0 : Int32))
  else ( tw_bd (fm_reading v2_1) fun x71 =>
  tw_bd (tw_st 3 v2_1 x71) fun _ =>
 
  sf2 (v2_1 + (1 : Int32)))
def fm_takeText  : TM Unit :=
  tw_lp (fm_takeText_L2) (fun _ _ => none) tw_fu (0 : Int32)
theorem hdX6_takeText : yX6_takeText.cls = "LosslessFabricModel" ∧ (yX6_takeText.cls ≠ "java/lang/invoke/MethodHandle" ∧ yX6_takeText.cls ≠ "java/lang/invoke/VarHandle" ∧ (parseMethodDescriptor yX6_takeText.desc).map (fun d => d.parameters.length) = some 0) := by decide +kernel
set_option maxHeartbeats 4000000 in
theorem mm_takeText {l : Launch} {X : (Nat → Nat) × (Nat → Nat) × Nat} {D : va_G} {dA : Nat → ClassId} {o : Nat} {ad : Nat → Nat} {A : Nat → Prop} (hD : tw_D o ad A)  (t0 tZ : TS) (r : Unit) (hf : fm_takeText  t0 = some (r, tZ)) : Met l yX6_takeText (ws_ yX6_takeText cX6_takeText 2 (none)) ({ frames := 2, cells := 0, slots := 0, locals := 33 }) (va_Pc [.ref o] (tw_W X A D dA o ad t0)) (tw_Qv D dA o ad A tZ) 0 0 A := by
  refine Met.ofW (cc := cX6_takeText) (maxL := 2) (ret := none) (by decide) rfl ?_
  intro p e s m args below meth c s₁ B hml hv
  obtain ⟨rfl, hP, hK, hX⟩ := hv
  have hx := B.exec
  have hb := B.bytes
  have hr := B.returns
  have hts := atoms_spec (ws := (ws_ yX6_takeText cX6_takeText 2 (none))) B.pre
  have hts : ∀ w ∈ lw_all, w.before _ s = true := fun w h => hts w (List.mem_cons_of_mem _ h)
  have hown : s.vm.findClass "LosslessFabricModel" = some m.cls := findClass_of_methodNamed B.named
  have hlk := B.notSynchronized
  have C : tw_C X p s m _ c cX6_takeText D dA o ad A := ⟨hx, hb, hts, hown, hK, hD, hX⟩
  have hS : va_S A s.heap s.heap [] := va_S.rf
  have hl := lv_entry ([.ref o]) (n := 2) (Nat.le_of_ble_eq_true rfl)
  rw [lg_entry_eq]
  generalize (lg_sl ([.ref o]) ++ List.replicate (2 - (lg_sl ([.ref o])).length) Slot.unset).toArray = ls at hl ⊢
  have hl : lv_has ls 2 [(0, .ref o)] := hl
  unfold fm_takeText at hf
  refine lv_iconst (v := (0 : Int32)) hx hb dX6_takeText_0 (by decide) ?_
  refine lv_istore_n (lv' := [(1, .int (0 : Int32)), (0, .ref o)]) hx hb dX6_takeText_1 rfl hl (by decide) rfl (fun ls hl => ?_)
  have k2 : ∀ (n : Nat) (v2_1 : Int32) (t1 : TS) (H : Heap) (locs : List Loc) (ls : Array Slot), tw_P D dA o ad t1 H → va_S A s.heap H locs → lv_has ls 2 [(0, .ref o), (1, .int v2_1)] → tw_lp (fm_takeText_L2) (fun _ _ => none) n v2_1 t1 = some (r, tZ) → W p l e (headSpec (ws_ yX6_takeText cX6_takeText 2 (none)) ({ frames := 2, cells := 0, slots := 0, locals := 33 })).room s m ([.ref o] : List Value).toArray below meth c H locs 0 0 (MQ below (tw_Qv D dA o ad A tZ) ([.ref o] : List Value).toArray s 0 0 A) (F0 m 2 ls []) := by
    intro n
    induction n with
    | zero => intro v2_1 t1 H locs ls hP hS hl hf; exact (tw_no hf).elim
    | succ n ih2 =>
      intro v2_1 t1 H locs ls hP hS hl hf
      obtain ⟨sf2, hs2⟩ : ∃ f, f = tw_lp (fm_takeText_L2) (fun _ _ => none) n := ⟨_, rfl⟩
      rw [← hs2] at ih2
      have hf : fm_takeText_L2 sf2 v2_1 t1 = some (r, tZ) := by rw [hs2]; exact hf
      clear hs2
      unfold fm_takeText_L2 at hf
      refine lv_iload_n hx hb dX6_takeText_2 rfl (lv_at hl 1 rfl) ?_
      refine lv_bipush (v := (9 : Int32)) hx hb dX6_takeText_3 (by decide) ?_
      refine lv_icmp_ge (tgt := 25) hx hb dX6_takeText_5 (by decide) (fun hc => ?_) (fun hc => ?_)
      · have hf := tw_ifT hc hf
        refine lv_iconst (v := (0 : Int32)) hx hb dX6_takeText_25 (by decide) ?_
        refine lv_istore_n (lv' := [(1, .int (0 : Int32)), (0, .ref o)]) hx hb dX6_takeText_26 rfl hl (by decide) rfl (fun ls hl => ?_)
        have k27 : ∀ (n : Nat) (v27_1 : Int32) (t2 : TS) (H : Heap) (locs : List Loc) (ls : Array Slot), tw_P D dA o ad t2 H → va_S A s.heap H locs → lv_has ls 2 [(0, .ref o), (1, .int v27_1)] → tw_lp (fm_takeText_L27) (fun _ _ => none) n v27_1 t2 = some (r, tZ) → W p l e (headSpec (ws_ yX6_takeText cX6_takeText 2 (none)) ({ frames := 2, cells := 0, slots := 0, locals := 33 })).room s m ([.ref o] : List Value).toArray below meth c H locs 0 0 (MQ below (tw_Qv D dA o ad A tZ) ([.ref o] : List Value).toArray s 0 0 A) (F0 m 27 ls []) := by
          intro n
          induction n with
          | zero => intro v27_1 t2 H locs ls hP hS hl hf; exact (tw_no hf).elim
          | succ n ih27 =>
            intro v27_1 t2 H locs ls hP hS hl hf
            obtain ⟨sf27, hs27⟩ : ∃ f, f = tw_lp (fm_takeText_L27) (fun _ _ => none) n := ⟨_, rfl⟩
            rw [← hs27] at ih27
            have hf : fm_takeText_L27 sf27 v27_1 t2 = some (r, tZ) := by rw [hs27]; exact hf
            clear hs27
            unfold fm_takeText_L27 at hf
            refine lv_iload_n hx hb dX6_takeText_27 rfl (lv_at hl 1 rfl) ?_
            refine lv_bipush (v := (10 : Int32)) hx hb dX6_takeText_28 (by decide) ?_
            refine lv_icmp_ge (tgt := 129) hx hb dX6_takeText_30 (by decide) (fun hc => ?_) (fun hc => ?_)
            · have hf := tw_ifT hc hf
              refine lv_iconst (v := (0 : Int32)) hx hb dX6_takeText_129 (by decide) ?_
              refine lv_istore_n (lv' := [(1, .int (0 : Int32)), (0, .ref o)]) hx hb dX6_takeText_130 rfl hl (by decide) rfl (fun ls hl => ?_)
              have k131 : ∀ (n : Nat) (v131_1 : Int32) (t3 : TS) (H : Heap) (locs : List Loc) (ls : Array Slot), tw_P D dA o ad t3 H → va_S A s.heap H locs → lv_has ls 2 [(0, .ref o), (1, .int v131_1)] → tw_lp (fm_takeText_L131) (fun _ _ => none) n v131_1 t3 = some (r, tZ) → W p l e (headSpec (ws_ yX6_takeText cX6_takeText 2 (none)) ({ frames := 2, cells := 0, slots := 0, locals := 33 })).room s m ([.ref o] : List Value).toArray below meth c H locs 0 0 (MQ below (tw_Qv D dA o ad A tZ) ([.ref o] : List Value).toArray s 0 0 A) (F0 m 131 ls []) := by
                intro n
                induction n with
                | zero => intro v131_1 t3 H locs ls hP hS hl hf; exact (tw_no hf).elim
                | succ n ih131 =>
                  intro v131_1 t3 H locs ls hP hS hl hf
                  obtain ⟨sf131, hs131⟩ : ∃ f, f = tw_lp (fm_takeText_L131) (fun _ _ => none) n := ⟨_, rfl⟩
                  rw [← hs131] at ih131
                  have hf : fm_takeText_L131 sf131 v131_1 t3 = some (r, tZ) := by rw [hs131]; exact hf
                  clear hs131
                  unfold fm_takeText_L131 at hf
                  refine lv_iload_n hx hb dX6_takeText_131 rfl (lv_at hl 1 rfl) ?_
                  refine lv_bipush (v := (8 : Int32)) hx hb dX6_takeText_132 (by decide) ?_
                  refine lv_icmp_ge (tgt := 203) hx hb dX6_takeText_134 (by decide) (fun hc => ?_) (fun hc => ?_)
                  · have hf := tw_ifT hc hf
                    refine lv_iconst (v := (0 : Int32)) hx hb dX6_takeText_203 (by decide) ?_
                    refine lv_istore_n (lv' := [(1, .int (0 : Int32)), (0, .ref o)]) hx hb dX6_takeText_204 rfl hl (by decide) rfl (fun ls hl => ?_)
                    have k205 : ∀ (n : Nat) (v205_1 : Int32) (t4 : TS) (H : Heap) (locs : List Loc) (ls : Array Slot), tw_P D dA o ad t4 H → va_S A s.heap H locs → lv_has ls 2 [(0, .ref o), (1, .int v205_1)] → tw_lp (fm_takeText_L205) (fun _ _ => none) n v205_1 t4 = some (r, tZ) → W p l e (headSpec (ws_ yX6_takeText cX6_takeText 2 (none)) ({ frames := 2, cells := 0, slots := 0, locals := 33 })).room s m ([.ref o] : List Value).toArray below meth c H locs 0 0 (MQ below (tw_Qv D dA o ad A tZ) ([.ref o] : List Value).toArray s 0 0 A) (F0 m 205 ls []) := by
                      intro n
                      induction n with
                      | zero => intro v205_1 t4 H locs ls hP hS hl hf; exact (tw_no hf).elim
                      | succ n ih205 =>
                        intro v205_1 t4 H locs ls hP hS hl hf
                        obtain ⟨sf205, hs205⟩ : ∃ f, f = tw_lp (fm_takeText_L205) (fun _ _ => none) n := ⟨_, rfl⟩
                        rw [← hs205] at ih205
                        have hf : fm_takeText_L205 sf205 v205_1 t4 = some (r, tZ) := by rw [hs205]; exact hf
                        clear hs205
                        unfold fm_takeText_L205 at hf
                        refine lv_iload_n hx hb dX6_takeText_205 rfl (lv_at hl 1 rfl) ?_
                        refine lv_bipush (v := (40 : Int32)) hx hb dX6_takeText_206 (by decide) ?_
                        refine lv_icmp_ge (tgt := 232) hx hb dX6_takeText_208 (by decide) (fun hc => ?_) (fun hc => ?_)
                        · have hf := tw_ifT hc hf
                          exact tw_iretv (tw_rtE hf).2 C hr hP hS hlk dX6_takeText_232
                        · have hf := tw_ifF hc hf
                          refine lv_aload_n hx hb dX6_takeText_211 rfl (lv_at hl 0 rfl) ?_
                          refine tw_aget (k := 15) C hP (by decide) (by decide) q1391 dX6_takeText_212 ?_
                          refine lv_iload_n hx hb dX6_takeText_215 rfl (lv_at hl 1 rfl) ?_
                          refine lv_aload_n hx hb dX6_takeText_216 rfl (lv_at hl 0 rfl) ?_
                          refine tw_aget (k := 15) C hP (by decide) (by decide) q1391 dX6_takeText_217 ?_
                          refine lv_bipush (v := (40 : Int32)) hx hb dX6_takeText_220 (by decide) ?_
                          refine lv_iload_n hx hb dX6_takeText_222 rfl (lv_at hl 1 rfl) ?_
                          refine lv_iadd hx hb dX6_takeText_223 ?_
                          obtain ⟨x5, t6, e7, hf⟩ := tw_bdE hf
                          refine tw_iald C hP e7 dX6_takeText_224 (fun hP => ?_)
                          obtain ⟨x8, t9, e10, hf⟩ := tw_bdE hf
                          refine tw_iast C hP hS e10 dX6_takeText_225 (fun H locs hP hS => ?_)
                          refine lv_iinc (v := (v205_1 + (1 : Int32))) (lv' := [(1, .int (v205_1 + (1 : Int32))), (0, .ref o)]) hx hb dX6_takeText_226 hl (k := 1) rfl rfl (by decide) rfl (fun ls hl => ?_)
                          refine lv_goto (tgt := 205) hx hb dX6_takeText_229 (by decide) ?_
                          exact ih205 _ _ _ _ _ hP hS (lv_sub hl [1, 0] rfl) hf
                    exact k205 _ _ _ _ _ _ hP hS (lv_sub hl [1, 0] rfl) hf
                  · have hf := tw_ifF hc hf
                    refine lv_aload_n hx hb dX6_takeText_137 rfl (lv_at hl 0 rfl) ?_
                    refine tw_aget (k := 11) C hP (by decide) (by decide) q1387 dX6_takeText_138 ?_
                    refine lv_iload_n hx hb dX6_takeText_141 rfl (lv_at hl 1 rfl) ?_
                    refine lv_aload_n hx hb dX6_takeText_142 rfl (lv_at hl 0 rfl) ?_
                    refine tw_aget (k := 11) C hP (by decide) (by decide) q1387 dX6_takeText_143 ?_
                    refine lv_bipush (v := (8 : Int32)) hx hb dX6_takeText_146 (by decide) ?_
                    refine lv_iload_n hx hb dX6_takeText_148 rfl (lv_at hl 1 rfl) ?_
                    refine lv_iadd hx hb dX6_takeText_149 ?_
                    obtain ⟨x11, t12, e13, hf⟩ := tw_bdE hf
                    refine tw_iald C hP e13 dX6_takeText_150 (fun hP => ?_)
                    obtain ⟨x14, t15, e16, hf⟩ := tw_bdE hf
                    refine tw_iast C hP hS e16 dX6_takeText_151 (fun H locs hP hS => ?_)
                    refine lv_aload_n hx hb dX6_takeText_152 rfl (lv_at hl 0 rfl) ?_
                    refine tw_aget (k := 12) C hP (by decide) (by decide) q1388 dX6_takeText_153 ?_
                    refine lv_iload_n hx hb dX6_takeText_156 rfl (lv_at hl 1 rfl) ?_
                    refine lv_aload_n hx hb dX6_takeText_157 rfl (lv_at hl 0 rfl) ?_
                    refine tw_aget (k := 12) C hP (by decide) (by decide) q1388 dX6_takeText_158 ?_
                    refine lv_bipush (v := (8 : Int32)) hx hb dX6_takeText_161 (by decide) ?_
                    refine lv_iload_n hx hb dX6_takeText_163 rfl (lv_at hl 1 rfl) ?_
                    refine lv_iadd hx hb dX6_takeText_164 ?_
                    obtain ⟨x17, t18, e19, hf⟩ := tw_bdE hf
                    refine tw_iald C hP e19 dX6_takeText_165 (fun hP => ?_)
                    obtain ⟨x20, t21, e22, hf⟩ := tw_bdE hf
                    refine tw_iast C hP hS e22 dX6_takeText_166 (fun H locs hP hS => ?_)
                    refine lv_aload_n hx hb dX6_takeText_167 rfl (lv_at hl 0 rfl) ?_
                    refine tw_aget (k := 13) C hP (by decide) (by decide) q1389 dX6_takeText_168 ?_
                    refine lv_iload_n hx hb dX6_takeText_171 rfl (lv_at hl 1 rfl) ?_
                    refine lv_aload_n hx hb dX6_takeText_172 rfl (lv_at hl 0 rfl) ?_
                    refine tw_aget (k := 13) C hP (by decide) (by decide) q1389 dX6_takeText_173 ?_
                    refine lv_bipush (v := (8 : Int32)) hx hb dX6_takeText_176 (by decide) ?_
                    refine lv_iload_n hx hb dX6_takeText_178 rfl (lv_at hl 1 rfl) ?_
                    refine lv_iadd hx hb dX6_takeText_179 ?_
                    obtain ⟨x23, t24, e25, hf⟩ := tw_bdE hf
                    refine tw_zald C hP e25 dX6_takeText_180 (fun hP => ?_)
                    obtain ⟨x26, t27, e28, hf⟩ := tw_bdE hf
                    refine tw_zast C hP hS e28 dX6_takeText_181 (fun H locs hP hS => ?_)
                    refine lv_aload_n hx hb dX6_takeText_182 rfl (lv_at hl 0 rfl) ?_
                    refine tw_aget (k := 14) C hP (by decide) (by decide) q1390 dX6_takeText_183 ?_
                    refine lv_iload_n hx hb dX6_takeText_186 rfl (lv_at hl 1 rfl) ?_
                    refine lv_aload_n hx hb dX6_takeText_187 rfl (lv_at hl 0 rfl) ?_
                    refine tw_aget (k := 14) C hP (by decide) (by decide) q1390 dX6_takeText_188 ?_
                    refine lv_bipush (v := (8 : Int32)) hx hb dX6_takeText_191 (by decide) ?_
                    refine lv_iload_n hx hb dX6_takeText_193 rfl (lv_at hl 1 rfl) ?_
                    refine lv_iadd hx hb dX6_takeText_194 ?_
                    obtain ⟨x29, t30, e31, hf⟩ := tw_bdE hf
                    refine tw_iald C hP e31 dX6_takeText_195 (fun hP => ?_)
                    obtain ⟨x32, t33, e34, hf⟩ := tw_bdE hf
                    refine tw_iast C hP hS e34 dX6_takeText_196 (fun H locs hP hS => ?_)
                    refine lv_iinc (v := (v131_1 + (1 : Int32))) (lv' := [(1, .int (v131_1 + (1 : Int32))), (0, .ref o)]) hx hb dX6_takeText_197 hl (k := 1) rfl rfl (by decide) rfl (fun ls hl => ?_)
                    refine lv_goto (tgt := 131) hx hb dX6_takeText_200 (by decide) ?_
                    exact ih131 _ _ _ _ _ hP hS (lv_sub hl [1, 0] rfl) hf
              exact k131 _ _ _ _ _ _ hP hS (lv_sub hl [1, 0] rfl) hf
            · have hf := tw_ifF hc hf
              refine lv_aload_n hx hb dX6_takeText_33 rfl (lv_at hl 0 rfl) ?_
              refine tw_aget (k := 5) C hP (by decide) (by decide) q1381 dX6_takeText_34 ?_
              refine lv_iload_n hx hb dX6_takeText_37 rfl (lv_at hl 1 rfl) ?_
              refine lv_aload_n hx hb dX6_takeText_38 rfl (lv_at hl 0 rfl) ?_
              refine tw_aget (k := 5) C hP (by decide) (by decide) q1381 dX6_takeText_39 ?_
              refine lv_bipush (v := (10 : Int32)) hx hb dX6_takeText_42 (by decide) ?_
              refine lv_iload_n hx hb dX6_takeText_44 rfl (lv_at hl 1 rfl) ?_
              refine lv_iadd hx hb dX6_takeText_45 ?_
              obtain ⟨x35, t36, e37, hf⟩ := tw_bdE hf
              refine tw_iald C hP e37 dX6_takeText_46 (fun hP => ?_)
              obtain ⟨x38, t39, e40, hf⟩ := tw_bdE hf
              refine tw_iast C hP hS e40 dX6_takeText_47 (fun H locs hP hS => ?_)
              refine lv_aload_n hx hb dX6_takeText_48 rfl (lv_at hl 0 rfl) ?_
              refine tw_aget (k := 6) C hP (by decide) (by decide) q1382 dX6_takeText_49 ?_
              refine lv_iload_n hx hb dX6_takeText_52 rfl (lv_at hl 1 rfl) ?_
              refine lv_aload_n hx hb dX6_takeText_53 rfl (lv_at hl 0 rfl) ?_
              refine tw_aget (k := 6) C hP (by decide) (by decide) q1382 dX6_takeText_54 ?_
              refine lv_bipush (v := (10 : Int32)) hx hb dX6_takeText_57 (by decide) ?_
              refine lv_iload_n hx hb dX6_takeText_59 rfl (lv_at hl 1 rfl) ?_
              refine lv_iadd hx hb dX6_takeText_60 ?_
              obtain ⟨x41, t42, e43, hf⟩ := tw_bdE hf
              refine tw_iald C hP e43 dX6_takeText_61 (fun hP => ?_)
              obtain ⟨x44, t45, e46, hf⟩ := tw_bdE hf
              refine tw_iast C hP hS e46 dX6_takeText_62 (fun H locs hP hS => ?_)
              refine lv_aload_n hx hb dX6_takeText_63 rfl (lv_at hl 0 rfl) ?_
              refine tw_aget (k := 7) C hP (by decide) (by decide) q1383 dX6_takeText_64 ?_
              refine lv_iload_n hx hb dX6_takeText_67 rfl (lv_at hl 1 rfl) ?_
              refine lv_aload_n hx hb dX6_takeText_68 rfl (lv_at hl 0 rfl) ?_
              refine tw_aget (k := 7) C hP (by decide) (by decide) q1383 dX6_takeText_69 ?_
              refine lv_bipush (v := (10 : Int32)) hx hb dX6_takeText_72 (by decide) ?_
              refine lv_iload_n hx hb dX6_takeText_74 rfl (lv_at hl 1 rfl) ?_
              refine lv_iadd hx hb dX6_takeText_75 ?_
              obtain ⟨x47, t48, e49, hf⟩ := tw_bdE hf
              refine tw_iald C hP e49 dX6_takeText_76 (fun hP => ?_)
              obtain ⟨x50, t51, e52, hf⟩ := tw_bdE hf
              refine tw_iast C hP hS e52 dX6_takeText_77 (fun H locs hP hS => ?_)
              refine lv_aload_n hx hb dX6_takeText_78 rfl (lv_at hl 0 rfl) ?_
              refine tw_aget (k := 8) C hP (by decide) (by decide) q1384 dX6_takeText_79 ?_
              refine lv_iload_n hx hb dX6_takeText_82 rfl (lv_at hl 1 rfl) ?_
              refine lv_aload_n hx hb dX6_takeText_83 rfl (lv_at hl 0 rfl) ?_
              refine tw_aget (k := 8) C hP (by decide) (by decide) q1384 dX6_takeText_84 ?_
              refine lv_bipush (v := (10 : Int32)) hx hb dX6_takeText_87 (by decide) ?_
              refine lv_iload_n hx hb dX6_takeText_89 rfl (lv_at hl 1 rfl) ?_
              refine lv_iadd hx hb dX6_takeText_90 ?_
              obtain ⟨x53, t54, e55, hf⟩ := tw_bdE hf
              refine tw_iald C hP e55 dX6_takeText_91 (fun hP => ?_)
              obtain ⟨x56, t57, e58, hf⟩ := tw_bdE hf
              refine tw_iast C hP hS e58 dX6_takeText_92 (fun H locs hP hS => ?_)
              refine lv_aload_n hx hb dX6_takeText_93 rfl (lv_at hl 0 rfl) ?_
              refine tw_aget (k := 9) C hP (by decide) (by decide) q1385 dX6_takeText_94 ?_
              refine lv_iload_n hx hb dX6_takeText_97 rfl (lv_at hl 1 rfl) ?_
              refine lv_aload_n hx hb dX6_takeText_98 rfl (lv_at hl 0 rfl) ?_
              refine tw_aget (k := 9) C hP (by decide) (by decide) q1385 dX6_takeText_99 ?_
              refine lv_bipush (v := (10 : Int32)) hx hb dX6_takeText_102 (by decide) ?_
              refine lv_iload_n hx hb dX6_takeText_104 rfl (lv_at hl 1 rfl) ?_
              refine lv_iadd hx hb dX6_takeText_105 ?_
              obtain ⟨x59, t60, e61, hf⟩ := tw_bdE hf
              refine tw_iald C hP e61 dX6_takeText_106 (fun hP => ?_)
              obtain ⟨x62, t63, e64, hf⟩ := tw_bdE hf
              refine tw_iast C hP hS e64 dX6_takeText_107 (fun H locs hP hS => ?_)
              refine lv_aload_n hx hb dX6_takeText_108 rfl (lv_at hl 0 rfl) ?_
              refine tw_aget (k := 10) C hP (by decide) (by decide) q1386 dX6_takeText_109 ?_
              refine lv_iload_n hx hb dX6_takeText_112 rfl (lv_at hl 1 rfl) ?_
              refine lv_aload_n hx hb dX6_takeText_113 rfl (lv_at hl 0 rfl) ?_
              refine tw_aget (k := 10) C hP (by decide) (by decide) q1386 dX6_takeText_114 ?_
              refine lv_bipush (v := (10 : Int32)) hx hb dX6_takeText_117 (by decide) ?_
              refine lv_iload_n hx hb dX6_takeText_119 rfl (lv_at hl 1 rfl) ?_
              refine lv_iadd hx hb dX6_takeText_120 ?_
              obtain ⟨x65, t66, e67, hf⟩ := tw_bdE hf
              refine tw_iald C hP e67 dX6_takeText_121 (fun hP => ?_)
              obtain ⟨x68, t69, e70, hf⟩ := tw_bdE hf
              refine tw_iast C hP hS e70 dX6_takeText_122 (fun H locs hP hS => ?_)
              refine lv_iinc (v := (v27_1 + (1 : Int32))) (lv' := [(1, .int (v27_1 + (1 : Int32))), (0, .ref o)]) hx hb dX6_takeText_123 hl (k := 1) rfl rfl (by decide) rfl (fun ls hl => ?_)
              refine lv_goto (tgt := 27) hx hb dX6_takeText_126 (by decide) ?_
              exact ih27 _ _ _ _ _ hP hS (lv_sub hl [1, 0] rfl) hf
        exact k27 _ _ _ _ _ _ hP hS (lv_sub hl [1, 0] rfl) hf
      · have hf := tw_ifF hc hf
        refine lv_aload_n hx hb dX6_takeText_8 rfl (lv_at hl 0 rfl) ?_
        refine tw_aget (k := 3) C hP (by decide) (by decide) q1379 dX6_takeText_9 ?_
        refine lv_iload_n hx hb dX6_takeText_12 rfl (lv_at hl 1 rfl) ?_
        refine lv_aload_n hx hb dX6_takeText_13 rfl (lv_at hl 0 rfl) ?_
        refine lv_iload_n hx hb dX6_takeText_14 rfl (lv_at hl 1 rfl) ?_
        obtain ⟨x71, t72, e73, hf⟩ := tw_bdE hf
        refine tw_cVi (As := [.int v2_1]) (rest := [.int v2_1, .ref (ad 3)]) C hml hP hS (mm_reading (l := l) (X := X) (D := D) (dA := dA) hD _ _ _ _ e73) (cwV 1 hts (lw_V q1360 q1362 qs41 q106 q1363) rfl rfl rfl hdX6_reading ⟨Nat.le_of_ble_eq_true rfl, Nat.le_of_ble_eq_true rfl⟩) rfl hl.1 rfl (Nat.le_of_ble_eq_true rfl) dX6_takeText_15 (fun H locs hP hS => ?_)
        obtain ⟨x74, t75, e76, hf⟩ := tw_bdE hf
        refine tw_iast C hP hS e76 dX6_takeText_18 (fun H locs hP hS => ?_)
        refine lv_iinc (v := (v2_1 + (1 : Int32))) (lv' := [(1, .int (v2_1 + (1 : Int32))), (0, .ref o)]) hx hb dX6_takeText_19 hl (k := 1) rfl rfl (by decide) rfl (fun ls hl => ?_)
        refine lv_goto (tgt := 2) hx hb dX6_takeText_22 (by decide) ?_
        exact ih2 _ _ _ _ _ hP hS (lv_sub hl [1, 0] rfl) hf
  exact k2 _ _ _ _ _ _ hP hS (lv_sub hl [1, 0] rfl) hf
def fm_flows  : TM Int32 :=
   tw_bd (tw_ld 3 (1 : Int32)) fun x1 =>
  tw_rt x1
theorem hdX6_flows : yX6_flows.cls = "LosslessFabricModel" ∧ (yX6_flows.cls ≠ "java/lang/invoke/MethodHandle" ∧ yX6_flows.cls ≠ "java/lang/invoke/VarHandle" ∧ (parseMethodDescriptor yX6_flows.desc).map (fun d => d.parameters.length) = some 0) := by decide +kernel
set_option maxHeartbeats 4000000 in
theorem mm_flows {l : Launch} {X : (Nat → Nat) × (Nat → Nat) × Nat} {D : va_G} {dA : Nat → ClassId} {o : Nat} {ad : Nat → Nat} {A : Nat → Prop} (hD : tw_D o ad A)  (t0 tZ : TS) (r : Int32) (hf : fm_flows  t0 = some (r, tZ)) : Met l yX6_flows (ws_ yX6_flows cX6_flows 1 (some .int)) ({ frames := 1, cells := 0, slots := 0, locals := 12 }) (va_Pc [.ref o] (tw_W X A D dA o ad t0)) (tw_Qi D dA o ad A r tZ) 0 0 A := by
  refine Met.ofW (cc := cX6_flows) (maxL := 1) (ret := some .int) (by decide) rfl ?_
  intro p e s m args below meth c s₁ B hml hv
  obtain ⟨rfl, hP, hK, hX⟩ := hv
  have hx := B.exec
  have hb := B.bytes
  have hr := B.returns
  have hts := atoms_spec (ws := (ws_ yX6_flows cX6_flows 1 (some .int))) B.pre
  have hts : ∀ w ∈ lw_all, w.before _ s = true := fun w h => hts w (List.mem_cons_of_mem _ h)
  have hown : s.vm.findClass "LosslessFabricModel" = some m.cls := findClass_of_methodNamed B.named
  have hlk := B.notSynchronized
  have C : tw_C X p s m _ c cX6_flows D dA o ad A := ⟨hx, hb, hts, hown, hK, hD, hX⟩
  have hS : va_S A s.heap s.heap [] := va_S.rf
  have hl := lv_entry ([.ref o]) (n := 1) (Nat.le_of_ble_eq_true rfl)
  rw [lg_entry_eq]
  generalize (lg_sl ([.ref o]) ++ List.replicate (1 - (lg_sl ([.ref o])).length) Slot.unset).toArray = ls at hl ⊢
  have hl : lv_has ls 1 [(0, .ref o)] := hl
  unfold fm_flows at hf
  refine lv_aload_n hx hb dX6_flows_0 rfl (lv_at hl 0 rfl) ?_
  refine tw_aget (k := 3) C hP (by decide) (by decide) q1379 dX6_flows_1 ?_
  refine lv_iconst (v := (1 : Int32)) hx hb dX6_flows_4 (by decide) ?_
  obtain ⟨x1, t2, e3, hf⟩ := tw_bdE hf
  refine tw_iald C hP e3 dX6_flows_5 (fun hP => ?_)
  exact tw_ireti (tw_rtE hf).1 (tw_rtE hf).2 C hr hP hS hlk dX6_flows_6
def fm_links  : TM Int32 :=
   tw_bd (tw_ld 3 (0 : Int32)) fun x1 =>
  tw_rt x1
theorem hdX6_links : yX6_links.cls = "LosslessFabricModel" ∧ (yX6_links.cls ≠ "java/lang/invoke/MethodHandle" ∧ yX6_links.cls ≠ "java/lang/invoke/VarHandle" ∧ (parseMethodDescriptor yX6_links.desc).map (fun d => d.parameters.length) = some 0) := by decide +kernel
set_option maxHeartbeats 4000000 in
theorem mm_links {l : Launch} {X : (Nat → Nat) × (Nat → Nat) × Nat} {D : va_G} {dA : Nat → ClassId} {o : Nat} {ad : Nat → Nat} {A : Nat → Prop} (hD : tw_D o ad A)  (t0 tZ : TS) (r : Int32) (hf : fm_links  t0 = some (r, tZ)) : Met l yX6_links (ws_ yX6_links cX6_links 1 (some .int)) ({ frames := 1, cells := 0, slots := 0, locals := 12 }) (va_Pc [.ref o] (tw_W X A D dA o ad t0)) (tw_Qi D dA o ad A r tZ) 0 0 A := by
  refine Met.ofW (cc := cX6_links) (maxL := 1) (ret := some .int) (by decide) rfl ?_
  intro p e s m args below meth c s₁ B hml hv
  obtain ⟨rfl, hP, hK, hX⟩ := hv
  have hx := B.exec
  have hb := B.bytes
  have hr := B.returns
  have hts := atoms_spec (ws := (ws_ yX6_links cX6_links 1 (some .int))) B.pre
  have hts : ∀ w ∈ lw_all, w.before _ s = true := fun w h => hts w (List.mem_cons_of_mem _ h)
  have hown : s.vm.findClass "LosslessFabricModel" = some m.cls := findClass_of_methodNamed B.named
  have hlk := B.notSynchronized
  have C : tw_C X p s m _ c cX6_links D dA o ad A := ⟨hx, hb, hts, hown, hK, hD, hX⟩
  have hS : va_S A s.heap s.heap [] := va_S.rf
  have hl := lv_entry ([.ref o]) (n := 1) (Nat.le_of_ble_eq_true rfl)
  rw [lg_entry_eq]
  generalize (lg_sl ([.ref o]) ++ List.replicate (1 - (lg_sl ([.ref o])).length) Slot.unset).toArray = ls at hl ⊢
  have hl : lv_has ls 1 [(0, .ref o)] := hl
  unfold fm_links at hf
  refine lv_aload_n hx hb dX6_links_0 rfl (lv_at hl 0 rfl) ?_
  refine tw_aget (k := 3) C hP (by decide) (by decide) q1379 dX6_links_1 ?_
  refine lv_iconst (v := (0 : Int32)) hx hb dX6_links_4 (by decide) ?_
  obtain ⟨x1, t2, e3, hf⟩ := tw_bdE hf
  refine tw_iald C hP e3 dX6_links_5 (fun hP => ?_)
  exact tw_ireti (tw_rtE hf).1 (tw_rtE hf).2 C hr hP hS hlk dX6_links_6
def fm_begins_J158 (v91_1 : Int32) (sf91 : Int32 → TM Unit) (w158_0 : Int32) : TM Unit :=
  tw_bd (tw_st 26 (((240 : Int32) + ((12 : Int32) * v91_1)) + (7 : Int32)) w158_0) fun _ =>
 
  sf91 (v91_1 + (1 : Int32))
def fm_begins_L91  (sf91 : Int32 → TM Unit) (v91_1 : Int32) : TM Unit :=
  tw_bd (fm_flows) fun x7 =>
  if x7 ≤ v91_1 then (tw_rt ())
  else (  tw_bd (tw_ld 12 v91_1) fun x10 =>
  tw_bd (tw_st 26 (((240 : Int32) + ((12 : Int32) * v91_1)) + (0 : Int32)) x10) fun _ =>
    tw_bd (tw_ld 12 v91_1) fun x16 =>
  tw_bd (tw_st 26 (((240 : Int32) + ((12 : Int32) * v91_1)) + (1 : Int32)) x16) fun _ =>
    tw_bd (tw_lz 13 v91_1) fun x22 =>
  if x22 = 0 then (fm_begins_J158 v91_1 sf91 (1 : Int32))
  else (fm_begins_J158 v91_1 sf91 (0 : Int32)))
def fm_begins_L24  (sf24 : Int32 → TM Unit) (v24_1 : Int32) : TM Unit :=
  tw_bd (fm_links) fun x3 =>
  if x3 ≤ v24_1 then (tw_lp (fm_begins_L91) (fun _ _ => none) tw_fu (0 : Int32))
  else (  tw_bd (tw_ld 8 v24_1) fun x29 =>
  tw_bd (tw_st 26 (((24 : Int32) * v24_1) + (0 : Int32)) x29) fun _ =>
    tw_bd (tw_ld 9 v24_1) fun x35 =>
  tw_bd (tw_st 26 (((24 : Int32) * v24_1) + (1 : Int32)) x35) fun _ =>
    tw_bd (tw_ld 10 v24_1) fun x41 =>
  tw_bd (tw_st 26 (((24 : Int32) * v24_1) + (2 : Int32)) x41) fun _ =>
 
  sf24 (v24_1 + (1 : Int32)))
def fm_begins_L2  (sf2 : Int32 → TM Unit) (v2_1 : Int32) : TM Unit :=
  if (337 : Int32) ≤ v2_1 then (tw_lp (fm_begins_L24) (fun _ _ => none) tw_fu (0 : Int32))
  else ( tw_bd (tw_st 26 v2_1 (0 : Int32)) fun _ =>
 
  sf2 (v2_1 + (1 : Int32)))
def fm_begins  : TM Unit :=
  tw_lp (fm_begins_L2) (fun _ _ => none) tw_fu (0 : Int32)
theorem hdX6_begins : yX6_begins.cls = "LosslessFabricModel" ∧ (yX6_begins.cls ≠ "java/lang/invoke/MethodHandle" ∧ yX6_begins.cls ≠ "java/lang/invoke/VarHandle" ∧ (parseMethodDescriptor yX6_begins.desc).map (fun d => d.parameters.length) = some 0) := by decide +kernel
set_option maxHeartbeats 4000000 in
theorem mm_begins {l : Launch} {X : (Nat → Nat) × (Nat → Nat) × Nat} {D : va_G} {dA : Nat → ClassId} {o : Nat} {ad : Nat → Nat} {A : Nat → Prop} (hD : tw_D o ad A)  (t0 tZ : TS) (r : Unit) (hf : fm_begins  t0 = some (r, tZ)) : Met l yX6_begins (ws_ yX6_begins cX6_begins 3 (none)) ({ frames := 2, cells := 0, slots := 0, locals := 32 }) (va_Pc [.ref o] (tw_W X A D dA o ad t0)) (tw_Qv D dA o ad A tZ) 0 0 A := by
  refine Met.ofW (cc := cX6_begins) (maxL := 3) (ret := none) (by decide) rfl ?_
  intro p e s m args below meth c s₁ B hml hv
  obtain ⟨rfl, hP, hK, hX⟩ := hv
  have hx := B.exec
  have hb := B.bytes
  have hr := B.returns
  have hts := atoms_spec (ws := (ws_ yX6_begins cX6_begins 3 (none))) B.pre
  have hts : ∀ w ∈ lw_all, w.before _ s = true := fun w h => hts w (List.mem_cons_of_mem _ h)
  have hown : s.vm.findClass "LosslessFabricModel" = some m.cls := findClass_of_methodNamed B.named
  have hlk := B.notSynchronized
  have C : tw_C X p s m _ c cX6_begins D dA o ad A := ⟨hx, hb, hts, hown, hK, hD, hX⟩
  have hS : va_S A s.heap s.heap [] := va_S.rf
  have hl := lv_entry ([.ref o]) (n := 3) (Nat.le_of_ble_eq_true rfl)
  rw [lg_entry_eq]
  generalize (lg_sl ([.ref o]) ++ List.replicate (3 - (lg_sl ([.ref o])).length) Slot.unset).toArray = ls at hl ⊢
  have hl : lv_has ls 3 [(0, .ref o)] := hl
  unfold fm_begins at hf
  refine lv_iconst (v := (0 : Int32)) hx hb dX6_begins_0 (by decide) ?_
  refine lv_istore_n (lv' := [(1, .int (0 : Int32)), (0, .ref o)]) hx hb dX6_begins_1 rfl hl (by decide) rfl (fun ls hl => ?_)
  have k2 : ∀ (n : Nat) (v2_1 : Int32) (t1 : TS) (H : Heap) (locs : List Loc) (ls : Array Slot), tw_P D dA o ad t1 H → va_S A s.heap H locs → lv_has ls 3 [(0, .ref o), (1, .int v2_1)] → tw_lp (fm_begins_L2) (fun _ _ => none) n v2_1 t1 = some (r, tZ) → W p l e (headSpec (ws_ yX6_begins cX6_begins 3 (none)) ({ frames := 2, cells := 0, slots := 0, locals := 32 })).room s m ([.ref o] : List Value).toArray below meth c H locs 0 0 (MQ below (tw_Qv D dA o ad A tZ) ([.ref o] : List Value).toArray s 0 0 A) (F0 m 2 ls []) := by
    intro n
    induction n with
    | zero => intro v2_1 t1 H locs ls hP hS hl hf; exact (tw_no hf).elim
    | succ n ih2 =>
      intro v2_1 t1 H locs ls hP hS hl hf
      obtain ⟨sf2, hs2⟩ : ∃ f, f = tw_lp (fm_begins_L2) (fun _ _ => none) n := ⟨_, rfl⟩
      rw [← hs2] at ih2
      have hf : fm_begins_L2 sf2 v2_1 t1 = some (r, tZ) := by rw [hs2]; exact hf
      clear hs2
      unfold fm_begins_L2 at hf
      refine lv_iload_n hx hb dX6_begins_2 rfl (lv_at hl 1 rfl) ?_
      refine lv_sipush (v := (337 : Int32)) hx hb dX6_begins_3 (by decide) ?_
      refine lv_icmp_ge (tgt := 22) hx hb dX6_begins_6 (by decide) (fun hc => ?_) (fun hc => ?_)
      · have hf := tw_ifT hc hf
        refine lv_iconst (v := (0 : Int32)) hx hb dX6_begins_22 (by decide) ?_
        refine lv_istore_n (lv' := [(1, .int (0 : Int32)), (0, .ref o)]) hx hb dX6_begins_23 rfl hl (by decide) rfl (fun ls hl => ?_)
        have k24 : ∀ (n : Nat) (v24_1 : Int32) (t2 : TS) (H : Heap) (locs : List Loc) (ls : Array Slot), tw_P D dA o ad t2 H → va_S A s.heap H locs → lv_has ls 3 [(0, .ref o), (1, .int v24_1)] → tw_lp (fm_begins_L24) (fun _ _ => none) n v24_1 t2 = some (r, tZ) → W p l e (headSpec (ws_ yX6_begins cX6_begins 3 (none)) ({ frames := 2, cells := 0, slots := 0, locals := 32 })).room s m ([.ref o] : List Value).toArray below meth c H locs 0 0 (MQ below (tw_Qv D dA o ad A tZ) ([.ref o] : List Value).toArray s 0 0 A) (F0 m 24 ls []) := by
          intro n
          induction n with
          | zero => intro v24_1 t2 H locs ls hP hS hl hf; exact (tw_no hf).elim
          | succ n ih24 =>
            intro v24_1 t2 H locs ls hP hS hl hf
            obtain ⟨sf24, hs24⟩ : ∃ f, f = tw_lp (fm_begins_L24) (fun _ _ => none) n := ⟨_, rfl⟩
            rw [← hs24] at ih24
            have hf : fm_begins_L24 sf24 v24_1 t2 = some (r, tZ) := by rw [hs24]; exact hf
            clear hs24
            unfold fm_begins_L24 at hf
            refine lv_iload_n hx hb dX6_begins_24 rfl (lv_at hl 1 rfl) ?_
            refine lv_aload_n hx hb dX6_begins_25 rfl (lv_at hl 0 rfl) ?_
            obtain ⟨x3, t4, e5, hf⟩ := tw_bdE hf
            refine tw_cVi (As := []) (rest := [.int v24_1]) C hml hP hS (mm_links (l := l) (X := X) (D := D) (dA := dA) hD _ _ _ e5) (cwV 0 hts (lw_V q1368 q1370 qs43 q106 q1371) rfl rfl rfl hdX6_links ⟨Nat.le_of_ble_eq_true rfl, Nat.le_of_ble_eq_true rfl⟩) rfl hl.1 rfl (Nat.le_of_ble_eq_true rfl) dX6_begins_26 (fun H locs hP hS => ?_)
            refine lv_icmp_ge (tgt := 89) hx hb dX6_begins_29 (by decide) (fun hc => ?_) (fun hc => ?_)
            · have hf := tw_ifT hc hf
              refine lv_iconst (v := (0 : Int32)) hx hb dX6_begins_89 (by decide) ?_
              refine lv_istore_n (lv' := [(1, .int (0 : Int32)), (0, .ref o)]) hx hb dX6_begins_90 rfl hl (by decide) rfl (fun ls hl => ?_)
              have k91 : ∀ (n : Nat) (v91_1 : Int32) (t6 : TS) (H : Heap) (locs : List Loc) (ls : Array Slot), tw_P D dA o ad t6 H → va_S A s.heap H locs → lv_has ls 3 [(0, .ref o), (1, .int v91_1)] → tw_lp (fm_begins_L91) (fun _ _ => none) n v91_1 t6 = some (r, tZ) → W p l e (headSpec (ws_ yX6_begins cX6_begins 3 (none)) ({ frames := 2, cells := 0, slots := 0, locals := 32 })).room s m ([.ref o] : List Value).toArray below meth c H locs 0 0 (MQ below (tw_Qv D dA o ad A tZ) ([.ref o] : List Value).toArray s 0 0 A) (F0 m 91 ls []) := by
                intro n
                induction n with
                | zero => intro v91_1 t6 H locs ls hP hS hl hf; exact (tw_no hf).elim
                | succ n ih91 =>
                  intro v91_1 t6 H locs ls hP hS hl hf
                  obtain ⟨sf91, hs91⟩ : ∃ f, f = tw_lp (fm_begins_L91) (fun _ _ => none) n := ⟨_, rfl⟩
                  rw [← hs91] at ih91
                  have hf : fm_begins_L91 sf91 v91_1 t6 = some (r, tZ) := by rw [hs91]; exact hf
                  clear hs91
                  unfold fm_begins_L91 at hf
                  refine lv_iload_n hx hb dX6_begins_91 rfl (lv_at hl 1 rfl) ?_
                  refine lv_aload_n hx hb dX6_begins_92 rfl (lv_at hl 0 rfl) ?_
                  obtain ⟨x7, t8, e9, hf⟩ := tw_bdE hf
                  refine tw_cVi (As := []) (rest := [.int v91_1]) C hml hP hS (mm_flows (l := l) (X := X) (D := D) (dA := dA) hD _ _ _ e9) (cwV 0 hts (lw_V q1372 q1374 qs44 q106 q1375) rfl rfl rfl hdX6_flows ⟨Nat.le_of_ble_eq_true rfl, Nat.le_of_ble_eq_true rfl⟩) rfl hl.1 rfl (Nat.le_of_ble_eq_true rfl) dX6_begins_93 (fun H locs hP hS => ?_)
                  refine lv_icmp_ge (tgt := 165) hx hb dX6_begins_96 (by decide) (fun hc => ?_) (fun hc => ?_)
                  · have hf := tw_ifT hc hf
                    exact tw_iretv (tw_rtE hf).2 C hr hP hS hlk dX6_begins_165
                  · have hf := tw_ifF hc hf
                    refine lv_sipush (v := (240 : Int32)) hx hb dX6_begins_99 (by decide) ?_
                    refine lv_bipush (v := (12 : Int32)) hx hb dX6_begins_102 (by decide) ?_
                    refine lv_iload_n hx hb dX6_begins_104 rfl (lv_at hl 1 rfl) ?_
                    refine lv_imul hx hb dX6_begins_105 ?_
                    refine lv_iadd hx hb dX6_begins_106 ?_
                    refine lv_istore_n (lv' := [(2, .int ((240 : Int32) + ((12 : Int32) * v91_1))), (0, .ref o), (1, .int v91_1)]) hx hb dX6_begins_107 rfl hl (by decide) rfl (fun ls hl => ?_)
                    refine lv_aload_n hx hb dX6_begins_108 rfl (lv_at hl 1 rfl) ?_
                    refine tw_aget (k := 26) C hP (by decide) (by decide) q1402 dX6_begins_109 ?_
                    refine lv_iload_n hx hb dX6_begins_112 rfl (lv_at hl 0 rfl) ?_
                    refine lv_iconst (v := (0 : Int32)) hx hb dX6_begins_113 (by decide) ?_
                    refine lv_iadd hx hb dX6_begins_114 ?_
                    refine lv_aload_n hx hb dX6_begins_115 rfl (lv_at hl 1 rfl) ?_
                    refine tw_aget (k := 12) C hP (by decide) (by decide) q1388 dX6_begins_116 ?_
                    refine lv_iload_n hx hb dX6_begins_119 rfl (lv_at hl 2 rfl) ?_
                    obtain ⟨x10, t11, e12, hf⟩ := tw_bdE hf
                    refine tw_iald C hP e12 dX6_begins_120 (fun hP => ?_)
                    obtain ⟨x13, t14, e15, hf⟩ := tw_bdE hf
                    refine tw_iast C hP hS e15 dX6_begins_121 (fun H locs hP hS => ?_)
                    refine lv_aload_n hx hb dX6_begins_122 rfl (lv_at hl 1 rfl) ?_
                    refine tw_aget (k := 26) C hP (by decide) (by decide) q1402 dX6_begins_123 ?_
                    refine lv_iload_n hx hb dX6_begins_126 rfl (lv_at hl 0 rfl) ?_
                    refine lv_iconst (v := (1 : Int32)) hx hb dX6_begins_127 (by decide) ?_
                    refine lv_iadd hx hb dX6_begins_128 ?_
                    refine lv_aload_n hx hb dX6_begins_129 rfl (lv_at hl 1 rfl) ?_
                    refine tw_aget (k := 12) C hP (by decide) (by decide) q1388 dX6_begins_130 ?_
                    refine lv_iload_n hx hb dX6_begins_133 rfl (lv_at hl 2 rfl) ?_
                    obtain ⟨x16, t17, e18, hf⟩ := tw_bdE hf
                    refine tw_iald C hP e18 dX6_begins_134 (fun hP => ?_)
                    obtain ⟨x19, t20, e21, hf⟩ := tw_bdE hf
                    refine tw_iast C hP hS e21 dX6_begins_135 (fun H locs hP hS => ?_)
                    refine lv_aload_n hx hb dX6_begins_136 rfl (lv_at hl 1 rfl) ?_
                    refine tw_aget (k := 26) C hP (by decide) (by decide) q1402 dX6_begins_137 ?_
                    refine lv_iload_n hx hb dX6_begins_140 rfl (lv_at hl 0 rfl) ?_
                    refine lv_bipush (v := (7 : Int32)) hx hb dX6_begins_141 (by decide) ?_
                    refine lv_iadd hx hb dX6_begins_143 ?_
                    refine lv_aload_n hx hb dX6_begins_144 rfl (lv_at hl 1 rfl) ?_
                    refine tw_aget (k := 13) C hP (by decide) (by decide) q1389 dX6_begins_145 ?_
                    refine lv_iload_n hx hb dX6_begins_148 rfl (lv_at hl 2 rfl) ?_
                    obtain ⟨x22, t23, e24, hf⟩ := tw_bdE hf
                    refine tw_zald C hP e24 dX6_begins_149 (fun hP => ?_)
                    have k158 : ∀ (w158_0 : Int32) (t25 : TS) (H : Heap) (locs : List Loc) (ls : Array Slot), tw_P D dA o ad t25 H → va_S A s.heap H locs → lv_has ls 3 [(0, .ref o), (1, .int v91_1)] → fm_begins_J158 v91_1 sf91 w158_0 t25 = some (r, tZ) → W p l e (headSpec (ws_ yX6_begins cX6_begins 3 (none)) ({ frames := 2, cells := 0, slots := 0, locals := 32 })).room s m ([.ref o] : List Value).toArray below meth c H locs 0 0 (MQ below (tw_Qv D dA o ad A tZ) ([.ref o] : List Value).toArray s 0 0 A) (F0 m 158 ls [.int w158_0, .int (((240 : Int32) + ((12 : Int32) * v91_1)) + (7 : Int32)), .ref (ad 26)]) := by
                      intro w158_0 t25 H locs ls hP hS hl hf
                      unfold fm_begins_J158 at hf
                      obtain ⟨x26, t27, e28, hf⟩ := tw_bdE hf
                      refine tw_iast C hP hS e28 dX6_begins_158 (fun H locs hP hS => ?_)
                      refine lv_iinc (v := (v91_1 + (1 : Int32))) (lv' := [(1, .int (v91_1 + (1 : Int32))), (0, .ref o)]) hx hb dX6_begins_159 hl (k := 1) rfl rfl (by decide) rfl (fun ls hl => ?_)
                      refine lv_goto (tgt := 91) hx hb dX6_begins_162 (by decide) ?_
                      exact ih91 _ _ _ _ _ hP hS (lv_sub hl [1, 0] rfl) hf
                    refine lv_if_eq (tgt := 157) hx hb dX6_begins_150 (by decide) (fun hc => ?_) (fun hc => ?_)
                    · have hf := tw_ifT hc hf
                      refine lv_iconst (v := (1 : Int32)) hx hb dX6_begins_157 (by decide) ?_
                      exact k158 _ _ _ _ _ hP hS (lv_sub hl [1, 2] rfl) hf
                    · have hf := tw_ifF hc hf
                      refine lv_iconst (v := (0 : Int32)) hx hb dX6_begins_153 (by decide) ?_
                      refine lv_goto (tgt := 158) hx hb dX6_begins_154 (by decide) ?_
                      exact k158 _ _ _ _ _ hP hS (lv_sub hl [1, 2] rfl) hf
              exact k91 _ _ _ _ _ _ hP hS (lv_sub hl [1, 0] rfl) hf
            · have hf := tw_ifF hc hf
              refine lv_aload_n hx hb dX6_begins_32 rfl (lv_at hl 0 rfl) ?_
              refine tw_aget (k := 26) C hP (by decide) (by decide) q1402 dX6_begins_33 ?_
              refine lv_bipush (v := (24 : Int32)) hx hb dX6_begins_36 (by decide) ?_
              refine lv_iload_n hx hb dX6_begins_38 rfl (lv_at hl 1 rfl) ?_
              refine lv_imul hx hb dX6_begins_39 ?_
              refine lv_iconst (v := (0 : Int32)) hx hb dX6_begins_40 (by decide) ?_
              refine lv_iadd hx hb dX6_begins_41 ?_
              refine lv_aload_n hx hb dX6_begins_42 rfl (lv_at hl 0 rfl) ?_
              refine tw_aget (k := 8) C hP (by decide) (by decide) q1384 dX6_begins_43 ?_
              refine lv_iload_n hx hb dX6_begins_46 rfl (lv_at hl 1 rfl) ?_
              obtain ⟨x29, t30, e31, hf⟩ := tw_bdE hf
              refine tw_iald C hP e31 dX6_begins_47 (fun hP => ?_)
              obtain ⟨x32, t33, e34, hf⟩ := tw_bdE hf
              refine tw_iast C hP hS e34 dX6_begins_48 (fun H locs hP hS => ?_)
              refine lv_aload_n hx hb dX6_begins_49 rfl (lv_at hl 0 rfl) ?_
              refine tw_aget (k := 26) C hP (by decide) (by decide) q1402 dX6_begins_50 ?_
              refine lv_bipush (v := (24 : Int32)) hx hb dX6_begins_53 (by decide) ?_
              refine lv_iload_n hx hb dX6_begins_55 rfl (lv_at hl 1 rfl) ?_
              refine lv_imul hx hb dX6_begins_56 ?_
              refine lv_iconst (v := (1 : Int32)) hx hb dX6_begins_57 (by decide) ?_
              refine lv_iadd hx hb dX6_begins_58 ?_
              refine lv_aload_n hx hb dX6_begins_59 rfl (lv_at hl 0 rfl) ?_
              refine tw_aget (k := 9) C hP (by decide) (by decide) q1385 dX6_begins_60 ?_
              refine lv_iload_n hx hb dX6_begins_63 rfl (lv_at hl 1 rfl) ?_
              obtain ⟨x35, t36, e37, hf⟩ := tw_bdE hf
              refine tw_iald C hP e37 dX6_begins_64 (fun hP => ?_)
              obtain ⟨x38, t39, e40, hf⟩ := tw_bdE hf
              refine tw_iast C hP hS e40 dX6_begins_65 (fun H locs hP hS => ?_)
              refine lv_aload_n hx hb dX6_begins_66 rfl (lv_at hl 0 rfl) ?_
              refine tw_aget (k := 26) C hP (by decide) (by decide) q1402 dX6_begins_67 ?_
              refine lv_bipush (v := (24 : Int32)) hx hb dX6_begins_70 (by decide) ?_
              refine lv_iload_n hx hb dX6_begins_72 rfl (lv_at hl 1 rfl) ?_
              refine lv_imul hx hb dX6_begins_73 ?_
              refine lv_iconst (v := (2 : Int32)) hx hb dX6_begins_74 (by decide) ?_
              refine lv_iadd hx hb dX6_begins_75 ?_
              refine lv_aload_n hx hb dX6_begins_76 rfl (lv_at hl 0 rfl) ?_
              refine tw_aget (k := 10) C hP (by decide) (by decide) q1386 dX6_begins_77 ?_
              refine lv_iload_n hx hb dX6_begins_80 rfl (lv_at hl 1 rfl) ?_
              obtain ⟨x41, t42, e43, hf⟩ := tw_bdE hf
              refine tw_iald C hP e43 dX6_begins_81 (fun hP => ?_)
              obtain ⟨x44, t45, e46, hf⟩ := tw_bdE hf
              refine tw_iast C hP hS e46 dX6_begins_82 (fun H locs hP hS => ?_)
              refine lv_iinc (v := (v24_1 + (1 : Int32))) (lv' := [(1, .int (v24_1 + (1 : Int32))), (0, .ref o)]) hx hb dX6_begins_83 hl (k := 1) rfl rfl (by decide) rfl (fun ls hl => ?_)
              refine lv_goto (tgt := 24) hx hb dX6_begins_86 (by decide) ?_
              exact ih24 _ _ _ _ _ hP hS (lv_sub hl [1, 0] rfl) hf
        exact k24 _ _ _ _ _ _ hP hS (lv_sub hl [1, 0] rfl) hf
      · have hf := tw_ifF hc hf
        refine lv_aload_n hx hb dX6_begins_9 rfl (lv_at hl 0 rfl) ?_
        refine tw_aget (k := 26) C hP (by decide) (by decide) q1402 dX6_begins_10 ?_
        refine lv_iload_n hx hb dX6_begins_13 rfl (lv_at hl 1 rfl) ?_
        refine lv_iconst (v := (0 : Int32)) hx hb dX6_begins_14 (by decide) ?_
        obtain ⟨x47, t48, e49, hf⟩ := tw_bdE hf
        refine tw_iast C hP hS e49 dX6_begins_15 (fun H locs hP hS => ?_)
        refine lv_iinc (v := (v2_1 + (1 : Int32))) (lv' := [(1, .int (v2_1 + (1 : Int32))), (0, .ref o)]) hx hb dX6_begins_16 hl (k := 1) rfl rfl (by decide) rfl (fun ls hl => ?_)
        refine lv_goto (tgt := 2) hx hb dX6_begins_19 (by decide) ?_
        exact ih2 _ _ _ _ _ hP hS (lv_sub hl [1, 0] rfl) hf
  exact k2 _ _ _ _ _ _ hP hS (lv_sub hl [1, 0] rfl) hf
def fm_thrown  : TM Int32 :=
  tw_bd (tw_gi 0) fun x1 =>
  tw_rt x1
theorem hdX6_thrown : yX6_thrown.cls = "LosslessFabricModel" ∧ (yX6_thrown.cls ≠ "java/lang/invoke/MethodHandle" ∧ yX6_thrown.cls ≠ "java/lang/invoke/VarHandle" ∧ (parseMethodDescriptor yX6_thrown.desc).map (fun d => d.parameters.length) = some 0) := by decide +kernel
set_option maxHeartbeats 4000000 in
theorem mm_thrown {l : Launch} {X : (Nat → Nat) × (Nat → Nat) × Nat} {D : va_G} {dA : Nat → ClassId} {o : Nat} {ad : Nat → Nat} {A : Nat → Prop} (hD : tw_D o ad A)  (t0 tZ : TS) (r : Int32) (hf : fm_thrown  t0 = some (r, tZ)) : Met l yX6_thrown (ws_ yX6_thrown cX6_thrown 1 (some .int)) ({ frames := 1, cells := 0, slots := 0, locals := 12 }) (va_Pc [.ref o] (tw_W X A D dA o ad t0)) (tw_Qi D dA o ad A r tZ) 0 0 A := by
  refine Met.ofW (cc := cX6_thrown) (maxL := 1) (ret := some .int) (by decide) rfl ?_
  intro p e s m args below meth c s₁ B hml hv
  obtain ⟨rfl, hP, hK, hX⟩ := hv
  have hx := B.exec
  have hb := B.bytes
  have hr := B.returns
  have hts := atoms_spec (ws := (ws_ yX6_thrown cX6_thrown 1 (some .int))) B.pre
  have hts : ∀ w ∈ lw_all, w.before _ s = true := fun w h => hts w (List.mem_cons_of_mem _ h)
  have hown : s.vm.findClass "LosslessFabricModel" = some m.cls := findClass_of_methodNamed B.named
  have hlk := B.notSynchronized
  have C : tw_C X p s m _ c cX6_thrown D dA o ad A := ⟨hx, hb, hts, hown, hK, hD, hX⟩
  have hS : va_S A s.heap s.heap [] := va_S.rf
  have hl := lv_entry ([.ref o]) (n := 1) (Nat.le_of_ble_eq_true rfl)
  rw [lg_entry_eq]
  generalize (lg_sl ([.ref o]) ++ List.replicate (1 - (lg_sl ([.ref o])).length) Slot.unset).toArray = ls at hl ⊢
  have hl : lv_has ls 1 [(0, .ref o)] := hl
  unfold fm_thrown at hf
  refine lv_aload_n hx hb dX6_thrown_0 rfl (lv_at hl 0 rfl) ?_
  obtain ⟨x1, t2, e3, hf⟩ := tw_bdE hf
  refine tw_iget (k := 0) C hP (by decide) (Or.inl rfl) e3 q1376 dX6_thrown_1 (fun hP => ?_)
  exact tw_ireti (tw_rtE hf).1 (tw_rtE hf).2 C hr hP hS hlk dX6_thrown_4
def fm_feed_J73 (v20_6 : Int32) (sf20 : Int32 → TM Int32) (w73_0 : Int32) : TM Int32 :=
   tw_bd (tw_gi 2) fun x18 =>
  tw_bd (tw_nz (4 : Int32)) fun _ =>
  tw_bd (tw_st 1 (x18 + v20_6) ((w73_0 >>> (((24 : Int32) - ((8 : Int32) * (v20_6 - v20_6 / (4 : Int32) * (4 : Int32)))) &&& 31)) &&& (255 : Int32))) fun _ =>
 
  sf20 (v20_6 + (1 : Int32))
def fm_feed_L20 (a5 : Int32) (a4 : Int32) (a3 : Int32) (a2 : Int32) (a1 : Int32) (sf20 : Int32 → TM Int32) (v20_6 : Int32) : TM Int32 :=
  if (20 : Int32) ≤ v20_6 then (tw_bd (tw_gi 2) fun x8 =>
  tw_bd (tw_pi 2 (x8 + (20 : Int32))) fun _ =>
  tw_bd (tw_gi 2) fun x14 =>
  tw_rt x14)
  else (if (4 : Int32) ≤ v20_6 then (if (8 : Int32) ≤ v20_6 then (if (12 : Int32) ≤ v20_6 then (if (16 : Int32) ≤ v20_6 then (fm_feed_J73 v20_6 sf20 a5)
  else (fm_feed_J73 v20_6 sf20 a4))
  else (fm_feed_J73 v20_6 sf20 a3))
  else (fm_feed_J73 v20_6 sf20 a2))
  else (fm_feed_J73 v20_6 sf20 a1))
def fm_feed (a1 : Int32) (a2 : Int32) (a3 : Int32) (a4 : Int32) (a5 : Int32) : TM Int32 :=
  tw_bd (tw_pi 0 (0 : Int32)) fun _ =>
  tw_bd (tw_gi 2) fun x4 =>
  if x4 ≤ (680 : Int32) then (tw_lp (fm_feed_L20 a5 a4 a3 a2 a1) (fun _ _ => none) tw_fu (0 : Int32))
  else (tw_rt (-1 : Int32))
theorem hdX6_feed : yX6_feed.cls = "LosslessFabricModel" ∧ (yX6_feed.cls ≠ "java/lang/invoke/MethodHandle" ∧ yX6_feed.cls ≠ "java/lang/invoke/VarHandle" ∧ (parseMethodDescriptor yX6_feed.desc).map (fun d => d.parameters.length) = some 5) := by decide +kernel
set_option maxHeartbeats 4000000 in
theorem mm_feed {l : Launch} {X : (Nat → Nat) × (Nat → Nat) × Nat} {D : va_G} {dA : Nat → ClassId} {o : Nat} {ad : Nat → Nat} {A : Nat → Prop} (hD : tw_D o ad A) (a1 : Int32) (a2 : Int32) (a3 : Int32) (a4 : Int32) (a5 : Int32) (t0 tZ : TS) (r : Int32) (hf : fm_feed a1 a2 a3 a4 a5 t0 = some (r, tZ)) : Met l yX6_feed (ws_ yX6_feed cX6_feed 8 (some .int)) ({ frames := 1, cells := 0, slots := 0, locals := 12 }) (va_Pc [.ref o, .int a1, .int a2, .int a3, .int a4, .int a5] (tw_W X A D dA o ad t0)) (tw_Qi D dA o ad A r tZ) 0 0 A := by
  refine Met.ofW (cc := cX6_feed) (maxL := 8) (ret := some .int) (by decide) rfl ?_
  intro p e s m args below meth c s₁ B hml hv
  obtain ⟨rfl, hP, hK, hX⟩ := hv
  have hx := B.exec
  have hb := B.bytes
  have hr := B.returns
  have hts := atoms_spec (ws := (ws_ yX6_feed cX6_feed 8 (some .int))) B.pre
  have hts : ∀ w ∈ lw_all, w.before _ s = true := fun w h => hts w (List.mem_cons_of_mem _ h)
  have hown : s.vm.findClass "LosslessFabricModel" = some m.cls := findClass_of_methodNamed B.named
  have hlk := B.notSynchronized
  have C : tw_C X p s m _ c cX6_feed D dA o ad A := ⟨hx, hb, hts, hown, hK, hD, hX⟩
  have hS : va_S A s.heap s.heap [] := va_S.rf
  have hl := lv_entry ([.ref o, .int a1, .int a2, .int a3, .int a4, .int a5]) (n := 8) (Nat.le_of_ble_eq_true rfl)
  rw [lg_entry_eq]
  generalize (lg_sl ([.ref o, .int a1, .int a2, .int a3, .int a4, .int a5]) ++ List.replicate (8 - (lg_sl ([.ref o, .int a1, .int a2, .int a3, .int a4, .int a5])).length) Slot.unset).toArray = ls at hl ⊢
  have hl : lv_has ls 8 [(0, .ref o), (1, .int a1), (2, .int a2), (3, .int a3), (4, .int a4), (5, .int a5)] := hl
  unfold fm_feed at hf
  refine lv_aload_n hx hb dX6_feed_0 rfl (lv_at hl 0 rfl) ?_
  refine lv_iconst (v := (0 : Int32)) hx hb dX6_feed_1 (by decide) ?_
  obtain ⟨x1, t2, e3, hf⟩ := tw_bdE hf
  refine tw_iput (k := 0) C hP hS (by decide) rfl e3 q1376 dX6_feed_2 (fun H locs hP hS => ?_)
  refine lv_aload_n hx hb dX6_feed_5 rfl (lv_at hl 0 rfl) ?_
  obtain ⟨x4, t5, e6, hf⟩ := tw_bdE hf
  refine tw_iget (k := 2) C hP (by decide) (Or.inl rfl) e6 q1378 dX6_feed_6 (fun hP => ?_)
  refine lv_sipush (v := (680 : Int32)) hx hb dX6_feed_9 (by decide) ?_
  refine lv_icmp_le (tgt := 17) hx hb dX6_feed_12 (by decide) (fun hc => ?_) (fun hc => ?_)
  · have hf := tw_ifT hc hf
    refine lv_iconst (v := (0 : Int32)) hx hb dX6_feed_17 (by decide) ?_
    refine lv_istore (lv' := [(6, .int (0 : Int32)), (0, .ref o), (1, .int a1), (2, .int a2), (3, .int a3), (4, .int a4), (5, .int a5)]) hx hb dX6_feed_18 hl (by decide) rfl (fun ls hl => ?_)
    have k20 : ∀ (n : Nat) (v20_6 : Int32) (t7 : TS) (H : Heap) (locs : List Loc) (ls : Array Slot), tw_P D dA o ad t7 H → va_S A s.heap H locs → lv_has ls 8 [(0, .ref o), (1, .int a1), (2, .int a2), (3, .int a3), (4, .int a4), (5, .int a5), (6, .int v20_6)] → tw_lp (fm_feed_L20 a5 a4 a3 a2 a1) (fun _ _ => none) n v20_6 t7 = some (r, tZ) → W p l e (headSpec (ws_ yX6_feed cX6_feed 8 (some .int)) ({ frames := 1, cells := 0, slots := 0, locals := 12 })).room s m ([.ref o, .int a1, .int a2, .int a3, .int a4, .int a5] : List Value).toArray below meth c H locs 0 0 (MQ below (tw_Qi D dA o ad A r tZ) ([.ref o, .int a1, .int a2, .int a3, .int a4, .int a5] : List Value).toArray s 0 0 A) (F0 m 20 ls []) := by
      intro n
      induction n with
      | zero => intro v20_6 t7 H locs ls hP hS hl hf; exact (tw_no hf).elim
      | succ n ih20 =>
        intro v20_6 t7 H locs ls hP hS hl hf
        obtain ⟨sf20, hs20⟩ : ∃ f, f = tw_lp (fm_feed_L20 a5 a4 a3 a2 a1) (fun _ _ => none) n := ⟨_, rfl⟩
        rw [← hs20] at ih20
        have hf : fm_feed_L20 a5 a4 a3 a2 a1 sf20 v20_6 t7 = some (r, tZ) := by rw [hs20]; exact hf
        clear hs20
        unfold fm_feed_L20 at hf
        refine lv_iload hx hb dX6_feed_20 (lv_at hl 6 rfl) ?_
        refine lv_bipush (v := (20 : Int32)) hx hb dX6_feed_22 (by decide) ?_
        refine lv_icmp_ge (tgt := 110) hx hb dX6_feed_24 (by decide) (fun hc => ?_) (fun hc => ?_)
        · have hf := tw_ifT hc hf
          refine lv_aload_n hx hb dX6_feed_110 rfl (lv_at hl 0 rfl) ?_
          refine lv_dup hx hb dX6_feed_111 rfl ?_
          obtain ⟨x8, t9, e10, hf⟩ := tw_bdE hf
          refine tw_iget (k := 2) C hP (by decide) (Or.inl rfl) e10 q1378 dX6_feed_112 (fun hP => ?_)
          refine lv_bipush (v := (20 : Int32)) hx hb dX6_feed_115 (by decide) ?_
          refine lv_iadd hx hb dX6_feed_117 ?_
          obtain ⟨x11, t12, e13, hf⟩ := tw_bdE hf
          refine tw_iput (k := 2) C hP hS (by decide) rfl e13 q1378 dX6_feed_118 (fun H locs hP hS => ?_)
          refine lv_aload_n hx hb dX6_feed_121 rfl (lv_at hl 0 rfl) ?_
          obtain ⟨x14, t15, e16, hf⟩ := tw_bdE hf
          refine tw_iget (k := 2) C hP (by decide) (Or.inl rfl) e16 q1378 dX6_feed_122 (fun hP => ?_)
          exact tw_ireti (tw_rtE hf).1 (tw_rtE hf).2 C hr hP hS hlk dX6_feed_125
        · have hf := tw_ifF hc hf
          refine lv_iload hx hb dX6_feed_27 (lv_at hl 6 rfl) ?_
          refine lv_iconst (v := (4 : Int32)) hx hb dX6_feed_29 (by decide) ?_
          have k73 : ∀ (w73_0 : Int32) (t17 : TS) (H : Heap) (locs : List Loc) (ls : Array Slot), tw_P D dA o ad t17 H → va_S A s.heap H locs → lv_has ls 8 [(0, .ref o), (1, .int a1), (2, .int a2), (3, .int a3), (4, .int a4), (5, .int a5), (6, .int v20_6)] → fm_feed_J73 v20_6 sf20 w73_0 t17 = some (r, tZ) → W p l e (headSpec (ws_ yX6_feed cX6_feed 8 (some .int)) ({ frames := 1, cells := 0, slots := 0, locals := 12 })).room s m ([.ref o, .int a1, .int a2, .int a3, .int a4, .int a5] : List Value).toArray below meth c H locs 0 0 (MQ below (tw_Qi D dA o ad A r tZ) ([.ref o, .int a1, .int a2, .int a3, .int a4, .int a5] : List Value).toArray s 0 0 A) (F0 m 73 ls [.int w73_0]) := by
            intro w73_0 t17 H locs ls hP hS hl hf
            unfold fm_feed_J73 at hf
            refine lv_istore (lv' := [(7, .int w73_0), (0, .ref o), (1, .int a1), (2, .int a2), (3, .int a3), (4, .int a4), (5, .int a5), (6, .int v20_6)]) hx hb dX6_feed_73 hl (by decide) rfl (fun ls hl => ?_)
            refine lv_aload_n hx hb dX6_feed_75 rfl (lv_at hl 1 rfl) ?_
            refine tw_aget (k := 1) C hP (by decide) (by decide) q1377 dX6_feed_76 ?_
            refine lv_aload_n hx hb dX6_feed_79 rfl (lv_at hl 1 rfl) ?_
            obtain ⟨x18, t19, e20, hf⟩ := tw_bdE hf
            refine tw_iget (k := 2) C hP (by decide) (Or.inl rfl) e20 q1378 dX6_feed_80 (fun hP => ?_)
            refine lv_iload hx hb dX6_feed_83 (lv_at hl 7 rfl) ?_
            refine lv_iadd hx hb dX6_feed_85 ?_
            refine lv_iload hx hb dX6_feed_86 (lv_at hl 0 rfl) ?_
            refine lv_bipush (v := (24 : Int32)) hx hb dX6_feed_88 (by decide) ?_
            refine lv_bipush (v := (8 : Int32)) hx hb dX6_feed_90 (by decide) ?_
            refine lv_iload hx hb dX6_feed_92 (lv_at hl 7 rfl) ?_
            refine lv_iconst (v := (4 : Int32)) hx hb dX6_feed_94 (by decide) ?_
            obtain ⟨w21, t22, e23, hf⟩ := tw_bdE hf
            rw [← (tw_nzE e23).2] at hf
            refine lv_irem hx hb dX6_feed_95 (tw_nzE e23).1 ?_
            refine lv_imul hx hb dX6_feed_96 ?_
            refine lv_isub hx hb dX6_feed_97 ?_
            refine lv_ishr hx hb dX6_feed_98 ?_
            refine lv_sipush (v := (255 : Int32)) hx hb dX6_feed_99 (by decide) ?_
            refine lv_iand hx hb dX6_feed_102 ?_
            obtain ⟨x24, t25, e26, hf⟩ := tw_bdE hf
            refine tw_iast C hP hS e26 dX6_feed_103 (fun H locs hP hS => ?_)
            refine lv_iinc (v := (v20_6 + (1 : Int32))) (lv' := [(6, .int (v20_6 + (1 : Int32))), (7, .int w73_0), (0, .ref o), (1, .int a1), (2, .int a2), (3, .int a3), (4, .int a4), (5, .int a5)]) hx hb dX6_feed_104 hl (k := 7) rfl rfl (by decide) rfl (fun ls hl => ?_)
            refine lv_goto (tgt := 20) hx hb dX6_feed_107 (by decide) ?_
            exact ih20 _ _ _ _ _ hP hS (lv_sub hl [2, 3, 4, 5, 6, 7, 0] rfl) hf
          refine lv_icmp_ge (tgt := 37) hx hb dX6_feed_30 (by decide) (fun hc => ?_) (fun hc => ?_)
          · have hf := tw_ifT hc hf
            refine lv_iload hx hb dX6_feed_37 (lv_at hl 6 rfl) ?_
            refine lv_bipush (v := (8 : Int32)) hx hb dX6_feed_39 (by decide) ?_
            refine lv_icmp_ge (tgt := 48) hx hb dX6_feed_41 (by decide) (fun hc => ?_) (fun hc => ?_)
            · have hf := tw_ifT hc hf
              refine lv_iload hx hb dX6_feed_48 (lv_at hl 6 rfl) ?_
              refine lv_bipush (v := (12 : Int32)) hx hb dX6_feed_50 (by decide) ?_
              refine lv_icmp_ge (tgt := 59) hx hb dX6_feed_52 (by decide) (fun hc => ?_) (fun hc => ?_)
              · have hf := tw_ifT hc hf
                refine lv_iload hx hb dX6_feed_59 (lv_at hl 6 rfl) ?_
                refine lv_bipush (v := (16 : Int32)) hx hb dX6_feed_61 (by decide) ?_
                refine lv_icmp_ge (tgt := 71) hx hb dX6_feed_63 (by decide) (fun hc => ?_) (fun hc => ?_)
                · have hf := tw_ifT hc hf
                  refine lv_iload hx hb dX6_feed_71 (lv_at hl 5 rfl) ?_
                  exact k73 _ _ _ _ _ hP hS (lv_sub hl [0, 1, 2, 3, 4, 5, 6] rfl) hf
                · have hf := tw_ifF hc hf
                  refine lv_iload hx hb dX6_feed_66 (lv_at hl 4 rfl) ?_
                  refine lv_goto (tgt := 73) hx hb dX6_feed_68 (by decide) ?_
                  exact k73 _ _ _ _ _ hP hS (lv_sub hl [0, 1, 2, 3, 4, 5, 6] rfl) hf
              · have hf := tw_ifF hc hf
                refine lv_iload_n hx hb dX6_feed_55 rfl (lv_at hl 3 rfl) ?_
                refine lv_goto (tgt := 73) hx hb dX6_feed_56 (by decide) ?_
                exact k73 _ _ _ _ _ hP hS (lv_sub hl [0, 1, 2, 3, 4, 5, 6] rfl) hf
            · have hf := tw_ifF hc hf
              refine lv_iload_n hx hb dX6_feed_44 rfl (lv_at hl 2 rfl) ?_
              refine lv_goto (tgt := 73) hx hb dX6_feed_45 (by decide) ?_
              exact k73 _ _ _ _ _ hP hS (lv_sub hl [0, 1, 2, 3, 4, 5, 6] rfl) hf
          · have hf := tw_ifF hc hf
            refine lv_iload_n hx hb dX6_feed_33 rfl (lv_at hl 1 rfl) ?_
            refine lv_goto (tgt := 73) hx hb dX6_feed_34 (by decide) ?_
            exact k73 _ _ _ _ _ hP hS (lv_sub hl [0, 1, 2, 3, 4, 5, 6] rfl) hf
    exact k20 _ _ _ _ _ _ hP hS (lv_sub hl [1, 2, 3, 4, 5, 6, 0] rfl) hf
  · have hf := tw_ifF hc hf
    refine lv_iconst (v := (-1 : Int32)) hx hb dX6_feed_15 (by decide) ?_
    exact tw_ireti (tw_rtE hf).1 (tw_rtE hf).2 C hr hP hS hlk dX6_feed_16