def fm_here_J24  (w24_0 : Int32) : TM Int32 :=
  tw_rt w24_0
def fm_here  : TM Int32 :=
  tw_bd (tw_gi 18) fun x1 =>
  tw_bd (tw_gi 17) fun x4 =>
  if x4 ≤ x1 then (fm_here_J24 (-1 : Int32))
  else ( tw_bd (tw_gi 18) fun x8 =>
  tw_bd (tw_ld 1 x8) fun x11 =>
 
  fm_here_J24 x11)
theorem hdX6_here : yX6_here.cls = "LosslessFabricModel" ∧ (yX6_here.cls ≠ "java/lang/invoke/MethodHandle" ∧ yX6_here.cls ≠ "java/lang/invoke/VarHandle" ∧ (parseMethodDescriptor yX6_here.desc).map (fun d => d.parameters.length) = some 0) := by decide +kernel
set_option maxHeartbeats 4000000 in
theorem mm_here {l : Launch} {X : (Nat → Nat) × (Nat → Nat) × Nat} {D : va_G} {dA : Nat → ClassId} {o : Nat} {ad : Nat → Nat} {A : Nat → Prop} (hD : tw_D o ad A)  (t0 tZ : TS) (r : Int32) (hf : fm_here  t0 = some (r, tZ)) : Met l yX6_here (ws_ yX6_here cX6_here 1 (some .int)) ({ frames := 1, cells := 0, slots := 0, locals := 12 }) (va_Pc [.ref o] (tw_W X A D dA o ad t0)) (tw_Qi D dA o ad A r tZ) 0 0 A := by
  refine Met.ofW (cc := cX6_here) (maxL := 1) (ret := some .int) (by decide) rfl ?_
  intro p e s m args below meth c s₁ B hml hv
  obtain ⟨rfl, hP, hK, hX⟩ := hv
  have hx := B.exec
  have hb := B.bytes
  have hr := B.returns
  have hts := atoms_spec (ws := (ws_ yX6_here cX6_here 1 (some .int))) B.pre
  have hts : ∀ w ∈ lw_all, w.before _ s = true := fun w h => hts w (List.mem_cons_of_mem _ h)
  have hown : s.vm.findClass "LosslessFabricModel" = some m.cls := findClass_of_methodNamed B.named
  have hlk := B.notSynchronized
  have C : tw_C X p s m _ c cX6_here D dA o ad A := ⟨hx, hb, hts, hown, hK, hD, hX⟩
  have hS : va_S A s.heap s.heap [] := va_S.rf
  have hl := lv_entry ([.ref o]) (n := 1) (Nat.le_of_ble_eq_true rfl)
  rw [lg_entry_eq]
  generalize (lg_sl ([.ref o]) ++ List.replicate (1 - (lg_sl ([.ref o])).length) Slot.unset).toArray = ls at hl ⊢
  have hl : lv_has ls 1 [(0, .ref o)] := hl
  unfold fm_here at hf
  refine lv_aload_n hx hb dX6_here_0 rfl (lv_at hl 0 rfl) ?_
  obtain ⟨x1, t2, e3, hf⟩ := tw_bdE hf
  refine tw_iget (k := 18) C hP (by decide) (Or.inl rfl) e3 q1394 dX6_here_1 (fun hP => ?_)
  refine lv_aload_n hx hb dX6_here_4 rfl (lv_at hl 0 rfl) ?_
  obtain ⟨x4, t5, e6, hf⟩ := tw_bdE hf
  refine tw_iget (k := 17) C hP (by decide) (Or.inl rfl) e6 q1393 dX6_here_5 (fun hP => ?_)
  have k24 : ∀ (w24_0 : Int32) (t7 : TS) (H : Heap) (locs : List Loc) (ls : Array Slot), tw_P D dA o ad t7 H → va_S A s.heap H locs → lv_has ls 1 [] → fm_here_J24 w24_0 t7 = some (r, tZ) → W p l e (headSpec (ws_ yX6_here cX6_here 1 (some .int)) ({ frames := 1, cells := 0, slots := 0, locals := 12 })).room s m ([.ref o] : List Value).toArray below meth c H locs 0 0 (MQ below (tw_Qi D dA o ad A r tZ) ([.ref o] : List Value).toArray s 0 0 A) (F0 m 24 ls [.int w24_0]) := by
    intro w24_0 t7 H locs ls hP hS hl hf
    unfold fm_here_J24 at hf
    exact tw_ireti (tw_rtE hf).1 (tw_rtE hf).2 C hr hP hS hlk dX6_here_24
  refine lv_icmp_ge (tgt := 23) hx hb dX6_here_8 (by decide) (fun hc => ?_) (fun hc => ?_)
  · have hf := tw_ifT hc hf
    refine lv_iconst (v := (-1 : Int32)) hx hb dX6_here_23 (by decide) ?_
    exact k24 _ _ _ _ _ hP hS (lv_sub hl [] rfl) hf
  · have hf := tw_ifF hc hf
    refine lv_aload_n hx hb dX6_here_11 rfl (lv_at hl 0 rfl) ?_
    refine tw_aget (k := 1) C hP (by decide) (by decide) q1377 dX6_here_12 ?_
    refine lv_aload_n hx hb dX6_here_15 rfl (lv_at hl 0 rfl) ?_
    obtain ⟨x8, t9, e10, hf⟩ := tw_bdE hf
    refine tw_iget (k := 18) C hP (by decide) (Or.inl rfl) e10 q1394 dX6_here_16 (fun hP => ?_)
    obtain ⟨x11, t12, e13, hf⟩ := tw_bdE hf
    refine tw_iald C hP e13 dX6_here_19 (fun hP => ?_)
    refine lv_goto (tgt := 24) hx hb dX6_here_20 (by decide) ?_
    exact k24 _ _ _ _ _ hP hS (lv_sub hl [] rfl) hf
def fm_isDigit_J17  (w17_0 : Int32) : TM Int32 :=
  tw_rz w17_0
def fm_isDigit_J16   : TM Int32 :=
  fm_isDigit_J17 (0 : Int32)
def fm_isDigit (a0 : Int32) : TM Int32 :=
  if a0 < (48 : Int32) then (fm_isDigit_J16)
  else (if (57 : Int32) < a0 then (fm_isDigit_J16)
  else (fm_isDigit_J17 (1 : Int32)))
theorem hdX6_isDigit : (yX6_isDigit.cls ≠ "java/lang/invoke/MethodHandle" ∧ yX6_isDigit.cls ≠ "java/lang/invoke/VarHandle" ∧ (parseMethodDescriptor yX6_isDigit.desc).map (fun d => d.parameters.length) = some 1) := by decide +kernel
set_option maxHeartbeats 4000000 in
theorem mm_isDigit {l : Launch} {X : (Nat → Nat) × (Nat → Nat) × Nat} {D : va_G} {dA : Nat → ClassId} {o : Nat} {ad : Nat → Nat} {A : Nat → Prop} (hD : tw_D o ad A) (a0 : Int32) (t0 tZ : TS) (r : Int32) (hf : fm_isDigit a0 t0 = some (r, tZ)) : Met l yX6_isDigit (ws_ yX6_isDigit cX6_isDigit 1 (some .boolean)) ({ frames := 1, cells := 0, slots := 0, locals := 12 }) (va_Pc [.int a0] (tw_W X A D dA o ad t0)) (tw_Qi D dA o ad A r tZ) 0 0 A := by
  refine Met.ofW (cc := cX6_isDigit) (maxL := 1) (ret := some .boolean) (by decide) rfl ?_
  intro p e s m args below meth c s₁ B hml hv
  obtain ⟨rfl, hP, hK, hX⟩ := hv
  have hx := B.exec
  have hb := B.bytes
  have hr := B.returns
  have hts := atoms_spec (ws := (ws_ yX6_isDigit cX6_isDigit 1 (some .boolean))) B.pre
  have hts : ∀ w ∈ lw_all, w.before _ s = true := fun w h => hts w (List.mem_cons_of_mem _ h)
  have hown : s.vm.findClass "LosslessFabricModel" = some m.cls := findClass_of_methodNamed B.named
  have hlk := B.notSynchronized
  have C : tw_C X p s m _ c cX6_isDigit D dA o ad A := ⟨hx, hb, hts, hown, hK, hD, hX⟩
  have hS : va_S A s.heap s.heap [] := va_S.rf
  have hl := lv_entry ([.int a0]) (n := 1) (Nat.le_of_ble_eq_true rfl)
  rw [lg_entry_eq]
  generalize (lg_sl ([.int a0]) ++ List.replicate (1 - (lg_sl ([.int a0])).length) Slot.unset).toArray = ls at hl ⊢
  have hl : lv_has ls 1 [(0, .int a0)] := hl
  unfold fm_isDigit at hf
  refine lv_iload_n hx hb dX6_isDigit_0 rfl (lv_at hl 0 rfl) ?_
  refine lv_bipush (v := (48 : Int32)) hx hb dX6_isDigit_1 (by decide) ?_
  have k17 : ∀ (w17_0 : Int32) (t1 : TS) (H : Heap) (locs : List Loc) (ls : Array Slot), tw_P D dA o ad t1 H → va_S A s.heap H locs → lv_has ls 1 [] → fm_isDigit_J17 w17_0 t1 = some (r, tZ) → W p l e (headSpec (ws_ yX6_isDigit cX6_isDigit 1 (some .boolean)) ({ frames := 1, cells := 0, slots := 0, locals := 12 })).room s m ([.int a0] : List Value).toArray below meth c H locs 0 0 (MQ below (tw_Qi D dA o ad A r tZ) ([.int a0] : List Value).toArray s 0 0 A) (F0 m 17 ls [.int w17_0]) := by
    intro w17_0 t1 H locs ls hP hS hl hf
    unfold fm_isDigit_J17 at hf
    exact tw_iretz hf C hr hP hS hlk dX6_isDigit_17
  have k16 : ∀  (t2 : TS) (H : Heap) (locs : List Loc) (ls : Array Slot), tw_P D dA o ad t2 H → va_S A s.heap H locs → lv_has ls 1 [] → fm_isDigit_J16  t2 = some (r, tZ) → W p l e (headSpec (ws_ yX6_isDigit cX6_isDigit 1 (some .boolean)) ({ frames := 1, cells := 0, slots := 0, locals := 12 })).room s m ([.int a0] : List Value).toArray below meth c H locs 0 0 (MQ below (tw_Qi D dA o ad A r tZ) ([.int a0] : List Value).toArray s 0 0 A) (F0 m 16 ls []) := by
    intro t2 H locs ls hP hS hl hf
    unfold fm_isDigit_J16 at hf
    refine lv_iconst (v := (0 : Int32)) hx hb dX6_isDigit_16 (by decide) ?_
    exact k17 _ _ _ _ _ hP hS (lv_sub hl [] rfl) hf
  refine lv_icmp_lt (tgt := 16) hx hb dX6_isDigit_3 (by decide) (fun hc => ?_) (fun hc => ?_)
  · have hf := tw_ifT hc hf
    exact k16 _ _ _ _ hP hS (lv_sub hl [] rfl) hf
  · have hf := tw_ifF hc hf
    refine lv_iload_n hx hb dX6_isDigit_6 rfl (lv_at hl 0 rfl) ?_
    refine lv_bipush (v := (57 : Int32)) hx hb dX6_isDigit_7 (by decide) ?_
    refine lv_icmp_gt (tgt := 16) hx hb dX6_isDigit_9 (by decide) (fun hc => ?_) (fun hc => ?_)
    · have hf := tw_ifT hc hf
      exact k16 _ _ _ _ hP hS (lv_sub hl [] rfl) hf
    · have hf := tw_ifF hc hf
      refine lv_iconst (v := (1 : Int32)) hx hb dX6_isDigit_12 (by decide) ?_
      refine lv_goto (tgt := 17) hx hb dX6_isDigit_13 (by decide) ?_
      exact k17 _ _ _ _ _ hP hS (lv_sub hl [] rfl) hf
def fm_isSmall_J17  (w17_0 : Int32) : TM Int32 :=
  tw_rz w17_0
def fm_isSmall_J16   : TM Int32 :=
  fm_isSmall_J17 (0 : Int32)
def fm_isSmall (a0 : Int32) : TM Int32 :=
  if a0 < (97 : Int32) then (fm_isSmall_J16)
  else (if (122 : Int32) < a0 then (fm_isSmall_J16)
  else (fm_isSmall_J17 (1 : Int32)))
theorem hdX6_isSmall : (yX6_isSmall.cls ≠ "java/lang/invoke/MethodHandle" ∧ yX6_isSmall.cls ≠ "java/lang/invoke/VarHandle" ∧ (parseMethodDescriptor yX6_isSmall.desc).map (fun d => d.parameters.length) = some 1) := by decide +kernel
set_option maxHeartbeats 4000000 in
theorem mm_isSmall {l : Launch} {X : (Nat → Nat) × (Nat → Nat) × Nat} {D : va_G} {dA : Nat → ClassId} {o : Nat} {ad : Nat → Nat} {A : Nat → Prop} (hD : tw_D o ad A) (a0 : Int32) (t0 tZ : TS) (r : Int32) (hf : fm_isSmall a0 t0 = some (r, tZ)) : Met l yX6_isSmall (ws_ yX6_isSmall cX6_isSmall 1 (some .boolean)) ({ frames := 1, cells := 0, slots := 0, locals := 12 }) (va_Pc [.int a0] (tw_W X A D dA o ad t0)) (tw_Qi D dA o ad A r tZ) 0 0 A := by
  refine Met.ofW (cc := cX6_isSmall) (maxL := 1) (ret := some .boolean) (by decide) rfl ?_
  intro p e s m args below meth c s₁ B hml hv
  obtain ⟨rfl, hP, hK, hX⟩ := hv
  have hx := B.exec
  have hb := B.bytes
  have hr := B.returns
  have hts := atoms_spec (ws := (ws_ yX6_isSmall cX6_isSmall 1 (some .boolean))) B.pre
  have hts : ∀ w ∈ lw_all, w.before _ s = true := fun w h => hts w (List.mem_cons_of_mem _ h)
  have hown : s.vm.findClass "LosslessFabricModel" = some m.cls := findClass_of_methodNamed B.named
  have hlk := B.notSynchronized
  have C : tw_C X p s m _ c cX6_isSmall D dA o ad A := ⟨hx, hb, hts, hown, hK, hD, hX⟩
  have hS : va_S A s.heap s.heap [] := va_S.rf
  have hl := lv_entry ([.int a0]) (n := 1) (Nat.le_of_ble_eq_true rfl)
  rw [lg_entry_eq]
  generalize (lg_sl ([.int a0]) ++ List.replicate (1 - (lg_sl ([.int a0])).length) Slot.unset).toArray = ls at hl ⊢
  have hl : lv_has ls 1 [(0, .int a0)] := hl
  unfold fm_isSmall at hf
  refine lv_iload_n hx hb dX6_isSmall_0 rfl (lv_at hl 0 rfl) ?_
  refine lv_bipush (v := (97 : Int32)) hx hb dX6_isSmall_1 (by decide) ?_
  have k17 : ∀ (w17_0 : Int32) (t1 : TS) (H : Heap) (locs : List Loc) (ls : Array Slot), tw_P D dA o ad t1 H → va_S A s.heap H locs → lv_has ls 1 [] → fm_isSmall_J17 w17_0 t1 = some (r, tZ) → W p l e (headSpec (ws_ yX6_isSmall cX6_isSmall 1 (some .boolean)) ({ frames := 1, cells := 0, slots := 0, locals := 12 })).room s m ([.int a0] : List Value).toArray below meth c H locs 0 0 (MQ below (tw_Qi D dA o ad A r tZ) ([.int a0] : List Value).toArray s 0 0 A) (F0 m 17 ls [.int w17_0]) := by
    intro w17_0 t1 H locs ls hP hS hl hf
    unfold fm_isSmall_J17 at hf
    exact tw_iretz hf C hr hP hS hlk dX6_isSmall_17
  have k16 : ∀  (t2 : TS) (H : Heap) (locs : List Loc) (ls : Array Slot), tw_P D dA o ad t2 H → va_S A s.heap H locs → lv_has ls 1 [] → fm_isSmall_J16  t2 = some (r, tZ) → W p l e (headSpec (ws_ yX6_isSmall cX6_isSmall 1 (some .boolean)) ({ frames := 1, cells := 0, slots := 0, locals := 12 })).room s m ([.int a0] : List Value).toArray below meth c H locs 0 0 (MQ below (tw_Qi D dA o ad A r tZ) ([.int a0] : List Value).toArray s 0 0 A) (F0 m 16 ls []) := by
    intro t2 H locs ls hP hS hl hf
    unfold fm_isSmall_J16 at hf
    refine lv_iconst (v := (0 : Int32)) hx hb dX6_isSmall_16 (by decide) ?_
    exact k17 _ _ _ _ _ hP hS (lv_sub hl [] rfl) hf
  refine lv_icmp_lt (tgt := 16) hx hb dX6_isSmall_3 (by decide) (fun hc => ?_) (fun hc => ?_)
  · have hf := tw_ifT hc hf
    exact k16 _ _ _ _ hP hS (lv_sub hl [] rfl) hf
  · have hf := tw_ifF hc hf
    refine lv_iload_n hx hb dX6_isSmall_6 rfl (lv_at hl 0 rfl) ?_
    refine lv_bipush (v := (122 : Int32)) hx hb dX6_isSmall_7 (by decide) ?_
    refine lv_icmp_gt (tgt := 16) hx hb dX6_isSmall_9 (by decide) (fun hc => ?_) (fun hc => ?_)
    · have hf := tw_ifT hc hf
      exact k16 _ _ _ _ hP hS (lv_sub hl [] rfl) hf
    · have hf := tw_ifF hc hf
      refine lv_iconst (v := (1 : Int32)) hx hb dX6_isSmall_12 (by decide) ?_
      refine lv_goto (tgt := 17) hx hb dX6_isSmall_13 (by decide) ?_
      exact k17 _ _ _ _ _ hP hS (lv_sub hl [] rfl) hf
def fm_nameHere_J53 (x5 : Int32) (sf7 : Int32 → TM Unit) (v7_1 : Int32) (w53_0 : Int32) : TM Unit :=
  tw_bd (tw_pi 21 ((x5 <<< ((5 : Int32) &&& 31)) ||| w53_0)) fun _ =>
 
  sf7 (v7_1 + (1 : Int32))
def fm_nameHere_L7  (sf7 : Int32 → TM Unit) (v7_1 : Int32) : TM Unit :=
  if (6 : Int32) ≤ v7_1 then (tw_rt ())
  else (tw_bd (tw_gi 21) fun x5 =>
  tw_bd (tw_gi 19) fun x8 =>
  tw_bd (tw_gi 18) fun x11 =>
  if x11 ≤ (x8 + v7_1) then (fm_nameHere_J53 x5 sf7 v7_1 (0 : Int32))
  else ( tw_bd (tw_gi 19) fun x18 =>
  tw_bd (tw_ld 1 (x18 + v7_1)) fun x21 =>
 
  fm_nameHere_J53 x5 sf7 v7_1 ((x21 - (97 : Int32)) + (1 : Int32))))
def fm_nameHere  : TM Unit :=
  tw_bd (tw_pi 21 (0 : Int32)) fun _ =>
 
  tw_lp (fm_nameHere_L7) (fun _ _ => none) tw_fu (0 : Int32)
theorem hdX6_nameHere : yX6_nameHere.cls = "LosslessFabricModel" ∧ (yX6_nameHere.cls ≠ "java/lang/invoke/MethodHandle" ∧ yX6_nameHere.cls ≠ "java/lang/invoke/VarHandle" ∧ (parseMethodDescriptor yX6_nameHere.desc).map (fun d => d.parameters.length) = some 0) := by decide +kernel
set_option maxHeartbeats 4000000 in
theorem mm_nameHere {l : Launch} {X : (Nat → Nat) × (Nat → Nat) × Nat} {D : va_G} {dA : Nat → ClassId} {o : Nat} {ad : Nat → Nat} {A : Nat → Prop} (hD : tw_D o ad A)  (t0 tZ : TS) (r : Unit) (hf : fm_nameHere  t0 = some (r, tZ)) : Met l yX6_nameHere (ws_ yX6_nameHere cX6_nameHere 2 (none)) ({ frames := 1, cells := 0, slots := 0, locals := 12 }) (va_Pc [.ref o] (tw_W X A D dA o ad t0)) (tw_Qv D dA o ad A tZ) 0 0 A := by
  refine Met.ofW (cc := cX6_nameHere) (maxL := 2) (ret := none) (by decide) rfl ?_
  intro p e s m args below meth c s₁ B hml hv
  obtain ⟨rfl, hP, hK, hX⟩ := hv
  have hx := B.exec
  have hb := B.bytes
  have hr := B.returns
  have hts := atoms_spec (ws := (ws_ yX6_nameHere cX6_nameHere 2 (none))) B.pre
  have hts : ∀ w ∈ lw_all, w.before _ s = true := fun w h => hts w (List.mem_cons_of_mem _ h)
  have hown : s.vm.findClass "LosslessFabricModel" = some m.cls := findClass_of_methodNamed B.named
  have hlk := B.notSynchronized
  have C : tw_C X p s m _ c cX6_nameHere D dA o ad A := ⟨hx, hb, hts, hown, hK, hD, hX⟩
  have hS : va_S A s.heap s.heap [] := va_S.rf
  have hl := lv_entry ([.ref o]) (n := 2) (Nat.le_of_ble_eq_true rfl)
  rw [lg_entry_eq]
  generalize (lg_sl ([.ref o]) ++ List.replicate (2 - (lg_sl ([.ref o])).length) Slot.unset).toArray = ls at hl ⊢
  have hl : lv_has ls 2 [(0, .ref o)] := hl
  unfold fm_nameHere at hf
  refine lv_aload_n hx hb dX6_nameHere_0 rfl (lv_at hl 0 rfl) ?_
  refine lv_iconst (v := (0 : Int32)) hx hb dX6_nameHere_1 (by decide) ?_
  obtain ⟨x1, t2, e3, hf⟩ := tw_bdE hf
  refine tw_iput (k := 21) C hP hS (by decide) rfl e3 q1397 dX6_nameHere_2 (fun H locs hP hS => ?_)
  refine lv_iconst (v := (0 : Int32)) hx hb dX6_nameHere_5 (by decide) ?_
  refine lv_istore_n (lv' := [(1, .int (0 : Int32)), (0, .ref o)]) hx hb dX6_nameHere_6 rfl hl (by decide) rfl (fun ls hl => ?_)
  have k7 : ∀ (n : Nat) (v7_1 : Int32) (t4 : TS) (H : Heap) (locs : List Loc) (ls : Array Slot), tw_P D dA o ad t4 H → va_S A s.heap H locs → lv_has ls 2 [(0, .ref o), (1, .int v7_1)] → tw_lp (fm_nameHere_L7) (fun _ _ => none) n v7_1 t4 = some (r, tZ) → W p l e (headSpec (ws_ yX6_nameHere cX6_nameHere 2 (none)) ({ frames := 1, cells := 0, slots := 0, locals := 12 })).room s m ([.ref o] : List Value).toArray below meth c H locs 0 0 (MQ below (tw_Qv D dA o ad A tZ) ([.ref o] : List Value).toArray s 0 0 A) (F0 m 7 ls []) := by
    intro n
    induction n with
    | zero => intro v7_1 t4 H locs ls hP hS hl hf; exact (tw_no hf).elim
    | succ n ih7 =>
      intro v7_1 t4 H locs ls hP hS hl hf
      obtain ⟨sf7, hs7⟩ : ∃ f, f = tw_lp (fm_nameHere_L7) (fun _ _ => none) n := ⟨_, rfl⟩
      rw [← hs7] at ih7
      have hf : fm_nameHere_L7 sf7 v7_1 t4 = some (r, tZ) := by rw [hs7]; exact hf
      clear hs7
      unfold fm_nameHere_L7 at hf
      refine lv_iload_n hx hb dX6_nameHere_7 rfl (lv_at hl 1 rfl) ?_
      refine lv_bipush (v := (6 : Int32)) hx hb dX6_nameHere_8 (by decide) ?_
      refine lv_icmp_ge (tgt := 63) hx hb dX6_nameHere_10 (by decide) (fun hc => ?_) (fun hc => ?_)
      · have hf := tw_ifT hc hf
        exact tw_iretv (tw_rtE hf).2 C hr hP hS hlk dX6_nameHere_63
      · have hf := tw_ifF hc hf
        refine lv_aload_n hx hb dX6_nameHere_13 rfl (lv_at hl 0 rfl) ?_
        refine lv_aload_n hx hb dX6_nameHere_14 rfl (lv_at hl 0 rfl) ?_
        obtain ⟨x5, t6, e7, hf⟩ := tw_bdE hf
        refine tw_iget (k := 21) C hP (by decide) (Or.inl rfl) e7 q1397 dX6_nameHere_15 (fun hP => ?_)
        refine lv_iconst (v := (5 : Int32)) hx hb dX6_nameHere_18 (by decide) ?_
        refine lv_ishl hx hb dX6_nameHere_19 ?_
        refine lv_aload_n hx hb dX6_nameHere_20 rfl (lv_at hl 0 rfl) ?_
        obtain ⟨x8, t9, e10, hf⟩ := tw_bdE hf
        refine tw_iget (k := 19) C hP (by decide) (Or.inl rfl) e10 q1395 dX6_nameHere_21 (fun hP => ?_)
        refine lv_iload_n hx hb dX6_nameHere_24 rfl (lv_at hl 1 rfl) ?_
        refine lv_iadd hx hb dX6_nameHere_25 ?_
        refine lv_aload_n hx hb dX6_nameHere_26 rfl (lv_at hl 0 rfl) ?_
        obtain ⟨x11, t12, e13, hf⟩ := tw_bdE hf
        refine tw_iget (k := 18) C hP (by decide) (Or.inl rfl) e13 q1394 dX6_nameHere_27 (fun hP => ?_)
        have k53 : ∀ (w53_0 : Int32) (t14 : TS) (H : Heap) (locs : List Loc) (ls : Array Slot), tw_P D dA o ad t14 H → va_S A s.heap H locs → lv_has ls 2 [(0, .ref o), (1, .int v7_1)] → fm_nameHere_J53 x5 sf7 v7_1 w53_0 t14 = some (r, tZ) → W p l e (headSpec (ws_ yX6_nameHere cX6_nameHere 2 (none)) ({ frames := 1, cells := 0, slots := 0, locals := 12 })).room s m ([.ref o] : List Value).toArray below meth c H locs 0 0 (MQ below (tw_Qv D dA o ad A tZ) ([.ref o] : List Value).toArray s 0 0 A) (F0 m 53 ls [.int w53_0, .int (x5 <<< ((5 : Int32) &&& 31)), .ref o]) := by
          intro w53_0 t14 H locs ls hP hS hl hf
          unfold fm_nameHere_J53 at hf
          refine lv_ior hx hb dX6_nameHere_53 ?_
          obtain ⟨x15, t16, e17, hf⟩ := tw_bdE hf
          refine tw_iput (k := 21) C hP hS (by decide) rfl e17 q1397 dX6_nameHere_54 (fun H locs hP hS => ?_)
          refine lv_iinc (v := (v7_1 + (1 : Int32))) (lv' := [(1, .int (v7_1 + (1 : Int32))), (0, .ref o)]) hx hb dX6_nameHere_57 hl (k := 1) rfl rfl (by decide) rfl (fun ls hl => ?_)
          refine lv_goto (tgt := 7) hx hb dX6_nameHere_60 (by decide) ?_
          exact ih7 _ _ _ _ _ hP hS (lv_sub hl [1, 0] rfl) hf
        refine lv_icmp_ge (tgt := 52) hx hb dX6_nameHere_30 (by decide) (fun hc => ?_) (fun hc => ?_)
        · have hf := tw_ifT hc hf
          refine lv_iconst (v := (0 : Int32)) hx hb dX6_nameHere_52 (by decide) ?_
          exact k53 _ _ _ _ _ hP hS (lv_sub hl [0, 1] rfl) hf
        · have hf := tw_ifF hc hf
          refine lv_aload_n hx hb dX6_nameHere_33 rfl (lv_at hl 0 rfl) ?_
          refine tw_aget (k := 1) C hP (by decide) (by decide) q1377 dX6_nameHere_34 ?_
          refine lv_aload_n hx hb dX6_nameHere_37 rfl (lv_at hl 0 rfl) ?_
          obtain ⟨x18, t19, e20, hf⟩ := tw_bdE hf
          refine tw_iget (k := 19) C hP (by decide) (Or.inl rfl) e20 q1395 dX6_nameHere_38 (fun hP => ?_)
          refine lv_iload_n hx hb dX6_nameHere_41 rfl (lv_at hl 1 rfl) ?_
          refine lv_iadd hx hb dX6_nameHere_42 ?_
          obtain ⟨x21, t22, e23, hf⟩ := tw_bdE hf
          refine tw_iald C hP e23 dX6_nameHere_43 (fun hP => ?_)
          refine lv_bipush (v := (97 : Int32)) hx hb dX6_nameHere_44 (by decide) ?_
          refine lv_isub hx hb dX6_nameHere_46 ?_
          refine lv_iconst (v := (1 : Int32)) hx hb dX6_nameHere_47 (by decide) ?_
          refine lv_iadd hx hb dX6_nameHere_48 ?_
          refine lv_goto (tgt := 53) hx hb dX6_nameHere_49 (by decide) ?_
          exact k53 _ _ _ _ _ hP hS (lv_sub hl [0, 1] rfl) hf
  exact k7 _ _ _ _ _ _ hP hS (lv_sub hl [1, 0] rfl) hf
def fm_wordHere_L97 (sf4 : Int32 → Int32 → TM Int32) (v4_1 : Int32) (sf97 : Int32 → TM Int32) (v97_2 : Int32) : TM Int32 :=
   tw_bd (tw_ch 0 v97_2) fun x11 =>
  if x11 = (32 : Int32) then (sf4 (v4_1 + (1 : Int32)) (v97_2 + (1 : Int32)))
  else (sf97 (v97_2 + (1 : Int32)))
def fm_wordHere_J69 (v4_2 : Int32) (v15_3 : Int32) (v4_1 : Int32) (sf4 : Int32 → Int32 → TM Int32)  : TM Int32 :=
   tw_bd (tw_ch 0 (v4_2 + v15_3)) fun x7 =>
  if x7 = (32 : Int32) then (tw_bd (tw_gi 19) fun x14 =>
  tw_bd (tw_gi 18) fun x17 =>
  if (x14 + v15_3) = x17 then (tw_rt v4_1)
  else (tw_lp (fm_wordHere_L97 sf4 v4_1) (fun _ _ => none) tw_fu v4_2))
  else (tw_lp (fm_wordHere_L97 sf4 v4_1) (fun _ _ => none) tw_fu v4_2)
def fm_wordHere_L15 (v4_2 : Int32) (v4_1 : Int32) (sf4 : Int32 → Int32 → TM Int32) (sf15 : Int32 → TM Int32) (v15_3 : Int32) : TM Int32 :=
   tw_bd (tw_ch 0 (v4_2 + v15_3)) fun x3 =>
  if x3 = (32 : Int32) then (fm_wordHere_J69 v4_2 v15_3 v4_1 sf4)
  else (tw_bd (tw_gi 19) fun x20 =>
  tw_bd (tw_gi 18) fun x23 =>
  if x23 ≤ (x20 + v15_3) then (fm_wordHere_J69 v4_2 v15_3 v4_1 sf4)
  else ( tw_bd (tw_gi 19) fun x26 =>
  tw_bd (tw_ld 1 (x26 + v15_3)) fun x29 =>
   tw_bd (tw_ch 0 (v4_2 + v15_3)) fun x32 =>
  if x29 = x32 then (sf15 (v15_3 + (1 : Int32)))
  else (fm_wordHere_J69 v4_2 v15_3 v4_1 sf4)))
def fm_wordHere_L4  (sf4 : Int32 → Int32 → TM Int32) (v4_1 : Int32) (v4_2 : Int32) : TM Int32 :=
    if (gw_len 0) ≤ v4_2 then (tw_rt (-1 : Int32))
  else (tw_lp (fm_wordHere_L15 v4_2 v4_1 sf4) (fun _ _ => none) tw_fu (0 : Int32))
def fm_wordHere  : TM Int32 :=
  tw_lp (fm_wordHere_L4) (fun _ _ _ => none) tw_fu (0 : Int32) (0 : Int32)
theorem hdX6_wordHere : yX6_wordHere.cls = "LosslessFabricModel" ∧ (yX6_wordHere.cls ≠ "java/lang/invoke/MethodHandle" ∧ yX6_wordHere.cls ≠ "java/lang/invoke/VarHandle" ∧ (parseMethodDescriptor yX6_wordHere.desc).map (fun d => d.parameters.length) = some 0) := by decide +kernel
set_option maxHeartbeats 4000000 in
theorem mm_wordHere {l : Launch} {X : (Nat → Nat) × (Nat → Nat) × Nat} {D : va_G} {dA : Nat → ClassId} {o : Nat} {ad : Nat → Nat} {A : Nat → Prop} (hD : tw_D o ad A)  (t0 tZ : TS) (r : Int32) (hf : fm_wordHere  t0 = some (r, tZ)) : Met l yX6_wordHere (ws_ yX6_wordHere cX6_wordHere 4 (some .int)) ({ frames := 5, cells := 0, slots := 0, locals := 125 }) (va_Pc [.ref o] (tw_W X A D dA o ad t0)) (tw_Qi D dA o ad A r tZ) 0 0 A := by
  refine Met.ofW (cc := cX6_wordHere) (maxL := 4) (ret := some .int) (by decide) rfl ?_
  intro p e s m args below meth c s₁ B hml hv
  obtain ⟨rfl, hP, hK, hX⟩ := hv
  have hx := B.exec
  have hb := B.bytes
  have hr := B.returns
  have hts := atoms_spec (ws := (ws_ yX6_wordHere cX6_wordHere 4 (some .int))) B.pre
  have hts : ∀ w ∈ lw_all, w.before _ s = true := fun w h => hts w (List.mem_cons_of_mem _ h)
  have hown : s.vm.findClass "LosslessFabricModel" = some m.cls := findClass_of_methodNamed B.named
  have hlk := B.notSynchronized
  have C : tw_C X p s m _ c cX6_wordHere D dA o ad A := ⟨hx, hb, hts, hown, hK, hD, hX⟩
  have hS : va_S A s.heap s.heap [] := va_S.rf
  have hl := lv_entry ([.ref o]) (n := 4) (Nat.le_of_ble_eq_true rfl)
  rw [lg_entry_eq]
  generalize (lg_sl ([.ref o]) ++ List.replicate (4 - (lg_sl ([.ref o])).length) Slot.unset).toArray = ls at hl ⊢
  have hl : lv_has ls 4 [(0, .ref o)] := hl
  unfold fm_wordHere at hf
  refine lv_iconst (v := (0 : Int32)) hx hb dX6_wordHere_0 (by decide) ?_
  refine lv_istore_n (lv' := [(1, .int (0 : Int32)), (0, .ref o)]) hx hb dX6_wordHere_1 rfl hl (by decide) rfl (fun ls hl => ?_)
  refine lv_iconst (v := (0 : Int32)) hx hb dX6_wordHere_2 (by decide) ?_
  refine lv_istore_n (lv' := [(2, .int (0 : Int32)), (1, .int (0 : Int32)), (0, .ref o)]) hx hb dX6_wordHere_3 rfl hl (by decide) rfl (fun ls hl => ?_)
  have k4 : ∀ (n : Nat) (v4_1 : Int32) (v4_2 : Int32) (t1 : TS) (H : Heap) (locs : List Loc) (ls : Array Slot), tw_P D dA o ad t1 H → va_S A s.heap H locs → lv_has ls 4 [(0, .ref o), (1, .int v4_1), (2, .int v4_2)] → tw_lp (fm_wordHere_L4) (fun _ _ _ => none) n v4_1 v4_2 t1 = some (r, tZ) → W p l e (headSpec (ws_ yX6_wordHere cX6_wordHere 4 (some .int)) ({ frames := 5, cells := 0, slots := 0, locals := 125 })).room s m ([.ref o] : List Value).toArray below meth c H locs 0 0 (MQ below (tw_Qi D dA o ad A r tZ) ([.ref o] : List Value).toArray s 0 0 A) (F0 m 4 ls []) := by
    intro n
    induction n with
    | zero => intro v4_1 v4_2 t1 H locs ls hP hS hl hf; exact (tw_no hf).elim
    | succ n ih4 =>
      intro v4_1 v4_2 t1 H locs ls hP hS hl hf
      obtain ⟨sf4, hs4⟩ : ∃ f, f = tw_lp (fm_wordHere_L4) (fun _ _ _ => none) n := ⟨_, rfl⟩
      rw [← hs4] at ih4
      have hf : fm_wordHere_L4 sf4 v4_1 v4_2 t1 = some (r, tZ) := by rw [hs4]; exact hf
      clear hs4
      unfold fm_wordHere_L4 at hf
      refine lv_iload_n hx hb dX6_wordHere_4 rfl (lv_at hl 2 rfl) ?_
      refine va_ldcS hx hb hown hX.1 dX6_wordHere_5 ?_
      refine gx_len (k := 0) (rest := [.int v4_2]) hx hb hml hown hts hX hS (by decide) (cwV 0 hts (lw_V q1557 q496 q497 q108 q498) rfl rfl rfl hdJ0_length ⟨Nat.le_of_ble_eq_true rfl, Nat.le_of_ble_eq_true rfl⟩) hl.1 (Nat.le_of_ble_eq_true rfl) ⟨Nat.zero_le _, Nat.zero_le _⟩ dX6_wordHere_7 ?_
      refine lv_icmp_ge (tgt := 123) hx hb dX6_wordHere_10 (by decide) (fun hc => ?_) (fun hc => ?_)
      · have hf := tw_ifT hc hf
        refine lv_iconst (v := (-1 : Int32)) hx hb dX6_wordHere_123 (by decide) ?_
        exact tw_ireti (tw_rtE hf).1 (tw_rtE hf).2 C hr hP hS hlk dX6_wordHere_124
      · have hf := tw_ifF hc hf
        refine lv_iconst (v := (0 : Int32)) hx hb dX6_wordHere_13 (by decide) ?_
        refine lv_istore_n (lv' := [(3, .int (0 : Int32)), (0, .ref o), (1, .int v4_1), (2, .int v4_2)]) hx hb dX6_wordHere_14 rfl hl (by decide) rfl (fun ls hl => ?_)
        have k15 : ∀ (n : Nat) (v15_3 : Int32) (t2 : TS) (H : Heap) (locs : List Loc) (ls : Array Slot), tw_P D dA o ad t2 H → va_S A s.heap H locs → lv_has ls 4 [(0, .ref o), (1, .int v4_1), (2, .int v4_2), (3, .int v15_3)] → tw_lp (fm_wordHere_L15 v4_2 v4_1 sf4) (fun _ _ => none) n v15_3 t2 = some (r, tZ) → W p l e (headSpec (ws_ yX6_wordHere cX6_wordHere 4 (some .int)) ({ frames := 5, cells := 0, slots := 0, locals := 125 })).room s m ([.ref o] : List Value).toArray below meth c H locs 0 0 (MQ below (tw_Qi D dA o ad A r tZ) ([.ref o] : List Value).toArray s 0 0 A) (F0 m 15 ls []) := by
          intro n
          induction n with
          | zero => intro v15_3 t2 H locs ls hP hS hl hf; exact (tw_no hf).elim
          | succ n ih15 =>
            intro v15_3 t2 H locs ls hP hS hl hf
            obtain ⟨sf15, hs15⟩ : ∃ f, f = tw_lp (fm_wordHere_L15 v4_2 v4_1 sf4) (fun _ _ => none) n := ⟨_, rfl⟩
            rw [← hs15] at ih15
            have hf : fm_wordHere_L15 v4_2 v4_1 sf4 sf15 v15_3 t2 = some (r, tZ) := by rw [hs15]; exact hf
            clear hs15
            unfold fm_wordHere_L15 at hf
            refine va_ldcS hx hb hown hX.1 dX6_wordHere_15 ?_
            refine lv_iload_n hx hb dX6_wordHere_17 rfl (lv_at hl 2 rfl) ?_
            refine lv_iload_n hx hb dX6_wordHere_18 rfl (lv_at hl 3 rfl) ?_
            refine lv_iadd hx hb dX6_wordHere_19 ?_
            obtain ⟨x3, t4, e5, hf⟩ := tw_bdE hf
            refine gx_ch (k := 0) (rest := []) hx hb hml hown hts hX hS (by decide) e5 (cwV 1 hts (lw_V q1558 q579 q580 q108 q581) rfl rfl rfl hdJ0_charAt ⟨Nat.le_of_ble_eq_true rfl, Nat.le_of_ble_eq_true rfl⟩) hl.1 (Nat.le_of_ble_eq_true rfl) ⟨Nat.zero_le _, Nat.zero_le _⟩ dX6_wordHere_20 (fun ht => ?_)
            rw [ht] at hP
            refine lv_bipush (v := (32 : Int32)) hx hb dX6_wordHere_23 (by decide) ?_
            have k69 : ∀  (t6 : TS) (H : Heap) (locs : List Loc) (ls : Array Slot), tw_P D dA o ad t6 H → va_S A s.heap H locs → lv_has ls 4 [(0, .ref o), (1, .int v4_1), (2, .int v4_2), (3, .int v15_3)] → fm_wordHere_J69 v4_2 v15_3 v4_1 sf4  t6 = some (r, tZ) → W p l e (headSpec (ws_ yX6_wordHere cX6_wordHere 4 (some .int)) ({ frames := 5, cells := 0, slots := 0, locals := 125 })).room s m ([.ref o] : List Value).toArray below meth c H locs 0 0 (MQ below (tw_Qi D dA o ad A r tZ) ([.ref o] : List Value).toArray s 0 0 A) (F0 m 69 ls []) := by
              intro t6 H locs ls hP hS hl hf
              unfold fm_wordHere_J69 at hf
              refine va_ldcS hx hb hown hX.1 dX6_wordHere_69 ?_
              refine lv_iload_n hx hb dX6_wordHere_71 rfl (lv_at hl 2 rfl) ?_
              refine lv_iload_n hx hb dX6_wordHere_72 rfl (lv_at hl 3 rfl) ?_
              refine lv_iadd hx hb dX6_wordHere_73 ?_
              obtain ⟨x7, t8, e9, hf⟩ := tw_bdE hf
              refine gx_ch (k := 0) (rest := []) hx hb hml hown hts hX hS (by decide) e9 (cwV 1 hts (lw_V q1558 q579 q580 q108 q581) rfl rfl rfl hdJ0_charAt ⟨Nat.le_of_ble_eq_true rfl, Nat.le_of_ble_eq_true rfl⟩) hl.1 (Nat.le_of_ble_eq_true rfl) ⟨Nat.zero_le _, Nat.zero_le _⟩ dX6_wordHere_74 (fun ht => ?_)
              rw [ht] at hP
              refine lv_bipush (v := (32 : Int32)) hx hb dX6_wordHere_77 (by decide) ?_
              have k97 : ∀ (n : Nat) (v97_2 : Int32) (t10 : TS) (H : Heap) (locs : List Loc) (ls : Array Slot), tw_P D dA o ad t10 H → va_S A s.heap H locs → lv_has ls 4 [(0, .ref o), (1, .int v4_1), (2, .int v97_2)] → tw_lp (fm_wordHere_L97 sf4 v4_1) (fun _ _ => none) n v97_2 t10 = some (r, tZ) → W p l e (headSpec (ws_ yX6_wordHere cX6_wordHere 4 (some .int)) ({ frames := 5, cells := 0, slots := 0, locals := 125 })).room s m ([.ref o] : List Value).toArray below meth c H locs 0 0 (MQ below (tw_Qi D dA o ad A r tZ) ([.ref o] : List Value).toArray s 0 0 A) (F0 m 97 ls []) := by
                intro n
                induction n with
                | zero => intro v97_2 t10 H locs ls hP hS hl hf; exact (tw_no hf).elim
                | succ n ih97 =>
                  intro v97_2 t10 H locs ls hP hS hl hf
                  obtain ⟨sf97, hs97⟩ : ∃ f, f = tw_lp (fm_wordHere_L97 sf4 v4_1) (fun _ _ => none) n := ⟨_, rfl⟩
                  rw [← hs97] at ih97
                  have hf : fm_wordHere_L97 sf4 v4_1 sf97 v97_2 t10 = some (r, tZ) := by rw [hs97]; exact hf
                  clear hs97
                  unfold fm_wordHere_L97 at hf
                  refine va_ldcS hx hb hown hX.1 dX6_wordHere_97 ?_
                  refine lv_iload_n hx hb dX6_wordHere_99 rfl (lv_at hl 2 rfl) ?_
                  obtain ⟨x11, t12, e13, hf⟩ := tw_bdE hf
                  refine gx_ch (k := 0) (rest := []) hx hb hml hown hts hX hS (by decide) e13 (cwV 1 hts (lw_V q1558 q579 q580 q108 q581) rfl rfl rfl hdJ0_charAt ⟨Nat.le_of_ble_eq_true rfl, Nat.le_of_ble_eq_true rfl⟩) hl.1 (Nat.le_of_ble_eq_true rfl) ⟨Nat.zero_le _, Nat.zero_le _⟩ dX6_wordHere_100 (fun ht => ?_)
                  rw [ht] at hP
                  refine lv_bipush (v := (32 : Int32)) hx hb dX6_wordHere_103 (by decide) ?_
                  refine lv_icmp_eq (tgt := 114) hx hb dX6_wordHere_105 (by decide) (fun hc => ?_) (fun hc => ?_)
                  · have hf := tw_ifT hc hf
                    refine lv_iinc (v := (v97_2 + (1 : Int32))) (lv' := [(2, .int (v97_2 + (1 : Int32))), (0, .ref o), (1, .int v4_1)]) hx hb dX6_wordHere_114 hl (k := 2) rfl rfl (by decide) rfl (fun ls hl => ?_)
                    refine lv_iinc (v := (v4_1 + (1 : Int32))) (lv' := [(1, .int (v4_1 + (1 : Int32))), (2, .int (v97_2 + (1 : Int32))), (0, .ref o)]) hx hb dX6_wordHere_117 hl (k := 2) rfl rfl (by decide) rfl (fun ls hl => ?_)
                    refine lv_goto (tgt := 4) hx hb dX6_wordHere_120 (by decide) ?_
                    exact ih4 _ _ _ _ _ _ hP hS (lv_sub hl [2, 0, 1] rfl) hf
                  · have hf := tw_ifF hc hf
                    refine lv_iinc (v := (v97_2 + (1 : Int32))) (lv' := [(2, .int (v97_2 + (1 : Int32))), (0, .ref o), (1, .int v4_1)]) hx hb dX6_wordHere_108 hl (k := 2) rfl rfl (by decide) rfl (fun ls hl => ?_)
                    refine lv_goto (tgt := 97) hx hb dX6_wordHere_111 (by decide) ?_
                    exact ih97 _ _ _ _ _ hP hS (lv_sub hl [1, 2, 0] rfl) hf
              refine lv_icmp_ne (tgt := 97) hx hb dX6_wordHere_79 (by decide) (fun hc => ?_) (fun hc => ?_)
              · have hf := tw_ifF hc hf
                exact k97 _ _ _ _ _ _ hP hS (lv_sub hl [0, 1, 2] rfl) hf
              · have hf := tw_ifT hc hf
                refine lv_aload_n hx hb dX6_wordHere_82 rfl (lv_at hl 0 rfl) ?_
                obtain ⟨x14, t15, e16, hf⟩ := tw_bdE hf
                refine tw_iget (k := 19) C hP (by decide) (Or.inl rfl) e16 q1395 dX6_wordHere_83 (fun hP => ?_)
                refine lv_iload_n hx hb dX6_wordHere_86 rfl (lv_at hl 3 rfl) ?_
                refine lv_iadd hx hb dX6_wordHere_87 ?_
                refine lv_aload_n hx hb dX6_wordHere_88 rfl (lv_at hl 0 rfl) ?_
                obtain ⟨x17, t18, e19, hf⟩ := tw_bdE hf
                refine tw_iget (k := 18) C hP (by decide) (Or.inl rfl) e19 q1394 dX6_wordHere_89 (fun hP => ?_)
                refine lv_icmp_ne (tgt := 97) hx hb dX6_wordHere_92 (by decide) (fun hc => ?_) (fun hc => ?_)
                · have hf := tw_ifF hc hf
                  exact k97 _ _ _ _ _ _ hP hS (lv_sub hl [0, 1, 2] rfl) hf
                · have hf := tw_ifT hc hf
                  refine lv_iload_n hx hb dX6_wordHere_95 rfl (lv_at hl 1 rfl) ?_
                  exact tw_ireti (tw_rtE hf).1 (tw_rtE hf).2 C hr hP hS hlk dX6_wordHere_96
            refine lv_icmp_eq (tgt := 69) hx hb dX6_wordHere_25 (by decide) (fun hc => ?_) (fun hc => ?_)
            · have hf := tw_ifT hc hf
              exact k69 _ _ _ _ hP hS (lv_sub hl [0, 1, 2, 3] rfl) hf
            · have hf := tw_ifF hc hf
              refine lv_aload_n hx hb dX6_wordHere_28 rfl (lv_at hl 0 rfl) ?_
              obtain ⟨x20, t21, e22, hf⟩ := tw_bdE hf
              refine tw_iget (k := 19) C hP (by decide) (Or.inl rfl) e22 q1395 dX6_wordHere_29 (fun hP => ?_)
              refine lv_iload_n hx hb dX6_wordHere_32 rfl (lv_at hl 3 rfl) ?_
              refine lv_iadd hx hb dX6_wordHere_33 ?_
              refine lv_aload_n hx hb dX6_wordHere_34 rfl (lv_at hl 0 rfl) ?_
              obtain ⟨x23, t24, e25, hf⟩ := tw_bdE hf
              refine tw_iget (k := 18) C hP (by decide) (Or.inl rfl) e25 q1394 dX6_wordHere_35 (fun hP => ?_)
              refine lv_icmp_ge (tgt := 69) hx hb dX6_wordHere_38 (by decide) (fun hc => ?_) (fun hc => ?_)
              · have hf := tw_ifT hc hf
                exact k69 _ _ _ _ hP hS (lv_sub hl [0, 1, 2, 3] rfl) hf
              · have hf := tw_ifF hc hf
                refine lv_aload_n hx hb dX6_wordHere_41 rfl (lv_at hl 0 rfl) ?_
                refine tw_aget (k := 1) C hP (by decide) (by decide) q1377 dX6_wordHere_42 ?_
                refine lv_aload_n hx hb dX6_wordHere_45 rfl (lv_at hl 0 rfl) ?_
                obtain ⟨x26, t27, e28, hf⟩ := tw_bdE hf
                refine tw_iget (k := 19) C hP (by decide) (Or.inl rfl) e28 q1395 dX6_wordHere_46 (fun hP => ?_)
                refine lv_iload_n hx hb dX6_wordHere_49 rfl (lv_at hl 3 rfl) ?_
                refine lv_iadd hx hb dX6_wordHere_50 ?_
                obtain ⟨x29, t30, e31, hf⟩ := tw_bdE hf
                refine tw_iald C hP e31 dX6_wordHere_51 (fun hP => ?_)
                refine va_ldcS hx hb hown hX.1 dX6_wordHere_52 ?_
                refine lv_iload_n hx hb dX6_wordHere_54 rfl (lv_at hl 2 rfl) ?_
                refine lv_iload_n hx hb dX6_wordHere_55 rfl (lv_at hl 3 rfl) ?_
                refine lv_iadd hx hb dX6_wordHere_56 ?_
                obtain ⟨x32, t33, e34, hf⟩ := tw_bdE hf
                refine gx_ch (k := 0) (rest := [.int x29]) hx hb hml hown hts hX hS (by decide) e34 (cwV 1 hts (lw_V q1558 q579 q580 q108 q581) rfl rfl rfl hdJ0_charAt ⟨Nat.le_of_ble_eq_true rfl, Nat.le_of_ble_eq_true rfl⟩) hl.1 (Nat.le_of_ble_eq_true rfl) ⟨Nat.zero_le _, Nat.zero_le _⟩ dX6_wordHere_57 (fun ht => ?_)
                rw [ht] at hP
                refine lv_icmp_ne (tgt := 69) hx hb dX6_wordHere_60 (by decide) (fun hc => ?_) (fun hc => ?_)
                · have hf := tw_ifF hc hf
                  exact k69 _ _ _ _ hP hS (lv_sub hl [0, 1, 2, 3] rfl) hf
                · have hf := tw_ifT hc hf
                  refine lv_iinc (v := (v15_3 + (1 : Int32))) (lv' := [(3, .int (v15_3 + (1 : Int32))), (0, .ref o), (1, .int v4_1), (2, .int v4_2)]) hx hb dX6_wordHere_63 hl (k := 3) rfl rfl (by decide) rfl (fun ls hl => ?_)
                  refine lv_goto (tgt := 15) hx hb dX6_wordHere_66 (by decide) ?_
                  exact ih15 _ _ _ _ _ hP hS (lv_sub hl [1, 2, 3, 0] rfl) hf
        exact k15 _ _ _ _ _ _ hP hS (lv_sub hl [1, 2, 3, 0] rfl) hf
  exact k4 _ _ _ _ _ _ _ hP hS (lv_sub hl [2, 1, 0] rfl) hf
def fm_token_J18 (sf0 : TM Unit)  : TM Unit :=
  tw_bd (tw_gi 18) fun x6 =>
  tw_bd (tw_pi 18 (x6 + (1 : Int32))) fun _ =>
 
  sf0
def fm_token_J245   : TM Unit :=
  tw_rt ()
def fm_token_J232  (w232_0 : Int32) : TM Unit :=
  tw_bd (tw_pi 20 w232_0) fun _ =>
  tw_bd (tw_gi 18) fun x35 =>
  tw_bd (tw_pi 18 (x35 + (1 : Int32))) fun _ =>
 
  fm_token_J245
def fm_token_J204 (sf162 : TM Unit) (w204_0 : Int32) : TM Unit :=
  tw_bd (tw_pi 21 w204_0) fun _ =>
  tw_bd (tw_gi 18) fun x61 =>
  tw_bd (tw_pi 18 (x61 + (1 : Int32))) fun _ =>
 
  sf162
def fm_token_L162  (sf162 : TM Unit)  : TM Unit :=
  tw_bd (fm_here) fun x48 =>
  tw_bd (fm_isDigit x48) fun x51 =>
  if x51 = 0 then (fm_token_J245)
  else (tw_bd (tw_gi 21) fun x54 =>
  if x54 ≤ (99999 : Int32) then (tw_bd (tw_gi 21) fun x67 =>
  tw_bd (fm_here) fun x70 =>
 
  fm_token_J204 sf162 ((((10 : Int32) * x67) + x70) - (48 : Int32)))
  else (tw_bd (tw_gi 21) fun x73 =>
 
  fm_token_J204 sf162 x73))
def fm_token_J127  (w127_0 : Int32) : TM Unit :=
  tw_bd (tw_pi 20 w127_0) fun _ =>
  tw_bd (tw_gi 20) fun x96 =>
  if x96 = (1 : Int32) then (tw_bd (fm_nameHere) fun _ =>
 
  fm_token_J245)
  else (fm_token_J245)
def fm_token_L64  (sf64 : TM Unit)  : TM Unit :=
  tw_bd (fm_here) fun x77 =>
  tw_bd (fm_isSmall x77) fun x80 =>
  if x80 = 0 then (tw_bd (fm_wordHere) fun x83 =>
  tw_bd (tw_pi 21 x83) fun _ =>
  tw_bd (tw_gi 21) fun x89 =>
  if x89 = (-1 : Int32) then (tw_bd (tw_gi 18) fun x102 =>
  tw_bd (tw_gi 19) fun x105 =>
  if (x102 - x105) ≤ (6 : Int32) then (fm_token_J127 (1 : Int32))
  else (fm_token_J127 (5 : Int32)))
  else (fm_token_J127 (0 : Int32)))
  else (tw_bd (tw_gi 18) fun x108 =>
  tw_bd (tw_pi 18 (x108 + (1 : Int32))) fun _ =>
 
  sf64)
def fm_token_L0  (sf0 : TM Unit)  : TM Unit :=
  tw_bd (fm_here) fun x2 =>
  if x2 = (10 : Int32) then (fm_token_J18 sf0)
  else (tw_bd (fm_here) fun x12 =>
  if x12 = (32 : Int32) then (fm_token_J18 sf0)
  else (tw_bd (tw_gi 18) fun x15 =>
  tw_bd (tw_pi 19 x15) fun _ =>
  tw_bd (fm_here) fun x21 =>
  if x21 = (-1 : Int32) then (tw_bd (tw_pi 20 (4 : Int32)) fun _ =>
 
  fm_token_J245)
  else (tw_bd (fm_isSmall x21) fun x25 =>
  if x25 = 0 then (tw_bd (fm_isDigit x21) fun x28 =>
  if x28 = 0 then (if x21 = (59 : Int32) then (fm_token_J232 (3 : Int32))
  else (fm_token_J232 (5 : Int32)))
  else (tw_bd (tw_pi 20 (2 : Int32)) fun _ =>
  tw_bd (tw_pi 21 (0 : Int32)) fun _ =>
 
  tw_lp (fm_token_L162) (fun _ => none) tw_fu))
  else (tw_lp (fm_token_L64) (fun _ => none) tw_fu))))
def fm_token  : TM Unit :=
  tw_lp (fm_token_L0) (fun _ => none) tw_fu
theorem hdX6_token : yX6_token.cls = "LosslessFabricModel" ∧ (yX6_token.cls ≠ "java/lang/invoke/MethodHandle" ∧ yX6_token.cls ≠ "java/lang/invoke/VarHandle" ∧ (parseMethodDescriptor yX6_token.desc).map (fun d => d.parameters.length) = some 0) := by decide +kernel
set_option maxHeartbeats 4000000 in
theorem mm_token {l : Launch} {X : (Nat → Nat) × (Nat → Nat) × Nat} {D : va_G} {dA : Nat → ClassId} {o : Nat} {ad : Nat → Nat} {A : Nat → Prop} (hD : tw_D o ad A)  (t0 tZ : TS) (r : Unit) (hf : fm_token  t0 = some (r, tZ)) : Met l yX6_token (ws_ yX6_token cX6_token 2 (none)) ({ frames := 6, cells := 0, slots := 0, locals := 148 }) (va_Pc [.ref o] (tw_W X A D dA o ad t0)) (tw_Qv D dA o ad A tZ) 0 0 A := by
  refine Met.ofW (cc := cX6_token) (maxL := 2) (ret := none) (by decide) rfl ?_
  intro p e s m args below meth c s₁ B hml hv
  obtain ⟨rfl, hP, hK, hX⟩ := hv
  have hx := B.exec
  have hb := B.bytes
  have hr := B.returns
  have hts := atoms_spec (ws := (ws_ yX6_token cX6_token 2 (none))) B.pre
  have hts : ∀ w ∈ lw_all, w.before _ s = true := fun w h => hts w (List.mem_cons_of_mem _ h)
  have hown : s.vm.findClass "LosslessFabricModel" = some m.cls := findClass_of_methodNamed B.named
  have hlk := B.notSynchronized
  have C : tw_C X p s m _ c cX6_token D dA o ad A := ⟨hx, hb, hts, hown, hK, hD, hX⟩
  have hS : va_S A s.heap s.heap [] := va_S.rf
  have hl := lv_entry ([.ref o]) (n := 2) (Nat.le_of_ble_eq_true rfl)
  rw [lg_entry_eq]
  generalize (lg_sl ([.ref o]) ++ List.replicate (2 - (lg_sl ([.ref o])).length) Slot.unset).toArray = ls at hl ⊢
  have hl : lv_has ls 2 [(0, .ref o)] := hl
  unfold fm_token at hf
  have k0 : ∀ (n : Nat)  (t1 : TS) (H : Heap) (locs : List Loc) (ls : Array Slot), tw_P D dA o ad t1 H → va_S A s.heap H locs → lv_has ls 2 [(0, .ref o)] → tw_lp (fm_token_L0) (fun _ => none) n  t1 = some (r, tZ) → W p l e (headSpec (ws_ yX6_token cX6_token 2 (none)) ({ frames := 6, cells := 0, slots := 0, locals := 148 })).room s m ([.ref o] : List Value).toArray below meth c H locs 0 0 (MQ below (tw_Qv D dA o ad A tZ) ([.ref o] : List Value).toArray s 0 0 A) (F0 m 0 ls []) := by
    intro n
    induction n with
    | zero => intro t1 H locs ls hP hS hl hf; exact (tw_no hf).elim
    | succ n ih0 =>
      intro t1 H locs ls hP hS hl hf
      obtain ⟨sf0, hs0⟩ : ∃ f, f = tw_lp (fm_token_L0) (fun _ => none) n := ⟨_, rfl⟩
      rw [← hs0] at ih0
      have hf : fm_token_L0 sf0  t1 = some (r, tZ) := by rw [hs0]; exact hf
      clear hs0
      unfold fm_token_L0 at hf
      refine lv_aload_n hx hb dX6_token_0 rfl (lv_at hl 0 rfl) ?_
      obtain ⟨x2, t3, e4, hf⟩ := tw_bdE hf
      refine tw_cVi (As := []) (rest := []) C hml hP hS (mm_here (l := l) (X := X) (D := D) (dA := dA) hD _ _ _ e4) (cwV 0 hts (lw_V q1545 q1547 qs47 q106 q1548) rfl rfl rfl hdX6_here ⟨Nat.le_of_ble_eq_true rfl, Nat.le_of_ble_eq_true rfl⟩) rfl hl.1 rfl (Nat.le_of_ble_eq_true rfl) dX6_token_1 (fun H locs hP hS => ?_)
      refine lv_bipush (v := (10 : Int32)) hx hb dX6_token_4 (by decide) ?_
      have k18 : ∀  (t5 : TS) (H : Heap) (locs : List Loc) (ls : Array Slot), tw_P D dA o ad t5 H → va_S A s.heap H locs → lv_has ls 2 [(0, .ref o)] → fm_token_J18 sf0  t5 = some (r, tZ) → W p l e (headSpec (ws_ yX6_token cX6_token 2 (none)) ({ frames := 6, cells := 0, slots := 0, locals := 148 })).room s m ([.ref o] : List Value).toArray below meth c H locs 0 0 (MQ below (tw_Qv D dA o ad A tZ) ([.ref o] : List Value).toArray s 0 0 A) (F0 m 18 ls []) := by
        intro t5 H locs ls hP hS hl hf
        unfold fm_token_J18 at hf
        refine lv_aload_n hx hb dX6_token_18 rfl (lv_at hl 0 rfl) ?_
        refine lv_dup hx hb dX6_token_19 rfl ?_
        obtain ⟨x6, t7, e8, hf⟩ := tw_bdE hf
        refine tw_iget (k := 18) C hP (by decide) (Or.inl rfl) e8 q1394 dX6_token_20 (fun hP => ?_)
        refine lv_iconst (v := (1 : Int32)) hx hb dX6_token_23 (by decide) ?_
        refine lv_iadd hx hb dX6_token_24 ?_
        obtain ⟨x9, t10, e11, hf⟩ := tw_bdE hf
        refine tw_iput (k := 18) C hP hS (by decide) rfl e11 q1394 dX6_token_25 (fun H locs hP hS => ?_)
        refine lv_goto (tgt := 0) hx hb dX6_token_28 (by decide) ?_
        exact ih0 _ _ _ _ hP hS (lv_sub hl [0] rfl) hf
      refine lv_icmp_eq (tgt := 18) hx hb dX6_token_6 (by decide) (fun hc => ?_) (fun hc => ?_)
      · have hf := tw_ifT hc hf
        exact k18 _ _ _ _ hP hS (lv_sub hl [0] rfl) hf
      · have hf := tw_ifF hc hf
        refine lv_aload_n hx hb dX6_token_9 rfl (lv_at hl 0 rfl) ?_
        obtain ⟨x12, t13, e14, hf⟩ := tw_bdE hf
        refine tw_cVi (As := []) (rest := []) C hml hP hS (mm_here (l := l) (X := X) (D := D) (dA := dA) hD _ _ _ e14) (cwV 0 hts (lw_V q1545 q1547 qs47 q106 q1548) rfl rfl rfl hdX6_here ⟨Nat.le_of_ble_eq_true rfl, Nat.le_of_ble_eq_true rfl⟩) rfl hl.1 rfl (Nat.le_of_ble_eq_true rfl) dX6_token_10 (fun H locs hP hS => ?_)
        refine lv_bipush (v := (32 : Int32)) hx hb dX6_token_13 (by decide) ?_
        refine lv_icmp_ne (tgt := 31) hx hb dX6_token_15 (by decide) (fun hc => ?_) (fun hc => ?_)
        · have hf := tw_ifF hc hf
          refine lv_aload_n hx hb dX6_token_31 rfl (lv_at hl 0 rfl) ?_
          refine lv_aload_n hx hb dX6_token_32 rfl (lv_at hl 0 rfl) ?_
          obtain ⟨x15, t16, e17, hf⟩ := tw_bdE hf
          refine tw_iget (k := 18) C hP (by decide) (Or.inl rfl) e17 q1394 dX6_token_33 (fun hP => ?_)
          obtain ⟨x18, t19, e20, hf⟩ := tw_bdE hf
          refine tw_iput (k := 19) C hP hS (by decide) rfl e20 q1395 dX6_token_36 (fun H locs hP hS => ?_)
          refine lv_aload_n hx hb dX6_token_39 rfl (lv_at hl 0 rfl) ?_
          obtain ⟨x21, t22, e23, hf⟩ := tw_bdE hf
          refine tw_cVi (As := []) (rest := []) C hml hP hS (mm_here (l := l) (X := X) (D := D) (dA := dA) hD _ _ _ e23) (cwV 0 hts (lw_V q1545 q1547 qs47 q106 q1548) rfl rfl rfl hdX6_here ⟨Nat.le_of_ble_eq_true rfl, Nat.le_of_ble_eq_true rfl⟩) rfl hl.1 rfl (Nat.le_of_ble_eq_true rfl) dX6_token_40 (fun H locs hP hS => ?_)
          refine lv_istore_n (lv' := [(1, .int x21), (0, .ref o)]) hx hb dX6_token_43 rfl hl (by decide) rfl (fun ls hl => ?_)
          refine lv_iload_n hx hb dX6_token_44 rfl (lv_at hl 0 rfl) ?_
          refine lv_iconst (v := (-1 : Int32)) hx hb dX6_token_45 (by decide) ?_
          have k245 : ∀  (t24 : TS) (H : Heap) (locs : List Loc) (ls : Array Slot), tw_P D dA o ad t24 H → va_S A s.heap H locs → lv_has ls 2 [] → fm_token_J245  t24 = some (r, tZ) → W p l e (headSpec (ws_ yX6_token cX6_token 2 (none)) ({ frames := 6, cells := 0, slots := 0, locals := 148 })).room s m ([.ref o] : List Value).toArray below meth c H locs 0 0 (MQ below (tw_Qv D dA o ad A tZ) ([.ref o] : List Value).toArray s 0 0 A) (F0 m 245 ls []) := by
            intro t24 H locs ls hP hS hl hf
            unfold fm_token_J245 at hf
            exact tw_iretv (tw_rtE hf).2 C hr hP hS hlk dX6_token_245
          refine lv_icmp_ne (tgt := 57) hx hb dX6_token_46 (by decide) (fun hc => ?_) (fun hc => ?_)
          · have hf := tw_ifF hc hf
            refine lv_iload_n hx hb dX6_token_57 rfl (lv_at hl 0 rfl) ?_
            obtain ⟨x25, t26, e27, hf⟩ := tw_bdE hf
            refine tw_cSi (As := [.int x21]) (rest := []) C hml hP hS (mm_isSmall (l := l) (X := X) (D := D) (dA := dA) hD _ _ _ _ e27) (va_cwS 1 hts (lw_S q1549 q1550 q106 q1551) rfl rfl rfl hdX6_isSmall ⟨Nat.le_of_ble_eq_true rfl, Nat.le_of_ble_eq_true rfl⟩) rfl hl.1 rfl (Nat.le_of_ble_eq_true rfl) dX6_token_58 (fun H locs hP hS => ?_)
            refine lv_if_eq (tgt := 145) hx hb dX6_token_61 (by decide) (fun hc => ?_) (fun hc => ?_)
            · have hf := tw_ifT hc hf
              refine lv_iload_n hx hb dX6_token_145 rfl (lv_at hl 0 rfl) ?_
              obtain ⟨x28, t29, e30, hf⟩ := tw_bdE hf
              refine tw_cSi (As := [.int x21]) (rest := []) C hml hP hS (mm_isDigit (l := l) (X := X) (D := D) (dA := dA) hD _ _ _ _ e30) (va_cwS 1 hts (lw_S q1563 q1564 q106 q1565) rfl rfl rfl hdX6_isDigit ⟨Nat.le_of_ble_eq_true rfl, Nat.le_of_ble_eq_true rfl⟩) rfl hl.1 rfl (Nat.le_of_ble_eq_true rfl) dX6_token_146 (fun H locs hP hS => ?_)
              refine lv_if_eq (tgt := 220) hx hb dX6_token_149 (by decide) (fun hc => ?_) (fun hc => ?_)
              · have hf := tw_ifT hc hf
                refine lv_aload_n hx hb dX6_token_220 rfl (lv_at hl 1 rfl) ?_
                refine lv_iload_n hx hb dX6_token_221 rfl (lv_at hl 0 rfl) ?_
                refine lv_bipush (v := (59 : Int32)) hx hb dX6_token_222 (by decide) ?_
                have k232 : ∀ (w232_0 : Int32) (t31 : TS) (H : Heap) (locs : List Loc) (ls : Array Slot), tw_P D dA o ad t31 H → va_S A s.heap H locs → lv_has ls 2 [(0, .ref o)] → fm_token_J232 w232_0 t31 = some (r, tZ) → W p l e (headSpec (ws_ yX6_token cX6_token 2 (none)) ({ frames := 6, cells := 0, slots := 0, locals := 148 })).room s m ([.ref o] : List Value).toArray below meth c H locs 0 0 (MQ below (tw_Qv D dA o ad A tZ) ([.ref o] : List Value).toArray s 0 0 A) (F0 m 232 ls [.int w232_0, .ref o]) := by
                  intro w232_0 t31 H locs ls hP hS hl hf
                  unfold fm_token_J232 at hf
                  obtain ⟨x32, t33, e34, hf⟩ := tw_bdE hf
                  refine tw_iput (k := 20) C hP hS (by decide) rfl e34 q1396 dX6_token_232 (fun H locs hP hS => ?_)
                  refine lv_aload_n hx hb dX6_token_235 rfl (lv_at hl 0 rfl) ?_
                  refine lv_dup hx hb dX6_token_236 rfl ?_
                  obtain ⟨x35, t36, e37, hf⟩ := tw_bdE hf
                  refine tw_iget (k := 18) C hP (by decide) (Or.inl rfl) e37 q1394 dX6_token_237 (fun hP => ?_)
                  refine lv_iconst (v := (1 : Int32)) hx hb dX6_token_240 (by decide) ?_
                  refine lv_iadd hx hb dX6_token_241 ?_
                  obtain ⟨x38, t39, e40, hf⟩ := tw_bdE hf
                  refine tw_iput (k := 18) C hP hS (by decide) rfl e40 q1394 dX6_token_242 (fun H locs hP hS => ?_)
                  exact k245 _ _ _ _ hP hS (lv_sub hl [] rfl) hf
                refine lv_icmp_ne (tgt := 231) hx hb dX6_token_224 (by decide) (fun hc => ?_) (fun hc => ?_)
                · have hf := tw_ifF hc hf
                  refine lv_iconst (v := (5 : Int32)) hx hb dX6_token_231 (by decide) ?_
                  exact k232 _ _ _ _ _ hP hS (lv_sub hl [1] rfl) hf
                · have hf := tw_ifT hc hf
                  refine lv_iconst (v := (3 : Int32)) hx hb dX6_token_227 (by decide) ?_
                  refine lv_goto (tgt := 232) hx hb dX6_token_228 (by decide) ?_
                  exact k232 _ _ _ _ _ hP hS (lv_sub hl [1] rfl) hf
              · have hf := tw_ifF hc hf
                refine lv_aload_n hx hb dX6_token_152 rfl (lv_at hl 1 rfl) ?_
                refine lv_iconst (v := (2 : Int32)) hx hb dX6_token_153 (by decide) ?_
                obtain ⟨x41, t42, e43, hf⟩ := tw_bdE hf
                refine tw_iput (k := 20) C hP hS (by decide) rfl e43 q1396 dX6_token_154 (fun H locs hP hS => ?_)
                refine lv_aload_n hx hb dX6_token_157 rfl (lv_at hl 1 rfl) ?_
                refine lv_iconst (v := (0 : Int32)) hx hb dX6_token_158 (by decide) ?_
                obtain ⟨x44, t45, e46, hf⟩ := tw_bdE hf
                refine tw_iput (k := 21) C hP hS (by decide) rfl e46 q1397 dX6_token_159 (fun H locs hP hS => ?_)
                have k162 : ∀ (n : Nat)  (t47 : TS) (H : Heap) (locs : List Loc) (ls : Array Slot), tw_P D dA o ad t47 H → va_S A s.heap H locs → lv_has ls 2 [(0, .ref o)] → tw_lp (fm_token_L162) (fun _ => none) n  t47 = some (r, tZ) → W p l e (headSpec (ws_ yX6_token cX6_token 2 (none)) ({ frames := 6, cells := 0, slots := 0, locals := 148 })).room s m ([.ref o] : List Value).toArray below meth c H locs 0 0 (MQ below (tw_Qv D dA o ad A tZ) ([.ref o] : List Value).toArray s 0 0 A) (F0 m 162 ls []) := by
                  intro n
                  induction n with
                  | zero => intro t47 H locs ls hP hS hl hf; exact (tw_no hf).elim
                  | succ n ih162 =>
                    intro t47 H locs ls hP hS hl hf
                    obtain ⟨sf162, hs162⟩ : ∃ f, f = tw_lp (fm_token_L162) (fun _ => none) n := ⟨_, rfl⟩
                    rw [← hs162] at ih162
                    have hf : fm_token_L162 sf162  t47 = some (r, tZ) := by rw [hs162]; exact hf
                    clear hs162
                    unfold fm_token_L162 at hf
                    refine lv_aload_n hx hb dX6_token_162 rfl (lv_at hl 0 rfl) ?_
                    obtain ⟨x48, t49, e50, hf⟩ := tw_bdE hf
                    refine tw_cVi (As := []) (rest := []) C hml hP hS (mm_here (l := l) (X := X) (D := D) (dA := dA) hD _ _ _ e50) (cwV 0 hts (lw_V q1545 q1547 qs47 q106 q1548) rfl rfl rfl hdX6_here ⟨Nat.le_of_ble_eq_true rfl, Nat.le_of_ble_eq_true rfl⟩) rfl hl.1 rfl (Nat.le_of_ble_eq_true rfl) dX6_token_163 (fun H locs hP hS => ?_)
                    obtain ⟨x51, t52, e53, hf⟩ := tw_bdE hf
                    refine tw_cSi (As := [.int x48]) (rest := []) C hml hP hS (mm_isDigit (l := l) (X := X) (D := D) (dA := dA) hD _ _ _ _ e53) (va_cwS 1 hts (lw_S q1563 q1564 q106 q1565) rfl rfl rfl hdX6_isDigit ⟨Nat.le_of_ble_eq_true rfl, Nat.le_of_ble_eq_true rfl⟩) rfl hl.1 rfl (Nat.le_of_ble_eq_true rfl) dX6_token_166 (fun H locs hP hS => ?_)
                    refine lv_if_eq (tgt := 245) hx hb dX6_token_169 (by decide) (fun hc => ?_) (fun hc => ?_)
                    · have hf := tw_ifT hc hf
                      exact k245 _ _ _ _ hP hS (lv_sub hl [] rfl) hf
                    · have hf := tw_ifF hc hf
                      refine lv_aload_n hx hb dX6_token_172 rfl (lv_at hl 0 rfl) ?_
                      refine lv_aload_n hx hb dX6_token_173 rfl (lv_at hl 0 rfl) ?_
                      obtain ⟨x54, t55, e56, hf⟩ := tw_bdE hf
                      refine tw_iget (k := 21) C hP (by decide) (Or.inl rfl) e56 q1397 dX6_token_174 (fun hP => ?_)
                      refine lv_ldc hx hb hown (hts _ q1566) dX6_token_177 ?_
                      have k204 : ∀ (w204_0 : Int32) (t57 : TS) (H : Heap) (locs : List Loc) (ls : Array Slot), tw_P D dA o ad t57 H → va_S A s.heap H locs → lv_has ls 2 [(0, .ref o)] → fm_token_J204 sf162 w204_0 t57 = some (r, tZ) → W p l e (headSpec (ws_ yX6_token cX6_token 2 (none)) ({ frames := 6, cells := 0, slots := 0, locals := 148 })).room s m ([.ref o] : List Value).toArray below meth c H locs 0 0 (MQ below (tw_Qv D dA o ad A tZ) ([.ref o] : List Value).toArray s 0 0 A) (F0 m 204 ls [.int w204_0, .ref o]) := by
                        intro w204_0 t57 H locs ls hP hS hl hf
                        unfold fm_token_J204 at hf
                        obtain ⟨x58, t59, e60, hf⟩ := tw_bdE hf
                        refine tw_iput (k := 21) C hP hS (by decide) rfl e60 q1397 dX6_token_204 (fun H locs hP hS => ?_)
                        refine lv_aload_n hx hb dX6_token_207 rfl (lv_at hl 0 rfl) ?_
                        refine lv_dup hx hb dX6_token_208 rfl ?_
                        obtain ⟨x61, t62, e63, hf⟩ := tw_bdE hf
                        refine tw_iget (k := 18) C hP (by decide) (Or.inl rfl) e63 q1394 dX6_token_209 (fun hP => ?_)
                        refine lv_iconst (v := (1 : Int32)) hx hb dX6_token_212 (by decide) ?_
                        refine lv_iadd hx hb dX6_token_213 ?_
                        obtain ⟨x64, t65, e66, hf⟩ := tw_bdE hf
                        refine tw_iput (k := 18) C hP hS (by decide) rfl e66 q1394 dX6_token_214 (fun H locs hP hS => ?_)
                        refine lv_goto (tgt := 162) hx hb dX6_token_217 (by decide) ?_
                        exact ih162 _ _ _ _ hP hS (lv_sub hl [0] rfl) hf
                      refine lv_icmp_le (tgt := 189) hx hb dX6_token_179 (by decide) (fun hc => ?_) (fun hc => ?_)
                      · have hf := tw_ifT hc hf
                        refine lv_bipush (v := (10 : Int32)) hx hb dX6_token_189 (by decide) ?_
                        refine lv_aload_n hx hb dX6_token_191 rfl (lv_at hl 0 rfl) ?_
                        obtain ⟨x67, t68, e69, hf⟩ := tw_bdE hf
                        refine tw_iget (k := 21) C hP (by decide) (Or.inl rfl) e69 q1397 dX6_token_192 (fun hP => ?_)
                        refine lv_imul hx hb dX6_token_195 ?_
                        refine lv_aload_n hx hb dX6_token_196 rfl (lv_at hl 0 rfl) ?_
                        obtain ⟨x70, t71, e72, hf⟩ := tw_bdE hf
                        refine tw_cVi (As := []) (rest := [.int ((10 : Int32) * x67), .ref o]) C hml hP hS (mm_here (l := l) (X := X) (D := D) (dA := dA) hD _ _ _ e72) (cwV 0 hts (lw_V q1545 q1547 qs47 q106 q1548) rfl rfl rfl hdX6_here ⟨Nat.le_of_ble_eq_true rfl, Nat.le_of_ble_eq_true rfl⟩) rfl hl.1 rfl (Nat.le_of_ble_eq_true rfl) dX6_token_197 (fun H locs hP hS => ?_)
                        refine lv_iadd hx hb dX6_token_200 ?_
                        refine lv_bipush (v := (48 : Int32)) hx hb dX6_token_201 (by decide) ?_
                        refine lv_isub hx hb dX6_token_203 ?_
                        exact k204 _ _ _ _ _ hP hS (lv_sub hl [0] rfl) hf
                      · have hf := tw_ifF hc hf
                        refine lv_aload_n hx hb dX6_token_182 rfl (lv_at hl 0 rfl) ?_
                        obtain ⟨x73, t74, e75, hf⟩ := tw_bdE hf
                        refine tw_iget (k := 21) C hP (by decide) (Or.inl rfl) e75 q1397 dX6_token_183 (fun hP => ?_)
                        refine lv_goto (tgt := 204) hx hb dX6_token_186 (by decide) ?_
                        exact k204 _ _ _ _ _ hP hS (lv_sub hl [0] rfl) hf
                exact k162 _ _ _ _ _ hP hS (lv_sub hl [1] rfl) hf
            · have hf := tw_ifF hc hf
              have k64 : ∀ (n : Nat)  (t76 : TS) (H : Heap) (locs : List Loc) (ls : Array Slot), tw_P D dA o ad t76 H → va_S A s.heap H locs → lv_has ls 2 [(0, .ref o)] → tw_lp (fm_token_L64) (fun _ => none) n  t76 = some (r, tZ) → W p l e (headSpec (ws_ yX6_token cX6_token 2 (none)) ({ frames := 6, cells := 0, slots := 0, locals := 148 })).room s m ([.ref o] : List Value).toArray below meth c H locs 0 0 (MQ below (tw_Qv D dA o ad A tZ) ([.ref o] : List Value).toArray s 0 0 A) (F0 m 64 ls []) := by
                intro n
                induction n with
                | zero => intro t76 H locs ls hP hS hl hf; exact (tw_no hf).elim
                | succ n ih64 =>
                  intro t76 H locs ls hP hS hl hf
                  obtain ⟨sf64, hs64⟩ : ∃ f, f = tw_lp (fm_token_L64) (fun _ => none) n := ⟨_, rfl⟩
                  rw [← hs64] at ih64
                  have hf : fm_token_L64 sf64  t76 = some (r, tZ) := by rw [hs64]; exact hf
                  clear hs64
                  unfold fm_token_L64 at hf
                  refine lv_aload_n hx hb dX6_token_64 rfl (lv_at hl 0 rfl) ?_
                  obtain ⟨x77, t78, e79, hf⟩ := tw_bdE hf
                  refine tw_cVi (As := []) (rest := []) C hml hP hS (mm_here (l := l) (X := X) (D := D) (dA := dA) hD _ _ _ e79) (cwV 0 hts (lw_V q1545 q1547 qs47 q106 q1548) rfl rfl rfl hdX6_here ⟨Nat.le_of_ble_eq_true rfl, Nat.le_of_ble_eq_true rfl⟩) rfl hl.1 rfl (Nat.le_of_ble_eq_true rfl) dX6_token_65 (fun H locs hP hS => ?_)
                  obtain ⟨x80, t81, e82, hf⟩ := tw_bdE hf
                  refine tw_cSi (As := [.int x77]) (rest := []) C hml hP hS (mm_isSmall (l := l) (X := X) (D := D) (dA := dA) hD _ _ _ _ e82) (va_cwS 1 hts (lw_S q1549 q1550 q106 q1551) rfl rfl rfl hdX6_isSmall ⟨Nat.le_of_ble_eq_true rfl, Nat.le_of_ble_eq_true rfl⟩) rfl hl.1 rfl (Nat.le_of_ble_eq_true rfl) dX6_token_68 (fun H locs hP hS => ?_)
                  refine lv_if_eq (tgt := 87) hx hb dX6_token_71 (by decide) (fun hc => ?_) (fun hc => ?_)
                  · have hf := tw_ifT hc hf
                    refine lv_aload_n hx hb dX6_token_87 rfl (lv_at hl 0 rfl) ?_
                    refine lv_aload_n hx hb dX6_token_88 rfl (lv_at hl 0 rfl) ?_
                    obtain ⟨x83, t84, e85, hf⟩ := tw_bdE hf
                    refine tw_cVi (As := []) (rest := [.ref o]) C hml hP hS (mm_wordHere (l := l) (X := X) (D := D) (dA := dA) hD _ _ _ e85) (cwV 0 hts (lw_V q1552 q1554 qs48 q106 q1555) rfl rfl rfl hdX6_wordHere ⟨Nat.le_of_ble_eq_true rfl, Nat.le_of_ble_eq_true rfl⟩) rfl hl.1 rfl (Nat.le_of_ble_eq_true rfl) dX6_token_89 (fun H locs hP hS => ?_)
                    obtain ⟨x86, t87, e88, hf⟩ := tw_bdE hf
                    refine tw_iput (k := 21) C hP hS (by decide) rfl e88 q1397 dX6_token_92 (fun H locs hP hS => ?_)
                    refine lv_aload_n hx hb dX6_token_95 rfl (lv_at hl 0 rfl) ?_
                    refine lv_aload_n hx hb dX6_token_96 rfl (lv_at hl 0 rfl) ?_
                    obtain ⟨x89, t90, e91, hf⟩ := tw_bdE hf
                    refine tw_iget (k := 21) C hP (by decide) (Or.inl rfl) e91 q1397 dX6_token_97 (fun hP => ?_)
                    refine lv_iconst (v := (-1 : Int32)) hx hb dX6_token_100 (by decide) ?_
                    have k127 : ∀ (w127_0 : Int32) (t92 : TS) (H : Heap) (locs : List Loc) (ls : Array Slot), tw_P D dA o ad t92 H → va_S A s.heap H locs → lv_has ls 2 [(0, .ref o)] → fm_token_J127 w127_0 t92 = some (r, tZ) → W p l e (headSpec (ws_ yX6_token cX6_token 2 (none)) ({ frames := 6, cells := 0, slots := 0, locals := 148 })).room s m ([.ref o] : List Value).toArray below meth c H locs 0 0 (MQ below (tw_Qv D dA o ad A tZ) ([.ref o] : List Value).toArray s 0 0 A) (F0 m 127 ls [.int w127_0, .ref o]) := by
                      intro w127_0 t92 H locs ls hP hS hl hf
                      unfold fm_token_J127 at hf
                      obtain ⟨x93, t94, e95, hf⟩ := tw_bdE hf
                      refine tw_iput (k := 20) C hP hS (by decide) rfl e95 q1396 dX6_token_127 (fun H locs hP hS => ?_)
                      refine lv_aload_n hx hb dX6_token_130 rfl (lv_at hl 0 rfl) ?_
                      obtain ⟨x96, t97, e98, hf⟩ := tw_bdE hf
                      refine tw_iget (k := 20) C hP (by decide) (Or.inl rfl) e98 q1396 dX6_token_131 (fun hP => ?_)
                      refine lv_iconst (v := (1 : Int32)) hx hb dX6_token_134 (by decide) ?_
                      refine lv_icmp_ne (tgt := 245) hx hb dX6_token_135 (by decide) (fun hc => ?_) (fun hc => ?_)
                      · have hf := tw_ifF hc hf
                        exact k245 _ _ _ _ hP hS (lv_sub hl [] rfl) hf
                      · have hf := tw_ifT hc hf
                        refine lv_aload_n hx hb dX6_token_138 rfl (lv_at hl 0 rfl) ?_
                        obtain ⟨x99, t100, e101, hf⟩ := tw_bdE hf
                        refine tw_cVv (As := []) (rest := []) C hml hP hS (mm_nameHere (l := l) (X := X) (D := D) (dA := dA) hD _ _ _ e101) (cwV 0 hts (lw_V q1559 q1561 qs49 q106 q1562) rfl rfl rfl hdX6_nameHere ⟨Nat.le_of_ble_eq_true rfl, Nat.le_of_ble_eq_true rfl⟩) rfl hl.1 rfl (Nat.le_of_ble_eq_true rfl) dX6_token_139 (fun H locs hP hS => ?_)
                        refine lv_goto (tgt := 245) hx hb dX6_token_142 (by decide) ?_
                        exact k245 _ _ _ _ hP hS (lv_sub hl [] rfl) hf
                    refine lv_icmp_eq (tgt := 108) hx hb dX6_token_101 (by decide) (fun hc => ?_) (fun hc => ?_)
                    · have hf := tw_ifT hc hf
                      refine lv_aload_n hx hb dX6_token_108 rfl (lv_at hl 0 rfl) ?_
                      obtain ⟨x102, t103, e104, hf⟩ := tw_bdE hf
                      refine tw_iget (k := 18) C hP (by decide) (Or.inl rfl) e104 q1394 dX6_token_109 (fun hP => ?_)
                      refine lv_aload_n hx hb dX6_token_112 rfl (lv_at hl 0 rfl) ?_
                      obtain ⟨x105, t106, e107, hf⟩ := tw_bdE hf
                      refine tw_iget (k := 19) C hP (by decide) (Or.inl rfl) e107 q1395 dX6_token_113 (fun hP => ?_)
                      refine lv_isub hx hb dX6_token_116 ?_
                      refine lv_bipush (v := (6 : Int32)) hx hb dX6_token_117 (by decide) ?_
                      refine lv_icmp_le (tgt := 126) hx hb dX6_token_119 (by decide) (fun hc => ?_) (fun hc => ?_)
                      · have hf := tw_ifT hc hf
                        refine lv_iconst (v := (1 : Int32)) hx hb dX6_token_126 (by decide) ?_
                        exact k127 _ _ _ _ _ hP hS (lv_sub hl [0] rfl) hf
                      · have hf := tw_ifF hc hf
                        refine lv_iconst (v := (5 : Int32)) hx hb dX6_token_122 (by decide) ?_
                        refine lv_goto (tgt := 127) hx hb dX6_token_123 (by decide) ?_
                        exact k127 _ _ _ _ _ hP hS (lv_sub hl [0] rfl) hf
                    · have hf := tw_ifF hc hf
                      refine lv_iconst (v := (0 : Int32)) hx hb dX6_token_104 (by decide) ?_
                      refine lv_goto (tgt := 127) hx hb dX6_token_105 (by decide) ?_
                      exact k127 _ _ _ _ _ hP hS (lv_sub hl [0] rfl) hf
                  · have hf := tw_ifF hc hf
                    refine lv_aload_n hx hb dX6_token_74 rfl (lv_at hl 0 rfl) ?_
                    refine lv_dup hx hb dX6_token_75 rfl ?_
                    obtain ⟨x108, t109, e110, hf⟩ := tw_bdE hf
                    refine tw_iget (k := 18) C hP (by decide) (Or.inl rfl) e110 q1394 dX6_token_76 (fun hP => ?_)
                    refine lv_iconst (v := (1 : Int32)) hx hb dX6_token_79 (by decide) ?_
                    refine lv_iadd hx hb dX6_token_80 ?_
                    obtain ⟨x111, t112, e113, hf⟩ := tw_bdE hf
                    refine tw_iput (k := 18) C hP hS (by decide) rfl e113 q1394 dX6_token_81 (fun H locs hP hS => ?_)
                    refine lv_goto (tgt := 64) hx hb dX6_token_84 (by decide) ?_
                    exact ih64 _ _ _ _ hP hS (lv_sub hl [0] rfl) hf
              exact k64 _ _ _ _ _ hP hS (lv_sub hl [1] rfl) hf
          · have hf := tw_ifT hc hf
            refine lv_aload_n hx hb dX6_token_49 rfl (lv_at hl 1 rfl) ?_
            refine lv_iconst (v := (4 : Int32)) hx hb dX6_token_50 (by decide) ?_
            obtain ⟨x114, t115, e116, hf⟩ := tw_bdE hf
            refine tw_iput (k := 20) C hP hS (by decide) rfl e116 q1396 dX6_token_51 (fun H locs hP hS => ?_)
            refine lv_goto (tgt := 245) hx hb dX6_token_54 (by decide) ?_
            exact k245 _ _ _ _ hP hS (lv_sub hl [] rfl) hf
        · have hf := tw_ifT hc hf
          exact k18 _ _ _ _ hP hS (lv_sub hl [0] rfl) hf
  exact k0 _ _ _ _ _ hP hS (lv_sub hl [0] rfl) hf
def fm_goOn_J11   : TM Unit :=
  tw_rt ()
def fm_goOn  : TM Unit :=
  tw_bd (tw_gi 22) fun x1 =>
  if x1 = 0 then (tw_bd (fm_token) fun _ =>
 
  fm_goOn_J11)
  else (fm_goOn_J11)
theorem hdX6_goOn : yX6_goOn.cls = "LosslessFabricModel" ∧ (yX6_goOn.cls ≠ "java/lang/invoke/MethodHandle" ∧ yX6_goOn.cls ≠ "java/lang/invoke/VarHandle" ∧ (parseMethodDescriptor yX6_goOn.desc).map (fun d => d.parameters.length) = some 0) := by decide +kernel
set_option maxHeartbeats 4000000 in
theorem mm_goOn {l : Launch} {X : (Nat → Nat) × (Nat → Nat) × Nat} {D : va_G} {dA : Nat → ClassId} {o : Nat} {ad : Nat → Nat} {A : Nat → Prop} (hD : tw_D o ad A)  (t0 tZ : TS) (r : Unit) (hf : fm_goOn  t0 = some (r, tZ)) : Met l yX6_goOn (ws_ yX6_goOn cX6_goOn 1 (none)) ({ frames := 7, cells := 0, slots := 0, locals := 169 }) (va_Pc [.ref o] (tw_W X A D dA o ad t0)) (tw_Qv D dA o ad A tZ) 0 0 A := by
  refine Met.ofW (cc := cX6_goOn) (maxL := 1) (ret := none) (by decide) rfl ?_
  intro p e s m args below meth c s₁ B hml hv
  obtain ⟨rfl, hP, hK, hX⟩ := hv
  have hx := B.exec
  have hb := B.bytes
  have hr := B.returns
  have hts := atoms_spec (ws := (ws_ yX6_goOn cX6_goOn 1 (none))) B.pre
  have hts : ∀ w ∈ lw_all, w.before _ s = true := fun w h => hts w (List.mem_cons_of_mem _ h)
  have hown : s.vm.findClass "LosslessFabricModel" = some m.cls := findClass_of_methodNamed B.named
  have hlk := B.notSynchronized
  have C : tw_C X p s m _ c cX6_goOn D dA o ad A := ⟨hx, hb, hts, hown, hK, hD, hX⟩
  have hS : va_S A s.heap s.heap [] := va_S.rf
  have hl := lv_entry ([.ref o]) (n := 1) (Nat.le_of_ble_eq_true rfl)
  rw [lg_entry_eq]
  generalize (lg_sl ([.ref o]) ++ List.replicate (1 - (lg_sl ([.ref o])).length) Slot.unset).toArray = ls at hl ⊢
  have hl : lv_has ls 1 [(0, .ref o)] := hl
  unfold fm_goOn at hf
  refine lv_aload_n hx hb dX6_goOn_0 rfl (lv_at hl 0 rfl) ?_
  obtain ⟨x1, t2, e3, hf⟩ := tw_bdE hf
  refine tw_iget (k := 22) C hP (by decide) (Or.inl rfl) e3 q1398 dX6_goOn_1 (fun hP => ?_)
  have k11 : ∀  (t4 : TS) (H : Heap) (locs : List Loc) (ls : Array Slot), tw_P D dA o ad t4 H → va_S A s.heap H locs → lv_has ls 1 [] → fm_goOn_J11  t4 = some (r, tZ) → W p l e (headSpec (ws_ yX6_goOn cX6_goOn 1 (none)) ({ frames := 7, cells := 0, slots := 0, locals := 169 })).room s m ([.ref o] : List Value).toArray below meth c H locs 0 0 (MQ below (tw_Qv D dA o ad A tZ) ([.ref o] : List Value).toArray s 0 0 A) (F0 m 11 ls []) := by
    intro t4 H locs ls hP hS hl hf
    unfold fm_goOn_J11 at hf
    exact tw_iretv (tw_rtE hf).2 C hr hP hS hlk dX6_goOn_11
  refine lv_if_ne (tgt := 11) hx hb dX6_goOn_4 (by decide) (fun hc => ?_) (fun hc => ?_)
  · have hf := tw_ifF hc hf
    exact k11 _ _ _ _ hP hS (lv_sub hl [] rfl) hf
  · have hf := tw_ifT hc hf
    refine lv_aload_n hx hb dX6_goOn_7 rfl (lv_at hl 0 rfl) ?_
    obtain ⟨x5, t6, e7, hf⟩ := tw_bdE hf
    refine tw_cVv (As := []) (rest := []) C hml hP hS (mm_token (l := l) (X := X) (D := D) (dA := dA) hD _ _ _ e7) (cwV 0 hts (lw_V q1541 q1543 qs46 q106 q1544) rfl rfl rfl hdX6_token ⟨Nat.le_of_ble_eq_true rfl, Nat.le_of_ble_eq_true rfl⟩) rfl hl.1 rfl (Nat.le_of_ble_eq_true rfl) dX6_goOn_8 (fun H locs hP hS => ?_)
    exact k11 _ _ _ _ hP hS (lv_sub hl [] rfl) hf
def fm_foundIn_L3 (a2 : Int32) (a0 : Nat) (a1 : Int32) (a3 : Int32) (sf3 : Int32 → TM Int32) (v3_4 : Int32) : TM Int32 :=
  if a2 ≤ v3_4 then (tw_rt (-1 : Int32))
  else (tw_bd (tw_ld a0 (a1 + v3_4)) fun x2 =>
  if x2 = a3 then (tw_rt v3_4)
  else (sf3 (v3_4 + (1 : Int32))))
def fm_foundIn (a0 : Nat) (a1 : Int32) (a2 : Int32) (a3 : Int32) : TM Int32 :=
  tw_lp (fm_foundIn_L3 a2 a0 a1 a3) (fun _ _ => none) tw_fu (0 : Int32)
theorem hdX6_foundIn : (yX6_foundIn.cls ≠ "java/lang/invoke/MethodHandle" ∧ yX6_foundIn.cls ≠ "java/lang/invoke/VarHandle" ∧ (parseMethodDescriptor yX6_foundIn.desc).map (fun d => d.parameters.length) = some 4) := by decide +kernel
set_option maxHeartbeats 4000000 in
theorem mm_foundIn {l : Launch} {X : (Nat → Nat) × (Nat → Nat) × Nat} {D : va_G} {dA : Nat → ClassId} {o : Nat} {ad : Nat → Nat} {A : Nat → Prop} (hD : tw_D o ad A) (a0 : Nat) (a1 : Int32) (a2 : Int32) (a3 : Int32) (t0 tZ : TS) (r : Int32) (hf : fm_foundIn a0 a1 a2 a3 t0 = some (r, tZ)) : Met l yX6_foundIn (ws_ yX6_foundIn cX6_foundIn 5 (some .int)) ({ frames := 1, cells := 0, slots := 0, locals := 12 }) (va_Pc [.ref (ad a0), .int a1, .int a2, .int a3] (tw_W X A D dA o ad t0)) (tw_Qi D dA o ad A r tZ) 0 0 A := by
  refine Met.ofW (cc := cX6_foundIn) (maxL := 5) (ret := some .int) (by decide) rfl ?_
  intro p e s m args below meth c s₁ B hml hv
  obtain ⟨rfl, hP, hK, hX⟩ := hv
  have hx := B.exec
  have hb := B.bytes
  have hr := B.returns
  have hts := atoms_spec (ws := (ws_ yX6_foundIn cX6_foundIn 5 (some .int))) B.pre
  have hts : ∀ w ∈ lw_all, w.before _ s = true := fun w h => hts w (List.mem_cons_of_mem _ h)
  have hown : s.vm.findClass "LosslessFabricModel" = some m.cls := findClass_of_methodNamed B.named
  have hlk := B.notSynchronized
  have C : tw_C X p s m _ c cX6_foundIn D dA o ad A := ⟨hx, hb, hts, hown, hK, hD, hX⟩
  have hS : va_S A s.heap s.heap [] := va_S.rf
  have hl := lv_entry ([.ref (ad a0), .int a1, .int a2, .int a3]) (n := 5) (Nat.le_of_ble_eq_true rfl)
  rw [lg_entry_eq]
  generalize (lg_sl ([.ref (ad a0), .int a1, .int a2, .int a3]) ++ List.replicate (5 - (lg_sl ([.ref (ad a0), .int a1, .int a2, .int a3])).length) Slot.unset).toArray = ls at hl ⊢
  have hl : lv_has ls 5 [(0, .ref (ad a0)), (1, .int a1), (2, .int a2), (3, .int a3)] := hl
  unfold fm_foundIn at hf
  refine lv_iconst (v := (0 : Int32)) hx hb dX6_foundIn_0 (by decide) ?_
  refine lv_istore (lv' := [(4, .int (0 : Int32)), (0, .ref (ad a0)), (1, .int a1), (2, .int a2), (3, .int a3)]) hx hb dX6_foundIn_1 hl (by decide) rfl (fun ls hl => ?_)
  have k3 : ∀ (n : Nat) (v3_4 : Int32) (t1 : TS) (H : Heap) (locs : List Loc) (ls : Array Slot), tw_P D dA o ad t1 H → va_S A s.heap H locs → lv_has ls 5 [(0, .ref (ad a0)), (1, .int a1), (2, .int a2), (3, .int a3), (4, .int v3_4)] → tw_lp (fm_foundIn_L3 a2 a0 a1 a3) (fun _ _ => none) n v3_4 t1 = some (r, tZ) → W p l e (headSpec (ws_ yX6_foundIn cX6_foundIn 5 (some .int)) ({ frames := 1, cells := 0, slots := 0, locals := 12 })).room s m ([.ref (ad a0), .int a1, .int a2, .int a3] : List Value).toArray below meth c H locs 0 0 (MQ below (tw_Qi D dA o ad A r tZ) ([.ref (ad a0), .int a1, .int a2, .int a3] : List Value).toArray s 0 0 A) (F0 m 3 ls []) := by
    intro n
    induction n with
    | zero => intro v3_4 t1 H locs ls hP hS hl hf; exact (tw_no hf).elim
    | succ n ih3 =>
      intro v3_4 t1 H locs ls hP hS hl hf
      obtain ⟨sf3, hs3⟩ : ∃ f, f = tw_lp (fm_foundIn_L3 a2 a0 a1 a3) (fun _ _ => none) n := ⟨_, rfl⟩
      rw [← hs3] at ih3
      have hf : fm_foundIn_L3 a2 a0 a1 a3 sf3 v3_4 t1 = some (r, tZ) := by rw [hs3]; exact hf
      clear hs3
      unfold fm_foundIn_L3 at hf
      refine lv_iload hx hb dX6_foundIn_3 (lv_at hl 4 rfl) ?_
      refine lv_iload_n hx hb dX6_foundIn_5 rfl (lv_at hl 2 rfl) ?_
      refine lv_icmp_ge (tgt := 28) hx hb dX6_foundIn_6 (by decide) (fun hc => ?_) (fun hc => ?_)
      · have hf := tw_ifT hc hf
        refine lv_iconst (v := (-1 : Int32)) hx hb dX6_foundIn_28 (by decide) ?_
        exact tw_ireti (tw_rtE hf).1 (tw_rtE hf).2 C hr hP hS hlk dX6_foundIn_29
      · have hf := tw_ifF hc hf
        refine lv_aload_n hx hb dX6_foundIn_9 rfl (lv_at hl 0 rfl) ?_
        refine lv_iload_n hx hb dX6_foundIn_10 rfl (lv_at hl 1 rfl) ?_
        refine lv_iload hx hb dX6_foundIn_11 (lv_at hl 4 rfl) ?_
        refine lv_iadd hx hb dX6_foundIn_13 ?_
        obtain ⟨x2, t3, e4, hf⟩ := tw_bdE hf
        refine tw_iald C hP e4 dX6_foundIn_14 (fun hP => ?_)
        refine lv_iload_n hx hb dX6_foundIn_15 rfl (lv_at hl 3 rfl) ?_
        refine lv_icmp_ne (tgt := 22) hx hb dX6_foundIn_16 (by decide) (fun hc => ?_) (fun hc => ?_)
        · have hf := tw_ifF hc hf
          refine lv_iinc (v := (v3_4 + (1 : Int32))) (lv' := [(4, .int (v3_4 + (1 : Int32))), (0, .ref (ad a0)), (1, .int a1), (2, .int a2), (3, .int a3)]) hx hb dX6_foundIn_22 hl (k := 4) rfl rfl (by decide) rfl (fun ls hl => ?_)
          refine lv_goto (tgt := 3) hx hb dX6_foundIn_25 (by decide) ?_
          exact ih3 _ _ _ _ _ hP hS (lv_sub hl [1, 2, 3, 4, 0] rfl) hf
        · have hf := tw_ifT hc hf
          refine lv_iload hx hb dX6_foundIn_19 (lv_at hl 4 rfl) ?_
          exact tw_ireti (tw_rtE hf).1 (tw_rtE hf).2 C hr hP hS hlk dX6_foundIn_21
  exact k3 _ _ _ _ _ _ hP hS (lv_sub hl [1, 2, 3, 4, 0] rfl) hf
def fm_wrong (a1 : Int32) : TM Unit :=
  tw_bd (tw_gi 22) fun x1 =>
  if x1 = 0 then (tw_bd (tw_pi 22 a1) fun _ =>
  tw_bd (tw_gi 19) fun x7 =>
  tw_bd (tw_pi 23 x7) fun _ =>
  tw_rt ())
  else (tw_rt ())
theorem hdX6_wrong : yX6_wrong.cls = "LosslessFabricModel" ∧ (yX6_wrong.cls ≠ "java/lang/invoke/MethodHandle" ∧ yX6_wrong.cls ≠ "java/lang/invoke/VarHandle" ∧ (parseMethodDescriptor yX6_wrong.desc).map (fun d => d.parameters.length) = some 1) := by decide +kernel
set_option maxHeartbeats 4000000 in
theorem mm_wrong {l : Launch} {X : (Nat → Nat) × (Nat → Nat) × Nat} {D : va_G} {dA : Nat → ClassId} {o : Nat} {ad : Nat → Nat} {A : Nat → Prop} (hD : tw_D o ad A) (a1 : Int32) (t0 tZ : TS) (r : Unit) (hf : fm_wrong a1 t0 = some (r, tZ)) : Met l yX6_wrong (ws_ yX6_wrong cX6_wrong 2 (none)) ({ frames := 1, cells := 0, slots := 0, locals := 12 }) (va_Pc [.ref o, .int a1] (tw_W X A D dA o ad t0)) (tw_Qv D dA o ad A tZ) 0 0 A := by
  refine Met.ofW (cc := cX6_wrong) (maxL := 2) (ret := none) (by decide) rfl ?_
  intro p e s m args below meth c s₁ B hml hv
  obtain ⟨rfl, hP, hK, hX⟩ := hv
  have hx := B.exec
  have hb := B.bytes
  have hr := B.returns
  have hts := atoms_spec (ws := (ws_ yX6_wrong cX6_wrong 2 (none))) B.pre
  have hts : ∀ w ∈ lw_all, w.before _ s = true := fun w h => hts w (List.mem_cons_of_mem _ h)
  have hown : s.vm.findClass "LosslessFabricModel" = some m.cls := findClass_of_methodNamed B.named
  have hlk := B.notSynchronized
  have C : tw_C X p s m _ c cX6_wrong D dA o ad A := ⟨hx, hb, hts, hown, hK, hD, hX⟩
  have hS : va_S A s.heap s.heap [] := va_S.rf
  have hl := lv_entry ([.ref o, .int a1]) (n := 2) (Nat.le_of_ble_eq_true rfl)
  rw [lg_entry_eq]
  generalize (lg_sl ([.ref o, .int a1]) ++ List.replicate (2 - (lg_sl ([.ref o, .int a1])).length) Slot.unset).toArray = ls at hl ⊢
  have hl : lv_has ls 2 [(0, .ref o), (1, .int a1)] := hl
  unfold fm_wrong at hf
  refine lv_aload_n hx hb dX6_wrong_0 rfl (lv_at hl 0 rfl) ?_
  obtain ⟨x1, t2, e3, hf⟩ := tw_bdE hf
  refine tw_iget (k := 22) C hP (by decide) (Or.inl rfl) e3 q1398 dX6_wrong_1 (fun hP => ?_)
  refine lv_if_eq (tgt := 8) hx hb dX6_wrong_4 (by decide) (fun hc => ?_) (fun hc => ?_)
  · have hf := tw_ifT hc hf
    refine lv_aload_n hx hb dX6_wrong_8 rfl (lv_at hl 0 rfl) ?_
    refine lv_iload_n hx hb dX6_wrong_9 rfl (lv_at hl 1 rfl) ?_
    obtain ⟨x4, t5, e6, hf⟩ := tw_bdE hf
    refine tw_iput (k := 22) C hP hS (by decide) rfl e6 q1398 dX6_wrong_10 (fun H locs hP hS => ?_)
    refine lv_aload_n hx hb dX6_wrong_13 rfl (lv_at hl 0 rfl) ?_
    refine lv_aload_n hx hb dX6_wrong_14 rfl (lv_at hl 0 rfl) ?_
    obtain ⟨x7, t8, e9, hf⟩ := tw_bdE hf
    refine tw_iget (k := 19) C hP (by decide) (Or.inl rfl) e9 q1395 dX6_wrong_15 (fun hP => ?_)
    obtain ⟨x10, t11, e12, hf⟩ := tw_bdE hf
    refine tw_iput (k := 23) C hP hS (by decide) rfl e12 q1399 dX6_wrong_18 (fun H locs hP hS => ?_)
    exact tw_iretv (tw_rtE hf).2 C hr hP hS hlk dX6_wrong_21
  · have hf := tw_ifF hc hf
    exact tw_iretv (tw_rtE hf).2 C hr hP hS hlk dX6_wrong_7