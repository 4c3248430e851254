def fm_laysFair_J160 (sf51 : Int32 → TM Unit) (v65_1 : Int32)  : TM Unit :=
  sf51 v65_1
def fm_laysFair_J143 (sf65 : Int32 → Int64 → Int64 → Int32 → TM Unit) (v65_6 : Int32) (v143_1 : Int32) (v143_2 : Int64) (v143_4 : Int64) : TM Unit :=
  sf65 v143_1 v143_2 v143_4 (v65_6 + (1 : Int32))
def fm_laysFair_J130 (sf65 : Int32 → Int64 → Int64 → Int32 → TM Unit) (v65_6 : Int32)  : TM Unit :=
  tw_bd (tw_gl 46) fun x28 =>
  tw_bd (tw_gl 47) fun x31 =>
 
  fm_laysFair_J143 sf65 v65_6 (1 : Int32) x28 x31
def fm_laysFair_L65 (sf51 : Int32 → TM Unit) (sf65 : Int32 → Int64 → Int64 → Int32 → TM Unit) (v65_1 : Int32) (v65_2 : Int64) (v65_4 : Int64) (v65_6 : Int32) : TM Unit :=
  tw_bd (fm_links) fun x7 =>
  if x7 ≤ v65_6 then (if v65_1 = 0 then (fm_laysFair_J160 sf51 v65_1)
  else (tw_bd (fm_stops v65_2 v65_4) fun _ =>
 
  fm_laysFair_J160 sf51 v65_1))
  else (tw_bd (fm_leftOf v65_6) fun x14 =>
  if x14 = 0 then (fm_laysFair_J143 sf65 v65_6 v65_1 v65_2 v65_4)
  else (tw_bd (tw_gl 46) fun x18 =>
  tw_bd (tw_gl 47) fun x21 =>
  tw_bd (fm_tells x18 (x21 * (x14.toInt64))) fun _ =>
  if v65_1 = 0 then (fm_laysFair_J130 sf65 v65_6)
  else (tw_bd (tw_gl 46) fun x34 =>
  tw_bd (tw_gl 47) fun x37 =>
  if (lg_cmp (x34 * v65_4) (v65_2 * x37)) < 0 then (fm_laysFair_J130 sf65 v65_6)
  else (fm_laysFair_J143 sf65 v65_6 v65_1 v65_2 v65_4))))
def fm_laysFair_L51  (sf51 : Int32 → TM Unit) (v51_1 : Int32) : TM Unit :=
  if v51_1 = 0 then (tw_rt ())
  else (tw_lp (fm_laysFair_L65 sf51) (fun _ _ _ _ _ => none) tw_fu (0 : Int32) (0 : Int64) (1 : Int64) (0 : Int32))
def fm_laysFair_J42 (v2_1 : Int32) (sf2 : Int32 → TM Unit) (w42_0 : Int32) : TM Unit :=
  tw_bd (tw_sz 45 v2_1 w42_0) fun _ =>
 
  sf2 (v2_1 + (1 : Int32))
def fm_laysFair_L2  (sf2 : Int32 → TM Unit) (v2_1 : Int32) : TM Unit :=
  tw_bd (fm_flows) fun x2 =>
  if x2 ≤ v2_1 then (tw_lp (fm_laysFair_L51) (fun _ _ => none) tw_fu (1 : Int32))
  else ( tw_bd (tw_sl 43 v2_1 (0 : Int64)) fun _ =>
   tw_bd (tw_sl 44 v2_1 (1 : Int64)) fun _ =>
   tw_bd (fm_isOn v2_1) fun x46 =>
  if x46 = 0 then (fm_laysFair_J42 v2_1 sf2 (1 : Int32))
  else (fm_laysFair_J42 v2_1 sf2 (0 : Int32)))
def fm_laysFair  : TM Unit :=
  tw_lp (fm_laysFair_L2) (fun _ _ => none) tw_fu (0 : Int32)
theorem hdX6_laysFair : yX6_laysFair.cls = "LosslessFabricModel" ∧ (yX6_laysFair.cls ≠ "java/lang/invoke/MethodHandle" ∧ yX6_laysFair.cls ≠ "java/lang/invoke/VarHandle" ∧ (parseMethodDescriptor yX6_laysFair.desc).map (fun d => d.parameters.length) = some 0) := by decide +kernel
set_option maxHeartbeats 4000000 in
theorem mm_laysFair {l : Launch} {X : (Nat → Nat) × (Nat → Nat) × Nat} {D : va_G} {dA : Nat → ClassId} {o : Nat} {ad : Nat → Nat} {A : Nat → Prop} (hD : tw_D o ad A)  (t0 tZ : TS) (r : Unit) (hf : fm_laysFair  t0 = some (r, tZ)) : Met l yX6_laysFair (ws_ yX6_laysFair cX6_laysFair 8 (none)) ({ frames := 5, cells := 0, slots := 0, locals := 118 }) (va_Pc [.ref o] (tw_W X A D dA o ad t0)) (tw_Qv D dA o ad A tZ) 0 0 A := by
  refine Met.ofW (cc := cX6_laysFair) (maxL := 8) (ret := none) (by decide) rfl ?_
  intro p e s m args below meth c s₁ B hml hv
  obtain ⟨rfl, hP, hK, hX⟩ := hv
  have hx := B.exec
  have hb := B.bytes
  have hr := B.returns
  have hts := atoms_spec (ws := (ws_ yX6_laysFair cX6_laysFair 8 (none))) B.pre
  have hts : ∀ w ∈ lw_all, w.before _ s = true := fun w h => hts w (List.mem_cons_of_mem _ h)
  have hown : s.vm.findClass "LosslessFabricModel" = some m.cls := findClass_of_methodNamed B.named
  have hlk := B.notSynchronized
  have C : tw_C X p s m _ c cX6_laysFair D dA o ad A := ⟨hx, hb, hts, hown, hK, hD, hX⟩
  have hS : va_S A s.heap s.heap [] := va_S.rf
  have hl := lv_entry ([.ref o]) (n := 8) (Nat.le_of_ble_eq_true rfl)
  rw [lg_entry_eq]
  generalize (lg_sl ([.ref o]) ++ List.replicate (8 - (lg_sl ([.ref o])).length) Slot.unset).toArray = ls at hl ⊢
  have hl : lv_has ls 8 [(0, .ref o)] := hl
  unfold fm_laysFair at hf
  refine lv_iconst (v := (0 : Int32)) hx hb dX6_laysFair_0 (by decide) ?_
  refine lv_istore_n (lv' := [(1, .int (0 : Int32)), (0, .ref o)]) hx hb dX6_laysFair_1 rfl hl (by decide) rfl (fun ls hl => ?_)
  have k2 : ∀ (n : Nat) (v2_1 : Int32) (t1 : TS) (H : Heap) (locs : List Loc) (ls : Array Slot), tw_P D dA o ad t1 H → va_S A s.heap H locs → lv_has ls 8 [(0, .ref o), (1, .int v2_1)] → tw_lp (fm_laysFair_L2) (fun _ _ => none) n v2_1 t1 = some (r, tZ) → W p l e (headSpec (ws_ yX6_laysFair cX6_laysFair 8 (none)) ({ frames := 5, cells := 0, slots := 0, locals := 118 })).room s m ([.ref o] : List Value).toArray below meth c H locs 0 0 (MQ below (tw_Qv D dA o ad A tZ) ([.ref o] : List Value).toArray s 0 0 A) (F0 m 2 ls []) := by
    intro n
    induction n with
    | zero => intro v2_1 t1 H locs ls hP hS hl hf; exact (tw_no hf).elim
    | succ n ih2 =>
      intro v2_1 t1 H locs ls hP hS hl hf
      obtain ⟨sf2, hs2⟩ : ∃ f, f = tw_lp (fm_laysFair_L2) (fun _ _ => none) n := ⟨_, rfl⟩
      rw [← hs2] at ih2
      have hf : fm_laysFair_L2 sf2 v2_1 t1 = some (r, tZ) := by rw [hs2]; exact hf
      clear hs2
      unfold fm_laysFair_L2 at hf
      refine lv_iload_n hx hb dX6_laysFair_2 rfl (lv_at hl 1 rfl) ?_
      refine lv_aload_n hx hb dX6_laysFair_3 rfl (lv_at hl 0 rfl) ?_
      obtain ⟨x2, t3, e4, hf⟩ := tw_bdE hf
      refine tw_cVi (As := []) (rest := [.int v2_1]) C hml hP hS (mm_flows (l := l) (X := X) (D := D) (dA := dA) hD _ _ _ e4) (cwV 0 hts (lw_V q1372 q1374 qs44 q106 q1375) rfl rfl rfl hdX6_flows ⟨Nat.le_of_ble_eq_true rfl, Nat.le_of_ble_eq_true rfl⟩) rfl hl.1 rfl (Nat.le_of_ble_eq_true rfl) dX6_laysFair_4 (fun H locs hP hS => ?_)
      refine lv_icmp_ge (tgt := 49) hx hb dX6_laysFair_7 (by decide) (fun hc => ?_) (fun hc => ?_)
      · have hf := tw_ifT hc hf
        refine lv_iconst (v := (1 : Int32)) hx hb dX6_laysFair_49 (by decide) ?_
        refine lv_istore_n (lv' := [(1, .int (1 : Int32)), (0, .ref o)]) hx hb dX6_laysFair_50 rfl hl (by decide) rfl (fun ls hl => ?_)
        have k51 : ∀ (n : Nat) (v51_1 : Int32) (t5 : TS) (H : Heap) (locs : List Loc) (ls : Array Slot), tw_P D dA o ad t5 H → va_S A s.heap H locs → lv_has ls 8 [(0, .ref o), (1, .int v51_1)] → tw_lp (fm_laysFair_L51) (fun _ _ => none) n v51_1 t5 = some (r, tZ) → W p l e (headSpec (ws_ yX6_laysFair cX6_laysFair 8 (none)) ({ frames := 5, cells := 0, slots := 0, locals := 118 })).room s m ([.ref o] : List Value).toArray below meth c H locs 0 0 (MQ below (tw_Qv D dA o ad A tZ) ([.ref o] : List Value).toArray s 0 0 A) (F0 m 51 ls []) := by
          intro n
          induction n with
          | zero => intro v51_1 t5 H locs ls hP hS hl hf; exact (tw_no hf).elim
          | succ n ih51 =>
            intro v51_1 t5 H locs ls hP hS hl hf
            obtain ⟨sf51, hs51⟩ : ∃ f, f = tw_lp (fm_laysFair_L51) (fun _ _ => none) n := ⟨_, rfl⟩
            rw [← hs51] at ih51
            have hf : fm_laysFair_L51 sf51 v51_1 t5 = some (r, tZ) := by rw [hs51]; exact hf
            clear hs51
            unfold fm_laysFair_L51 at hf
            refine lv_iload_n hx hb dX6_laysFair_51 rfl (lv_at hl 1 rfl) ?_
            refine lv_if_eq (tgt := 163) hx hb dX6_laysFair_52 (by decide) (fun hc => ?_) (fun hc => ?_)
            · have hf := tw_ifT hc hf
              exact tw_iretv (tw_rtE hf).2 C hr hP hS hlk dX6_laysFair_163
            · have hf := tw_ifF hc hf
              refine lv_iconst (v := (0 : Int32)) hx hb dX6_laysFair_55 (by decide) ?_
              refine lv_istore_n (lv' := [(1, .int (0 : Int32)), (0, .ref o)]) hx hb dX6_laysFair_56 rfl hl (by decide) rfl (fun ls hl => ?_)
              refine lv_lconst (v := (0 : Int64)) hx hb dX6_laysFair_57 (by decide) ?_
              refine lv_lstore_n (lv' := [(2, .long (0 : Int64)), (1, .int (0 : Int32)), (0, .ref o)]) hx hb dX6_laysFair_58 rfl hl (by decide) rfl (fun ls hl => ?_)
              refine lv_lconst (v := (1 : Int64)) hx hb dX6_laysFair_59 (by decide) ?_
              refine lv_lstore (lv' := [(4, .long (1 : Int64)), (2, .long (0 : Int64)), (1, .int (0 : Int32)), (0, .ref o)]) hx hb dX6_laysFair_60 hl (by decide) rfl (fun ls hl => ?_)
              refine lv_iconst (v := (0 : Int32)) hx hb dX6_laysFair_62 (by decide) ?_
              refine lv_istore (lv' := [(6, .int (0 : Int32)), (4, .long (1 : Int64)), (2, .long (0 : Int64)), (1, .int (0 : Int32)), (0, .ref o)]) hx hb dX6_laysFair_63 hl (by decide) rfl (fun ls hl => ?_)
              have k65 : ∀ (n : Nat) (v65_1 : Int32) (v65_2 : Int64) (v65_4 : Int64) (v65_6 : Int32) (t6 : TS) (H : Heap) (locs : List Loc) (ls : Array Slot), tw_P D dA o ad t6 H → va_S A s.heap H locs → lv_has ls 8 [(0, .ref o), (1, .int v65_1), (2, .long v65_2), (4, .long v65_4), (6, .int v65_6)] → tw_lp (fm_laysFair_L65 sf51) (fun _ _ _ _ _ => none) n v65_1 v65_2 v65_4 v65_6 t6 = some (r, tZ) → W p l e (headSpec (ws_ yX6_laysFair cX6_laysFair 8 (none)) ({ frames := 5, cells := 0, slots := 0, locals := 118 })).room s m ([.ref o] : List Value).toArray below meth c H locs 0 0 (MQ below (tw_Qv D dA o ad A tZ) ([.ref o] : List Value).toArray s 0 0 A) (F0 m 65 ls []) := by
                intro n
                induction n with
                | zero => intro v65_1 v65_2 v65_4 v65_6 t6 H locs ls hP hS hl hf; exact (tw_no hf).elim
                | succ n ih65 =>
                  intro v65_1 v65_2 v65_4 v65_6 t6 H locs ls hP hS hl hf
                  obtain ⟨sf65, hs65⟩ : ∃ f, f = tw_lp (fm_laysFair_L65 sf51) (fun _ _ _ _ _ => none) n := ⟨_, rfl⟩
                  rw [← hs65] at ih65
                  have hf : fm_laysFair_L65 sf51 sf65 v65_1 v65_2 v65_4 v65_6 t6 = some (r, tZ) := by rw [hs65]; exact hf
                  clear hs65
                  unfold fm_laysFair_L65 at hf
                  refine lv_iload hx hb dX6_laysFair_65 (lv_at hl 4 rfl) ?_
                  refine lv_aload_n hx hb dX6_laysFair_67 rfl (lv_at hl 0 rfl) ?_
                  obtain ⟨x7, t8, e9, hf⟩ := tw_bdE hf
                  refine tw_cVi (As := []) (rest := [.int v65_6]) C hml hP hS (mm_links (l := l) (X := X) (D := D) (dA := dA) hD _ _ _ e9) (cwV 0 hts (lw_V q1368 q1370 qs43 q106 q1371) rfl rfl rfl hdX6_links ⟨Nat.le_of_ble_eq_true rfl, Nat.le_of_ble_eq_true rfl⟩) rfl hl.1 rfl (Nat.le_of_ble_eq_true rfl) dX6_laysFair_68 (fun H locs hP hS => ?_)
                  refine lv_icmp_ge (tgt := 149) hx hb dX6_laysFair_71 (by decide) (fun hc => ?_) (fun hc => ?_)
                  · have hf := tw_ifT hc hf
                    refine lv_iload_n hx hb dX6_laysFair_149 rfl (lv_at hl 1 rfl) ?_
                    have k160 : ∀  (t10 : TS) (H : Heap) (locs : List Loc) (ls : Array Slot), tw_P D dA o ad t10 H → va_S A s.heap H locs → lv_has ls 8 [(0, .ref o), (1, .int v65_1)] → fm_laysFair_J160 sf51 v65_1  t10 = some (r, tZ) → W p l e (headSpec (ws_ yX6_laysFair cX6_laysFair 8 (none)) ({ frames := 5, cells := 0, slots := 0, locals := 118 })).room s m ([.ref o] : List Value).toArray below meth c H locs 0 0 (MQ below (tw_Qv D dA o ad A tZ) ([.ref o] : List Value).toArray s 0 0 A) (F0 m 160 ls []) := by
                      intro t10 H locs ls hP hS hl hf
                      unfold fm_laysFair_J160 at hf
                      refine lv_goto (tgt := 51) hx hb dX6_laysFair_160 (by decide) ?_
                      exact ih51 _ _ _ _ _ hP hS (lv_sub hl [0, 1] rfl) hf
                    refine lv_if_eq (tgt := 160) hx hb dX6_laysFair_150 (by decide) (fun hc => ?_) (fun hc => ?_)
                    · have hf := tw_ifT hc hf
                      exact k160 _ _ _ _ hP hS (lv_sub hl [0, 1] rfl) hf
                    · have hf := tw_ifF hc hf
                      refine lv_aload_n hx hb dX6_laysFair_153 rfl (lv_at hl 0 rfl) ?_
                      refine lv_lload_n hx hb dX6_laysFair_154 rfl (lv_at hl 2 rfl) ?_
                      refine lv_lload hx hb dX6_laysFair_155 (lv_at hl 3 rfl) ?_
                      obtain ⟨x11, t12, e13, hf⟩ := tw_bdE hf
                      refine tw_cVv (As := [.long v65_2, .long v65_4]) (rest := []) C hml hP hS (mm_stops (l := l) (X := X) (D := D) (dA := dA) hD _ _ _ _ _ e13) (cwV 2 hts (lw_V q1852 q1854 qs93 q106 q1855) rfl rfl rfl hdX6_stops ⟨Nat.le_of_ble_eq_true rfl, Nat.le_of_ble_eq_true rfl⟩) rfl hl.1 rfl (Nat.le_of_ble_eq_true rfl) dX6_laysFair_157 (fun H locs hP hS => ?_)
                      exact k160 _ _ _ _ hP hS (lv_sub hl [0, 1] rfl) hf
                  · have hf := tw_ifF hc hf
                    refine lv_aload_n hx hb dX6_laysFair_74 rfl (lv_at hl 0 rfl) ?_
                    refine lv_iload hx hb dX6_laysFair_75 (lv_at hl 4 rfl) ?_
                    obtain ⟨x14, t15, e16, hf⟩ := tw_bdE hf
                    refine tw_cVi (As := [.int v65_6]) (rest := []) C hml hP hS (mm_leftOf (l := l) (X := X) (D := D) (dA := dA) hD _ _ _ _ e16) (cwV 1 hts (lw_V q1841 q1843 qs91 q106 q1844) rfl rfl rfl hdX6_leftOf ⟨Nat.le_of_ble_eq_true rfl, Nat.le_of_ble_eq_true rfl⟩) rfl hl.1 rfl (Nat.le_of_ble_eq_true rfl) dX6_laysFair_77 (fun H locs hP hS => ?_)
                    refine lv_istore (lv' := [(7, .int x14), (0, .ref o), (1, .int v65_1), (2, .long v65_2), (4, .long v65_4), (6, .int v65_6)]) hx hb dX6_laysFair_80 hl (by decide) rfl (fun ls hl => ?_)
                    refine lv_iload hx hb dX6_laysFair_82 (lv_at hl 0 rfl) ?_
                    have k143 : ∀ (v143_1 : Int32) (v143_2 : Int64) (v143_4 : Int64) (t17 : TS) (H : Heap) (locs : List Loc) (ls : Array Slot), tw_P D dA o ad t17 H → va_S A s.heap H locs → lv_has ls 8 [(0, .ref o), (1, .int v143_1), (2, .long v143_2), (4, .long v143_4), (6, .int v65_6)] → fm_laysFair_J143 sf65 v65_6 v143_1 v143_2 v143_4 t17 = some (r, tZ) → W p l e (headSpec (ws_ yX6_laysFair cX6_laysFair 8 (none)) ({ frames := 5, cells := 0, slots := 0, locals := 118 })).room s m ([.ref o] : List Value).toArray below meth c H locs 0 0 (MQ below (tw_Qv D dA o ad A tZ) ([.ref o] : List Value).toArray s 0 0 A) (F0 m 143 ls []) := by
                      intro v143_1 v143_2 v143_4 t17 H locs ls hP hS hl hf
                      unfold fm_laysFair_J143 at hf
                      refine lv_iinc (v := (v65_6 + (1 : Int32))) (lv' := [(6, .int (v65_6 + (1 : Int32))), (0, .ref o), (1, .int v143_1), (2, .long v143_2), (4, .long v143_4)]) hx hb dX6_laysFair_143 hl (k := 4) rfl rfl (by decide) rfl (fun ls hl => ?_)
                      refine lv_goto (tgt := 65) hx hb dX6_laysFair_146 (by decide) ?_
                      exact ih65 _ _ _ _ _ _ _ _ hP hS (lv_sub hl [1, 2, 3, 4, 0] rfl) hf
                    refine lv_if_ne (tgt := 90) hx hb dX6_laysFair_84 (by decide) (fun hc => ?_) (fun hc => ?_)
                    · have hf := tw_ifF hc hf
                      refine lv_aload_n hx hb dX6_laysFair_90 rfl (lv_at hl 1 rfl) ?_
                      refine lv_aload_n hx hb dX6_laysFair_91 rfl (lv_at hl 1 rfl) ?_
                      obtain ⟨x18, t19, e20, hf⟩ := tw_bdE hf
                      refine tw_lget (k := 46) C hP (by decide) rfl e20 q1422 dX6_laysFair_92 (fun hP => ?_)
                      refine lv_aload_n hx hb dX6_laysFair_95 rfl (lv_at hl 1 rfl) ?_
                      obtain ⟨x21, t22, e23, hf⟩ := tw_bdE hf
                      refine tw_lget (k := 47) C hP (by decide) rfl e23 q1423 dX6_laysFair_96 (fun hP => ?_)
                      refine lv_iload hx hb dX6_laysFair_99 (lv_at hl 0 rfl) ?_
                      refine lv_i2l hx hb dX6_laysFair_101 rfl ?_
                      refine lv_lmul hx hb dX6_laysFair_102 ?_
                      obtain ⟨x24, t25, e26, hf⟩ := tw_bdE hf
                      refine tw_cVv (As := [.long x18, .long (x21 * (x14.toInt64))]) (rest := []) C hml hP hS (mm_tells (l := l) (X := X) (D := D) (dA := dA) hD _ _ _ _ _ e26) (cwV 2 hts (lw_V q1845 q1847 qs92 q106 q1848) rfl rfl rfl hdX6_tells ⟨Nat.le_of_ble_eq_true rfl, Nat.le_of_ble_eq_true rfl⟩) rfl hl.1 rfl (Nat.le_of_ble_eq_true rfl) dX6_laysFair_103 (fun H locs hP hS => ?_)
                      refine lv_iload_n hx hb dX6_laysFair_106 rfl (lv_at hl 2 rfl) ?_
                      have k130 : ∀  (t27 : TS) (H : Heap) (locs : List Loc) (ls : Array Slot), tw_P D dA o ad t27 H → va_S A s.heap H locs → lv_has ls 8 [(0, .ref o), (6, .int v65_6)] → fm_laysFair_J130 sf65 v65_6  t27 = some (r, tZ) → W p l e (headSpec (ws_ yX6_laysFair cX6_laysFair 8 (none)) ({ frames := 5, cells := 0, slots := 0, locals := 118 })).room s m ([.ref o] : List Value).toArray below meth c H locs 0 0 (MQ below (tw_Qv D dA o ad A tZ) ([.ref o] : List Value).toArray s 0 0 A) (F0 m 130 ls []) := by
                        intro t27 H locs ls hP hS hl hf
                        unfold fm_laysFair_J130 at hf
                        refine lv_aload_n hx hb dX6_laysFair_130 rfl (lv_at hl 0 rfl) ?_
                        obtain ⟨x28, t29, e30, hf⟩ := tw_bdE hf
                        refine tw_lget (k := 46) C hP (by decide) rfl e30 q1422 dX6_laysFair_131 (fun hP => ?_)
                        refine lv_lstore_n (lv' := [(2, .long x28), (0, .ref o), (6, .int v65_6)]) hx hb dX6_laysFair_134 rfl hl (by decide) rfl (fun ls hl => ?_)
                        refine lv_aload_n hx hb dX6_laysFair_135 rfl (lv_at hl 1 rfl) ?_
                        obtain ⟨x31, t32, e33, hf⟩ := tw_bdE hf
                        refine tw_lget (k := 47) C hP (by decide) rfl e33 q1423 dX6_laysFair_136 (fun hP => ?_)
                        refine lv_lstore (lv' := [(4, .long x31), (2, .long x28), (0, .ref o), (6, .int v65_6)]) hx hb dX6_laysFair_139 hl (by decide) rfl (fun ls hl => ?_)
                        refine lv_iconst (v := (1 : Int32)) hx hb dX6_laysFair_141 (by decide) ?_
                        refine lv_istore_n (lv' := [(1, .int (1 : Int32)), (4, .long x31), (2, .long x28), (0, .ref o), (6, .int v65_6)]) hx hb dX6_laysFair_142 rfl hl (by decide) rfl (fun ls hl => ?_)
                        exact k143 _ _ _ _ _ _ _ hP hS (lv_sub hl [3, 0, 2, 1, 4] rfl) hf
                      refine lv_if_eq (tgt := 130) hx hb dX6_laysFair_107 (by decide) (fun hc => ?_) (fun hc => ?_)
                      · have hf := tw_ifT hc hf
                        exact k130 _ _ _ _ hP hS (lv_sub hl [1, 5] rfl) hf
                      · have hf := tw_ifF hc hf
                        refine lv_aload_n hx hb dX6_laysFair_110 rfl (lv_at hl 1 rfl) ?_
                        obtain ⟨x34, t35, e36, hf⟩ := tw_bdE hf
                        refine tw_lget (k := 46) C hP (by decide) rfl e36 q1422 dX6_laysFair_111 (fun hP => ?_)
                        refine lv_lload hx hb dX6_laysFair_114 (lv_at hl 4 rfl) ?_
                        refine lv_lmul hx hb dX6_laysFair_116 ?_
                        refine lv_lload_n hx hb dX6_laysFair_117 rfl (lv_at hl 3 rfl) ?_
                        refine lv_aload_n hx hb dX6_laysFair_118 rfl (lv_at hl 1 rfl) ?_
                        obtain ⟨x37, t38, e39, hf⟩ := tw_bdE hf
                        refine tw_lget (k := 47) C hP (by decide) rfl e39 q1423 dX6_laysFair_119 (fun hP => ?_)
                        refine lv_lmul hx hb dX6_laysFair_122 ?_
                        refine W.lcmp hx hb dX6_laysFair_123 ?_
                        refine lv_if_lt (tgt := 130) hx hb dX6_laysFair_124 (by decide) (fun hc => ?_) (fun hc => ?_)
                        · have hf := tw_ifT hc hf
                          exact k130 _ _ _ _ hP hS (lv_sub hl [1, 5] rfl) hf
                        · have hf := tw_ifF hc hf
                          refine lv_goto (tgt := 143) hx hb dX6_laysFair_127 (by decide) ?_
                          exact k143 _ _ _ _ _ _ _ hP hS (lv_sub hl [1, 2, 3, 4, 5] rfl) hf
                    · have hf := tw_ifT hc hf
                      refine lv_goto (tgt := 143) hx hb dX6_laysFair_87 (by decide) ?_
                      exact k143 _ _ _ _ _ _ _ hP hS (lv_sub hl [1, 2, 3, 4, 5] rfl) hf
              exact k65 _ _ _ _ _ _ _ _ _ hP hS (lv_sub hl [4, 3, 2, 1, 0] rfl) hf
        exact k51 _ _ _ _ _ _ hP hS (lv_sub hl [1, 0] rfl) hf
      · have hf := tw_ifF hc hf
        refine lv_aload_n hx hb dX6_laysFair_10 rfl (lv_at hl 0 rfl) ?_
        refine tw_aget (k := 43) C hP (by decide) (by decide) q1419 dX6_laysFair_11 ?_
        refine lv_iload_n hx hb dX6_laysFair_14 rfl (lv_at hl 1 rfl) ?_
        refine lv_lconst (v := (0 : Int64)) hx hb dX6_laysFair_15 (by decide) ?_
        obtain ⟨x40, t41, e42, hf⟩ := tw_bdE hf
        refine tw_last C hP hS e42 dX6_laysFair_16 (fun H locs hP hS => ?_)
        refine lv_aload_n hx hb dX6_laysFair_17 rfl (lv_at hl 0 rfl) ?_
        refine tw_aget (k := 44) C hP (by decide) (by decide) q1420 dX6_laysFair_18 ?_
        refine lv_iload_n hx hb dX6_laysFair_21 rfl (lv_at hl 1 rfl) ?_
        refine lv_lconst (v := (1 : Int64)) hx hb dX6_laysFair_22 (by decide) ?_
        obtain ⟨x43, t44, e45, hf⟩ := tw_bdE hf
        refine tw_last C hP hS e45 dX6_laysFair_23 (fun H locs hP hS => ?_)
        refine lv_aload_n hx hb dX6_laysFair_24 rfl (lv_at hl 0 rfl) ?_
        refine tw_aget (k := 45) C hP (by decide) (by decide) q1421 dX6_laysFair_25 ?_
        refine lv_iload_n hx hb dX6_laysFair_28 rfl (lv_at hl 1 rfl) ?_
        refine lv_aload_n hx hb dX6_laysFair_29 rfl (lv_at hl 0 rfl) ?_
        refine lv_iload_n hx hb dX6_laysFair_30 rfl (lv_at hl 1 rfl) ?_
        obtain ⟨x46, t47, e48, hf⟩ := tw_bdE hf
        refine tw_cVi (As := [.int v2_1]) (rest := [.int v2_1, .ref (ad 45)]) C hml hP hS (mm_isOn (l := l) (X := X) (D := D) (dA := dA) hD _ _ _ _ e48) (cwV 1 hts (lw_V q1664 q1666 qs66 q106 q1667) rfl rfl rfl hdX6_isOn ⟨Nat.le_of_ble_eq_true rfl, Nat.le_of_ble_eq_true rfl⟩) rfl hl.1 rfl (Nat.le_of_ble_eq_true rfl) dX6_laysFair_31 (fun H locs hP hS => ?_)
        have k42 : ∀ (w42_0 : Int32) (t49 : TS) (H : Heap) (locs : List Loc) (ls : Array Slot), tw_P D dA o ad t49 H → va_S A s.heap H locs → lv_has ls 8 [(0, .ref o), (1, .int v2_1)] → fm_laysFair_J42 v2_1 sf2 w42_0 t49 = some (r, tZ) → W p l e (headSpec (ws_ yX6_laysFair cX6_laysFair 8 (none)) ({ frames := 5, cells := 0, slots := 0, locals := 118 })).room s m ([.ref o] : List Value).toArray below meth c H locs 0 0 (MQ below (tw_Qv D dA o ad A tZ) ([.ref o] : List Value).toArray s 0 0 A) (F0 m 42 ls [.int w42_0, .int v2_1, .ref (ad 45)]) := by
          intro w42_0 t49 H locs ls hP hS hl hf
          unfold fm_laysFair_J42 at hf
          obtain ⟨x50, t51, e52, hf⟩ := tw_bdE hf
          refine tw_zast C hP hS e52 dX6_laysFair_42 (fun H locs hP hS => ?_)
          refine lv_iinc (v := (v2_1 + (1 : Int32))) (lv' := [(1, .int (v2_1 + (1 : Int32))), (0, .ref o)]) hx hb dX6_laysFair_43 hl (k := 1) rfl rfl (by decide) rfl (fun ls hl => ?_)
          refine lv_goto (tgt := 2) hx hb dX6_laysFair_46 (by decide) ?_
          exact ih2 _ _ _ _ _ hP hS (lv_sub hl [1, 0] rfl) hf
        refine lv_if_ne (tgt := 41) hx hb dX6_laysFair_34 (by decide) (fun hc => ?_) (fun hc => ?_)
        · have hf := tw_ifF hc hf
          refine lv_iconst (v := (0 : Int32)) hx hb dX6_laysFair_41 (by decide) ?_
          exact k42 _ _ _ _ _ hP hS (lv_sub hl [0, 1] rfl) hf
        · have hf := tw_ifT hc hf
          refine lv_iconst (v := (1 : Int32)) hx hb dX6_laysFair_37 (by decide) ?_
          refine lv_goto (tgt := 42) hx hb dX6_laysFair_38 (by decide) ?_
          exact k42 _ _ _ _ _ hP hS (lv_sub hl [0, 1] rfl) hf
  exact k2 _ _ _ _ _ _ hP hS (lv_sub hl [1, 0] rfl) hf
def fm_fair_J40  (w40_0 : Int64) : TM Int64 :=
  tw_rt w40_0
def fm_fair (a1 : Int32) (a2 : Int32) : TM Int64 :=
  tw_bd (tw_pi 0 (0 : Int32)) fun _ =>
  tw_bd (fm_isFlow a1) fun x4 =>
  if x4 = 0 then (tw_rt (-1 : Int64))
  else (tw_bd (fm_laysFair) fun _ =>
  if a2 = 0 then ( tw_bd (tw_ll 43 a1) fun x11 =>
 
  fm_fair_J40 x11)
  else ( tw_bd (tw_ll 44 a1) fun x14 =>
 
  fm_fair_J40 x14))
theorem hdX6_fair : yX6_fair.cls = "LosslessFabricModel" ∧ (yX6_fair.cls ≠ "java/lang/invoke/MethodHandle" ∧ yX6_fair.cls ≠ "java/lang/invoke/VarHandle" ∧ (parseMethodDescriptor yX6_fair.desc).map (fun d => d.parameters.length) = some 2) := by decide +kernel
set_option maxHeartbeats 4000000 in
theorem mm_fair {l : Launch} {X : (Nat → Nat) × (Nat → Nat) × Nat} {D : va_G} {dA : Nat → ClassId} {o : Nat} {ad : Nat → Nat} {A : Nat → Prop} (hD : tw_D o ad A) (a1 : Int32) (a2 : Int32) (t0 tZ : TS) (r : Int64) (hf : fm_fair a1 a2 t0 = some (r, tZ)) : Met l yX6_fair (ws_ yX6_fair cX6_fair 3 (some .long)) ({ frames := 6, cells := 0, slots := 0, locals := 145 }) (va_Pc [.ref o, .int a1, .int a2] (tw_W X A D dA o ad t0)) (tw_Ql D dA o ad A r tZ) 0 0 A := by
  refine Met.ofW (cc := cX6_fair) (maxL := 3) (ret := some .long) (by decide) rfl ?_
  intro p e s m args below meth c s₁ B hml hv
  obtain ⟨rfl, hP, hK, hX⟩ := hv
  have hx := B.exec
  have hb := B.bytes
  have hr := B.returns
  have hts := atoms_spec (ws := (ws_ yX6_fair cX6_fair 3 (some .long))) B.pre
  have hts : ∀ w ∈ lw_all, w.before _ s = true := fun w h => hts w (List.mem_cons_of_mem _ h)
  have hown : s.vm.findClass "LosslessFabricModel" = some m.cls := findClass_of_methodNamed B.named
  have hlk := B.notSynchronized
  have C : tw_C X p s m _ c cX6_fair D dA o ad A := ⟨hx, hb, hts, hown, hK, hD, hX⟩
  have hS : va_S A s.heap s.heap [] := va_S.rf
  have hl := lv_entry ([.ref o, .int a1, .int a2]) (n := 3) (Nat.le_of_ble_eq_true rfl)
  rw [lg_entry_eq]
  generalize (lg_sl ([.ref o, .int a1, .int a2]) ++ List.replicate (3 - (lg_sl ([.ref o, .int a1, .int a2])).length) Slot.unset).toArray = ls at hl ⊢
  have hl : lv_has ls 3 [(0, .ref o), (1, .int a1), (2, .int a2)] := hl
  unfold fm_fair at hf
  refine lv_aload_n hx hb dX6_fair_0 rfl (lv_at hl 0 rfl) ?_
  refine lv_iconst (v := (0 : Int32)) hx hb dX6_fair_1 (by decide) ?_
  obtain ⟨x1, t2, e3, hf⟩ := tw_bdE hf
  refine tw_iput (k := 0) C hP hS (by decide) rfl e3 q1376 dX6_fair_2 (fun H locs hP hS => ?_)
  refine lv_aload_n hx hb dX6_fair_5 rfl (lv_at hl 0 rfl) ?_
  refine lv_iload_n hx hb dX6_fair_6 rfl (lv_at hl 1 rfl) ?_
  obtain ⟨x4, t5, e6, hf⟩ := tw_bdE hf
  refine tw_cVi (As := [.int a1]) (rest := []) C hml hP hS (mm_isFlow (l := l) (X := X) (D := D) (dA := dA) hD _ _ _ _ e6) (cwV 1 hts (lw_V q1727 q1729 qs80 q106 q1730) rfl rfl rfl hdX6_isFlow ⟨Nat.le_of_ble_eq_true rfl, Nat.le_of_ble_eq_true rfl⟩) rfl hl.1 rfl (Nat.le_of_ble_eq_true rfl) dX6_fair_7 (fun H locs hP hS => ?_)
  refine lv_if_ne (tgt := 17) hx hb dX6_fair_10 (by decide) (fun hc => ?_) (fun hc => ?_)
  · have hf := tw_ifF hc hf
    refine lv_aload_n hx hb dX6_fair_17 rfl (lv_at hl 0 rfl) ?_
    obtain ⟨x7, t8, e9, hf⟩ := tw_bdE hf
    refine tw_cVv (As := []) (rest := []) C hml hP hS (mm_laysFair (l := l) (X := X) (D := D) (dA := dA) hD _ _ _ e9) (cwV 0 hts (lw_V q1837 q1839 qs90 q106 q1840) rfl rfl rfl hdX6_laysFair ⟨Nat.le_of_ble_eq_true rfl, Nat.le_of_ble_eq_true rfl⟩) rfl hl.1 rfl (Nat.le_of_ble_eq_true rfl) dX6_fair_18 (fun H locs hP hS => ?_)
    refine lv_iload_n hx hb dX6_fair_21 rfl (lv_at hl 2 rfl) ?_
    have k40 : ∀ (w40_0 : Int64) (t10 : TS) (H : Heap) (locs : List Loc) (ls : Array Slot), tw_P D dA o ad t10 H → va_S A s.heap H locs → lv_has ls 3 [] → fm_fair_J40 w40_0 t10 = some (r, tZ) → W p l e (headSpec (ws_ yX6_fair cX6_fair 3 (some .long)) ({ frames := 6, cells := 0, slots := 0, locals := 145 })).room s m ([.ref o, .int a1, .int a2] : List Value).toArray below meth c H locs 0 0 (MQ below (tw_Ql D dA o ad A r tZ) ([.ref o, .int a1, .int a2] : List Value).toArray s 0 0 A) (F0 m 40 ls [.long w40_0]) := by
      intro w40_0 t10 H locs ls hP hS hl hf
      unfold fm_fair_J40 at hf
      exact tw_iretl (tw_rtE hf).1 (tw_rtE hf).2 C hr hP hS hlk dX6_fair_40
    refine lv_if_eq (tgt := 34) hx hb dX6_fair_22 (by decide) (fun hc => ?_) (fun hc => ?_)
    · have hf := tw_ifT hc hf
      refine lv_aload_n hx hb dX6_fair_34 rfl (lv_at hl 0 rfl) ?_
      refine tw_aget (k := 43) C hP (by decide) (by decide) q1419 dX6_fair_35 ?_
      refine lv_iload_n hx hb dX6_fair_38 rfl (lv_at hl 1 rfl) ?_
      obtain ⟨x11, t12, e13, hf⟩ := tw_bdE hf
      refine tw_lald C hP e13 dX6_fair_39 (fun hP => ?_)
      exact k40 _ _ _ _ _ hP hS (lv_sub hl [] rfl) hf
    · have hf := tw_ifF hc hf
      refine lv_aload_n hx hb dX6_fair_25 rfl (lv_at hl 0 rfl) ?_
      refine tw_aget (k := 44) C hP (by decide) (by decide) q1420 dX6_fair_26 ?_
      refine lv_iload_n hx hb dX6_fair_29 rfl (lv_at hl 1 rfl) ?_
      obtain ⟨x14, t15, e16, hf⟩ := tw_bdE hf
      refine tw_lald C hP e16 dX6_fair_30 (fun hP => ?_)
      refine lv_goto (tgt := 40) hx hb dX6_fair_31 (by decide) ?_
      exact k40 _ _ _ _ _ hP hS (lv_sub hl [] rfl) hf
  · have hf := tw_ifT hc hf
    refine lv_ldc2 hx hb hown (hts _ q1836) dX6_fair_13 ?_
    exact tw_iretl (tw_rtE hf).1 (tw_rtE hf).2 C hr hP hS hlk dX6_fair_16
def fm_full_J42 (sf13 : Int32 → Int32 → TM Int32) (v13_2 : Int32) (v42_1 : Int32) : TM Int32 :=
  sf13 v42_1 (v13_2 + (1 : Int32))
def fm_full_L13  (sf13 : Int32 → Int32 → TM Int32) (v13_1 : Int32) (v13_2 : Int32) : TM Int32 :=
  tw_bd (fm_links) fun x8 =>
  if x8 ≤ v13_2 then (tw_rt v13_1)
  else (tw_bd (fm_leftOf v13_2) fun x11 =>
  tw_bd (tw_gl 46) fun x14 =>
  if (lg_cmp x14 (0 : Int64)) = 0 then (fm_full_J42 sf13 v13_2 (v13_1 ||| ((1 : Int32) <<< (v13_2 &&& 31))))
  else (fm_full_J42 sf13 v13_2 v13_1))
def fm_full  : TM Int32 :=
  tw_bd (tw_pi 0 (0 : Int32)) fun _ =>
  tw_bd (fm_laysFair) fun _ =>
 
  tw_lp (fm_full_L13) (fun _ _ _ => none) tw_fu (0 : Int32) (0 : Int32)
theorem hdX6_full : yX6_full.cls = "LosslessFabricModel" ∧ (yX6_full.cls ≠ "java/lang/invoke/MethodHandle" ∧ yX6_full.cls ≠ "java/lang/invoke/VarHandle" ∧ (parseMethodDescriptor yX6_full.desc).map (fun d => d.parameters.length) = some 0) := by decide +kernel
set_option maxHeartbeats 4000000 in
theorem mm_full {l : Launch} {X : (Nat → Nat) × (Nat → Nat) × Nat} {D : va_G} {dA : Nat → ClassId} {o : Nat} {ad : Nat → Nat} {A : Nat → Prop} (hD : tw_D o ad A)  (t0 tZ : TS) (r : Int32) (hf : fm_full  t0 = some (r, tZ)) : Met l yX6_full (ws_ yX6_full cX6_full 3 (some .int)) ({ frames := 6, cells := 0, slots := 0, locals := 145 }) (va_Pc [.ref o] (tw_W X A D dA o ad t0)) (tw_Qi D dA o ad A r tZ) 0 0 A := by
  refine Met.ofW (cc := cX6_full) (maxL := 3) (ret := some .int) (by decide) rfl ?_
  intro p e s m args below meth c s₁ B hml hv
  obtain ⟨rfl, hP, hK, hX⟩ := hv
  have hx := B.exec
  have hb := B.bytes
  have hr := B.returns
  have hts := atoms_spec (ws := (ws_ yX6_full cX6_full 3 (some .int))) B.pre
  have hts : ∀ w ∈ lw_all, w.before _ s = true := fun w h => hts w (List.mem_cons_of_mem _ h)
  have hown : s.vm.findClass "LosslessFabricModel" = some m.cls := findClass_of_methodNamed B.named
  have hlk := B.notSynchronized
  have C : tw_C X p s m _ c cX6_full D dA o ad A := ⟨hx, hb, hts, hown, hK, hD, hX⟩
  have hS : va_S A s.heap s.heap [] := va_S.rf
  have hl := lv_entry ([.ref o]) (n := 3) (Nat.le_of_ble_eq_true rfl)
  rw [lg_entry_eq]
  generalize (lg_sl ([.ref o]) ++ List.replicate (3 - (lg_sl ([.ref o])).length) Slot.unset).toArray = ls at hl ⊢
  have hl : lv_has ls 3 [(0, .ref o)] := hl
  unfold fm_full at hf
  refine lv_aload_n hx hb dX6_full_0 rfl (lv_at hl 0 rfl) ?_
  refine lv_iconst (v := (0 : Int32)) hx hb dX6_full_1 (by decide) ?_
  obtain ⟨x1, t2, e3, hf⟩ := tw_bdE hf
  refine tw_iput (k := 0) C hP hS (by decide) rfl e3 q1376 dX6_full_2 (fun H locs hP hS => ?_)
  refine lv_aload_n hx hb dX6_full_5 rfl (lv_at hl 0 rfl) ?_
  obtain ⟨x4, t5, e6, hf⟩ := tw_bdE hf
  refine tw_cVv (As := []) (rest := []) C hml hP hS (mm_laysFair (l := l) (X := X) (D := D) (dA := dA) hD _ _ _ e6) (cwV 0 hts (lw_V q1837 q1839 qs90 q106 q1840) rfl rfl rfl hdX6_laysFair ⟨Nat.le_of_ble_eq_true rfl, Nat.le_of_ble_eq_true rfl⟩) rfl hl.1 rfl (Nat.le_of_ble_eq_true rfl) dX6_full_6 (fun H locs hP hS => ?_)
  refine lv_iconst (v := (0 : Int32)) hx hb dX6_full_9 (by decide) ?_
  refine lv_istore_n (lv' := [(1, .int (0 : Int32)), (0, .ref o)]) hx hb dX6_full_10 rfl hl (by decide) rfl (fun ls hl => ?_)
  refine lv_iconst (v := (0 : Int32)) hx hb dX6_full_11 (by decide) ?_
  refine lv_istore_n (lv' := [(2, .int (0 : Int32)), (1, .int (0 : Int32)), (0, .ref o)]) hx hb dX6_full_12 rfl hl (by decide) rfl (fun ls hl => ?_)
  have k13 : ∀ (n : Nat) (v13_1 : Int32) (v13_2 : Int32) (t7 : TS) (H : Heap) (locs : List Loc) (ls : Array Slot), tw_P D dA o ad t7 H → va_S A s.heap H locs → lv_has ls 3 [(0, .ref o), (1, .int v13_1), (2, .int v13_2)] → tw_lp (fm_full_L13) (fun _ _ _ => none) n v13_1 v13_2 t7 = some (r, tZ) → W p l e (headSpec (ws_ yX6_full cX6_full 3 (some .int)) ({ frames := 6, cells := 0, slots := 0, locals := 145 })).room s m ([.ref o] : List Value).toArray below meth c H locs 0 0 (MQ below (tw_Qi D dA o ad A r tZ) ([.ref o] : List Value).toArray s 0 0 A) (F0 m 13 ls []) := by
    intro n
    induction n with
    | zero => intro v13_1 v13_2 t7 H locs ls hP hS hl hf; exact (tw_no hf).elim
    | succ n ih13 =>
      intro v13_1 v13_2 t7 H locs ls hP hS hl hf
      obtain ⟨sf13, hs13⟩ : ∃ f, f = tw_lp (fm_full_L13) (fun _ _ _ => none) n := ⟨_, rfl⟩
      rw [← hs13] at ih13
      have hf : fm_full_L13 sf13 v13_1 v13_2 t7 = some (r, tZ) := by rw [hs13]; exact hf
      clear hs13
      unfold fm_full_L13 at hf
      refine lv_iload_n hx hb dX6_full_13 rfl (lv_at hl 2 rfl) ?_
      refine lv_aload_n hx hb dX6_full_14 rfl (lv_at hl 0 rfl) ?_
      obtain ⟨x8, t9, e10, hf⟩ := tw_bdE hf
      refine tw_cVi (As := []) (rest := [.int v13_2]) C hml hP hS (mm_links (l := l) (X := X) (D := D) (dA := dA) hD _ _ _ e10) (cwV 0 hts (lw_V q1368 q1370 qs43 q106 q1371) rfl rfl rfl hdX6_links ⟨Nat.le_of_ble_eq_true rfl, Nat.le_of_ble_eq_true rfl⟩) rfl hl.1 rfl (Nat.le_of_ble_eq_true rfl) dX6_full_15 (fun H locs hP hS => ?_)
      refine lv_icmp_ge (tgt := 48) hx hb dX6_full_18 (by decide) (fun hc => ?_) (fun hc => ?_)
      · have hf := tw_ifT hc hf
        refine lv_iload_n hx hb dX6_full_48 rfl (lv_at hl 1 rfl) ?_
        exact tw_ireti (tw_rtE hf).1 (tw_rtE hf).2 C hr hP hS hlk dX6_full_49
      · have hf := tw_ifF hc hf
        refine lv_aload_n hx hb dX6_full_21 rfl (lv_at hl 0 rfl) ?_
        refine lv_iload_n hx hb dX6_full_22 rfl (lv_at hl 2 rfl) ?_
        obtain ⟨x11, t12, e13, hf⟩ := tw_bdE hf
        refine tw_cVi (As := [.int v13_2]) (rest := []) C hml hP hS (mm_leftOf (l := l) (X := X) (D := D) (dA := dA) hD _ _ _ _ e13) (cwV 1 hts (lw_V q1841 q1843 qs91 q106 q1844) rfl rfl rfl hdX6_leftOf ⟨Nat.le_of_ble_eq_true rfl, Nat.le_of_ble_eq_true rfl⟩) rfl hl.1 rfl (Nat.le_of_ble_eq_true rfl) dX6_full_23 (fun H locs hP hS => ?_)
        refine lv_pop hx hb dX6_full_26 rfl ?_
        refine lv_aload_n hx hb dX6_full_27 rfl (lv_at hl 0 rfl) ?_
        obtain ⟨x14, t15, e16, hf⟩ := tw_bdE hf
        refine tw_lget (k := 46) C hP (by decide) rfl e16 q1422 dX6_full_28 (fun hP => ?_)
        refine lv_lconst (v := (0 : Int64)) hx hb dX6_full_31 (by decide) ?_
        refine W.lcmp hx hb dX6_full_32 ?_
        have k42 : ∀ (v42_1 : Int32) (t17 : TS) (H : Heap) (locs : List Loc) (ls : Array Slot), tw_P D dA o ad t17 H → va_S A s.heap H locs → lv_has ls 3 [(0, .ref o), (1, .int v42_1), (2, .int v13_2)] → fm_full_J42 sf13 v13_2 v42_1 t17 = some (r, tZ) → W p l e (headSpec (ws_ yX6_full cX6_full 3 (some .int)) ({ frames := 6, cells := 0, slots := 0, locals := 145 })).room s m ([.ref o] : List Value).toArray below meth c H locs 0 0 (MQ below (tw_Qi D dA o ad A r tZ) ([.ref o] : List Value).toArray s 0 0 A) (F0 m 42 ls []) := by
          intro v42_1 t17 H locs ls hP hS hl hf
          unfold fm_full_J42 at hf
          refine lv_iinc (v := (v13_2 + (1 : Int32))) (lv' := [(2, .int (v13_2 + (1 : Int32))), (0, .ref o), (1, .int v42_1)]) hx hb dX6_full_42 hl (k := 2) rfl rfl (by decide) rfl (fun ls hl => ?_)
          refine lv_goto (tgt := 13) hx hb dX6_full_45 (by decide) ?_
          exact ih13 _ _ _ _ _ _ hP hS (lv_sub hl [1, 2, 0] rfl) hf
        refine lv_if_ne (tgt := 42) hx hb dX6_full_33 (by decide) (fun hc => ?_) (fun hc => ?_)
        · have hf := tw_ifF hc hf
          exact k42 _ _ _ _ _ hP hS (lv_sub hl [0, 1, 2] rfl) hf
        · have hf := tw_ifT hc hf
          refine lv_iload_n hx hb dX6_full_36 rfl (lv_at hl 1 rfl) ?_
          refine lv_iconst (v := (1 : Int32)) hx hb dX6_full_37 (by decide) ?_
          refine lv_iload_n hx hb dX6_full_38 rfl (lv_at hl 2 rfl) ?_
          refine lv_ishl hx hb dX6_full_39 ?_
          refine lv_ior hx hb dX6_full_40 ?_
          refine lv_istore_n (lv' := [(1, .int (v13_1 ||| ((1 : Int32) <<< (v13_2 &&& 31)))), (0, .ref o), (2, .int v13_2)]) hx hb dX6_full_41 rfl hl (by decide) rfl (fun ls hl => ?_)
          exact k42 _ _ _ _ _ hP hS (lv_sub hl [1, 0, 2] rfl) hf
  exact k13 _ _ _ _ _ _ _ hP hS (lv_sub hl [2, 1, 0] rfl) hf
def fm_isFar_J16  (w16_0 : Int32) : TM Int32 :=
  tw_rz w16_0
def fm_isFar_J15   : TM Int32 :=
  fm_isFar_J16 (0 : Int32)
def fm_isFar (a0 : Int32) : TM Int32 :=
  if a0 < 0 then (fm_isFar_J15)
  else (if (300 : Int32) < a0 then (fm_isFar_J15)
  else (fm_isFar_J16 (1 : Int32)))
theorem hdX6_isFar : (yX6_isFar.cls ≠ "java/lang/invoke/MethodHandle" ∧ yX6_isFar.cls ≠ "java/lang/invoke/VarHandle" ∧ (parseMethodDescriptor yX6_isFar.desc).map (fun d => d.parameters.length) = some 1) := by decide +kernel
set_option maxHeartbeats 4000000 in
theorem mm_isFar {l : Launch} {X : (Nat → Nat) × (Nat → Nat) × Nat} {D : va_G} {dA : Nat → ClassId} {o : Nat} {ad : Nat → Nat} {A : Nat → Prop} (hD : tw_D o ad A) (a0 : Int32) (t0 tZ : TS) (r : Int32) (hf : fm_isFar a0 t0 = some (r, tZ)) : Met l yX6_isFar (ws_ yX6_isFar cX6_isFar 1 (some .boolean)) ({ frames := 1, cells := 0, slots := 0, locals := 12 }) (va_Pc [.int a0] (tw_W X A D dA o ad t0)) (tw_Qi D dA o ad A r tZ) 0 0 A := by
  refine Met.ofW (cc := cX6_isFar) (maxL := 1) (ret := some .boolean) (by decide) rfl ?_
  intro p e s m args below meth c s₁ B hml hv
  obtain ⟨rfl, hP, hK, hX⟩ := hv
  have hx := B.exec
  have hb := B.bytes
  have hr := B.returns
  have hts := atoms_spec (ws := (ws_ yX6_isFar cX6_isFar 1 (some .boolean))) B.pre
  have hts : ∀ w ∈ lw_all, w.before _ s = true := fun w h => hts w (List.mem_cons_of_mem _ h)
  have hown : s.vm.findClass "LosslessFabricModel" = some m.cls := findClass_of_methodNamed B.named
  have hlk := B.notSynchronized
  have C : tw_C X p s m _ c cX6_isFar D dA o ad A := ⟨hx, hb, hts, hown, hK, hD, hX⟩
  have hS : va_S A s.heap s.heap [] := va_S.rf
  have hl := lv_entry ([.int a0]) (n := 1) (Nat.le_of_ble_eq_true rfl)
  rw [lg_entry_eq]
  generalize (lg_sl ([.int a0]) ++ List.replicate (1 - (lg_sl ([.int a0])).length) Slot.unset).toArray = ls at hl ⊢
  have hl : lv_has ls 1 [(0, .int a0)] := hl
  unfold fm_isFar at hf
  refine lv_iload_n hx hb dX6_isFar_0 rfl (lv_at hl 0 rfl) ?_
  have k16 : ∀ (w16_0 : Int32) (t1 : TS) (H : Heap) (locs : List Loc) (ls : Array Slot), tw_P D dA o ad t1 H → va_S A s.heap H locs → lv_has ls 1 [] → fm_isFar_J16 w16_0 t1 = some (r, tZ) → W p l e (headSpec (ws_ yX6_isFar cX6_isFar 1 (some .boolean)) ({ frames := 1, cells := 0, slots := 0, locals := 12 })).room s m ([.int a0] : List Value).toArray below meth c H locs 0 0 (MQ below (tw_Qi D dA o ad A r tZ) ([.int a0] : List Value).toArray s 0 0 A) (F0 m 16 ls [.int w16_0]) := by
    intro w16_0 t1 H locs ls hP hS hl hf
    unfold fm_isFar_J16 at hf
    exact tw_iretz hf C hr hP hS hlk dX6_isFar_16
  have k15 : ∀  (t2 : TS) (H : Heap) (locs : List Loc) (ls : Array Slot), tw_P D dA o ad t2 H → va_S A s.heap H locs → lv_has ls 1 [] → fm_isFar_J15  t2 = some (r, tZ) → W p l e (headSpec (ws_ yX6_isFar cX6_isFar 1 (some .boolean)) ({ frames := 1, cells := 0, slots := 0, locals := 12 })).room s m ([.int a0] : List Value).toArray below meth c H locs 0 0 (MQ below (tw_Qi D dA o ad A r tZ) ([.int a0] : List Value).toArray s 0 0 A) (F0 m 15 ls []) := by
    intro t2 H locs ls hP hS hl hf
    unfold fm_isFar_J15 at hf
    refine lv_iconst (v := (0 : Int32)) hx hb dX6_isFar_15 (by decide) ?_
    exact k16 _ _ _ _ _ hP hS (lv_sub hl [] rfl) hf
  refine lv_if_lt (tgt := 15) hx hb dX6_isFar_1 (by decide) (fun hc => ?_) (fun hc => ?_)
  · have hf := tw_ifT hc hf
    exact k15 _ _ _ _ hP hS (lv_sub hl [] rfl) hf
  · have hf := tw_ifF hc hf
    refine lv_iload_n hx hb dX6_isFar_4 rfl (lv_at hl 0 rfl) ?_
    refine lv_sipush (v := (300 : Int32)) hx hb dX6_isFar_5 (by decide) ?_
    refine lv_icmp_gt (tgt := 15) hx hb dX6_isFar_8 (by decide) (fun hc => ?_) (fun hc => ?_)
    · have hf := tw_ifT hc hf
      exact k15 _ _ _ _ hP hS (lv_sub hl [] rfl) hf
    · have hf := tw_ifF hc hf
      refine lv_iconst (v := (1 : Int32)) hx hb dX6_isFar_11 (by decide) ?_
      refine lv_goto (tgt := 16) hx hb dX6_isFar_12 (by decide) ?_
      exact k16 _ _ _ _ _ hP hS (lv_sub hl [] rfl) hf
def fm_ahead_J29   : TM Int32 :=
  tw_rt (-1 : Int32)
def fm_ahead_J141  (w141_0 : Int32) : TM Int32 :=
    tw_bd (fm_copies 27 (0 : Int32) 26 (0 : Int32)) fun _ =>
  tw_rt w141_0
def fm_ahead_J97 (sf67 : Int32 → Int32 → TM Int32) (v67_6 : Int32) (w97_0 : Int32) : TM Int32 :=
  sf67 w97_0 (v67_6 + (1 : Int32))
def fm_ahead_L67 (a2 : Int32) (a3 : Int32) (a1 : Int32) (x17 : Int32) (sf67 : Int32 → Int32 → TM Int32) (v67_4 : Int32) (v67_6 : Int32) : TM Int32 :=
  if a2 ≤ v67_6 then (if a3 = 0 then (tw_bd (fm_queueOf a1) fun x28 =>
 
  fm_ahead_J141 x28)
  else (if a3 = (1 : Int32) then (fm_ahead_J141 v67_4)
  else ( tw_bd (tw_ld 26 (((24 : Int32) * a1) + (3 : Int32))) fun x25 =>
 
  fm_ahead_J141 (x25 - x17))))
  else (tw_bd (fm_tickGoes) fun _ =>
  tw_bd (fm_queueOf a1) fun x34 =>
  if x34 ≤ v67_4 then (fm_ahead_J97 sf67 v67_6 v67_4)
  else (tw_bd (fm_queueOf a1) fun x38 =>
 
  fm_ahead_J97 sf67 v67_6 x38))
def fm_ahead (a1 : Int32) (a2 : Int32) (a3 : Int32) : TM Int32 :=
  tw_bd (tw_pi 0 (0 : Int32)) fun _ =>
  tw_bd (fm_isLink a1) fun x4 =>
  if x4 = 0 then (fm_ahead_J29)
  else (tw_bd (fm_isFar a2) fun x8 =>
  if x8 = 0 then (fm_ahead_J29)
  else (if a3 < 0 then (fm_ahead_J29)
  else (if a3 ≤ (2 : Int32) then (  tw_bd (fm_copies 26 (0 : Int32) 27 (0 : Int32)) fun _ =>
  tw_bd (fm_queueOf a1) fun x14 =>
   tw_bd (tw_ld 26 (((24 : Int32) * a1) + (3 : Int32))) fun x17 =>
 
  tw_lp (fm_ahead_L67 a2 a3 a1 x17) (fun _ _ _ => none) tw_fu x14 (0 : Int32))
  else (fm_ahead_J29))))
theorem hdX6_ahead : yX6_ahead.cls = "LosslessFabricModel" ∧ (yX6_ahead.cls ≠ "java/lang/invoke/MethodHandle" ∧ yX6_ahead.cls ≠ "java/lang/invoke/VarHandle" ∧ (parseMethodDescriptor yX6_ahead.desc).map (fun d => d.parameters.length) = some 3) := by decide +kernel
set_option maxHeartbeats 4000000 in
theorem mm_ahead {l : Launch} {X : (Nat → Nat) × (Nat → Nat) × Nat} {D : va_G} {dA : Nat → ClassId} {o : Nat} {ad : Nat → Nat} {A : Nat → Prop} (hD : tw_D o ad A) (a1 : Int32) (a2 : Int32) (a3 : Int32) (t0 tZ : TS) (r : Int32) (hf : fm_ahead a1 a2 a3 t0 = some (r, tZ)) : Met l yX6_ahead (ws_ yX6_ahead cX6_ahead 7 (some .int)) ({ frames := 5, cells := 0, slots := 0, locals := 103 }) (va_Pc [.ref o, .int a1, .int a2, .int a3] (tw_W X A D dA o ad t0)) (tw_Qi D dA o ad A r tZ) 0 0 A := by
  refine Met.ofW (cc := cX6_ahead) (maxL := 7) (ret := some .int) (by decide) rfl ?_
  intro p e s m args below meth c s₁ B hml hv
  obtain ⟨rfl, hP, hK, hX⟩ := hv
  have hx := B.exec
  have hb := B.bytes
  have hr := B.returns
  have hts := atoms_spec (ws := (ws_ yX6_ahead cX6_ahead 7 (some .int))) B.pre
  have hts : ∀ w ∈ lw_all, w.before _ s = true := fun w h => hts w (List.mem_cons_of_mem _ h)
  have hown : s.vm.findClass "LosslessFabricModel" = some m.cls := findClass_of_methodNamed B.named
  have hlk := B.notSynchronized
  have C : tw_C X p s m _ c cX6_ahead D dA o ad A := ⟨hx, hb, hts, hown, hK, hD, hX⟩
  have hS : va_S A s.heap s.heap [] := va_S.rf
  have hl := lv_entry ([.ref o, .int a1, .int a2, .int a3]) (n := 7) (Nat.le_of_ble_eq_true rfl)
  rw [lg_entry_eq]
  generalize (lg_sl ([.ref o, .int a1, .int a2, .int a3]) ++ List.replicate (7 - (lg_sl ([.ref o, .int a1, .int a2, .int a3])).length) Slot.unset).toArray = ls at hl ⊢
  have hl : lv_has ls 7 [(0, .ref o), (1, .int a1), (2, .int a2), (3, .int a3)] := hl
  unfold fm_ahead at hf
  refine lv_aload_n hx hb dX6_ahead_0 rfl (lv_at hl 0 rfl) ?_
  refine lv_iconst (v := (0 : Int32)) hx hb dX6_ahead_1 (by decide) ?_
  obtain ⟨x1, t2, e3, hf⟩ := tw_bdE hf
  refine tw_iput (k := 0) C hP hS (by decide) rfl e3 q1376 dX6_ahead_2 (fun H locs hP hS => ?_)
  refine lv_aload_n hx hb dX6_ahead_5 rfl (lv_at hl 0 rfl) ?_
  refine lv_iload_n hx hb dX6_ahead_6 rfl (lv_at hl 1 rfl) ?_
  obtain ⟨x4, t5, e6, hf⟩ := tw_bdE hf
  refine tw_cVi (As := [.int a1]) (rest := []) C hml hP hS (mm_isLink (l := l) (X := X) (D := D) (dA := dA) hD _ _ _ _ e6) (cwV 1 hts (lw_V q1739 q1741 qs81 q106 q1742) rfl rfl rfl hdX6_isLink ⟨Nat.le_of_ble_eq_true rfl, Nat.le_of_ble_eq_true rfl⟩) rfl hl.1 rfl (Nat.le_of_ble_eq_true rfl) dX6_ahead_7 (fun H locs hP hS => ?_)
  have k29 : ∀  (t7 : TS) (H : Heap) (locs : List Loc) (ls : Array Slot), tw_P D dA o ad t7 H → va_S A s.heap H locs → lv_has ls 7 [] → fm_ahead_J29  t7 = some (r, tZ) → W p l e (headSpec (ws_ yX6_ahead cX6_ahead 7 (some .int)) ({ frames := 5, cells := 0, slots := 0, locals := 103 })).room s m ([.ref o, .int a1, .int a2, .int a3] : List Value).toArray below meth c H locs 0 0 (MQ below (tw_Qi D dA o ad A r tZ) ([.ref o, .int a1, .int a2, .int a3] : List Value).toArray s 0 0 A) (F0 m 29 ls []) := by
    intro t7 H locs ls hP hS hl hf
    unfold fm_ahead_J29 at hf
    refine lv_iconst (v := (-1 : Int32)) hx hb dX6_ahead_29 (by decide) ?_
    exact tw_ireti (tw_rtE hf).1 (tw_rtE hf).2 C hr hP hS hlk dX6_ahead_30
  refine lv_if_eq (tgt := 29) hx hb dX6_ahead_10 (by decide) (fun hc => ?_) (fun hc => ?_)
  · have hf := tw_ifT hc hf
    exact k29 _ _ _ _ hP hS (lv_sub hl [] rfl) hf
  · have hf := tw_ifF hc hf
    refine lv_iload_n hx hb dX6_ahead_13 rfl (lv_at hl 2 rfl) ?_
    obtain ⟨x8, t9, e10, hf⟩ := tw_bdE hf
    refine tw_cSi (As := [.int a2]) (rest := []) C hml hP hS (mm_isFar (l := l) (X := X) (D := D) (dA := dA) hD _ _ _ _ e10) (va_cwS 1 hts (lw_S q1864 q1865 q106 q1866) rfl rfl rfl hdX6_isFar ⟨Nat.le_of_ble_eq_true rfl, Nat.le_of_ble_eq_true rfl⟩) rfl hl.1 rfl (Nat.le_of_ble_eq_true rfl) dX6_ahead_14 (fun H locs hP hS => ?_)
    refine lv_if_eq (tgt := 29) hx hb dX6_ahead_17 (by decide) (fun hc => ?_) (fun hc => ?_)
    · have hf := tw_ifT hc hf
      exact k29 _ _ _ _ hP hS (lv_sub hl [] rfl) hf
    · have hf := tw_ifF hc hf
      refine lv_iload_n hx hb dX6_ahead_20 rfl (lv_at hl 3 rfl) ?_
      refine lv_if_lt (tgt := 29) hx hb dX6_ahead_21 (by decide) (fun hc => ?_) (fun hc => ?_)
      · have hf := tw_ifT hc hf
        exact k29 _ _ _ _ hP hS (lv_sub hl [] rfl) hf
      · have hf := tw_ifF hc hf
        refine lv_iload_n hx hb dX6_ahead_24 rfl (lv_at hl 3 rfl) ?_
        refine lv_iconst (v := (2 : Int32)) hx hb dX6_ahead_25 (by decide) ?_
        refine lv_icmp_le (tgt := 31) hx hb dX6_ahead_26 (by decide) (fun hc => ?_) (fun hc => ?_)
        · have hf := tw_ifT hc hf
          refine lv_aload_n hx hb dX6_ahead_31 rfl (lv_at hl 0 rfl) ?_
          refine tw_aget (k := 26) C hP (by decide) (by decide) q1402 dX6_ahead_32 ?_
          refine lv_iconst (v := (0 : Int32)) hx hb dX6_ahead_35 (by decide) ?_
          refine lv_aload_n hx hb dX6_ahead_36 rfl (lv_at hl 0 rfl) ?_
          refine tw_aget (k := 27) C hP (by decide) (by decide) q1403 dX6_ahead_37 ?_
          refine lv_iconst (v := (0 : Int32)) hx hb dX6_ahead_40 (by decide) ?_
          obtain ⟨x11, t12, e13, hf⟩ := tw_bdE hf
          refine tw_cSv (As := [.ref (ad 26), .int (0 : Int32), .ref (ad 27), .int (0 : Int32)]) (rest := []) C hml hP hS (mm_copies (l := l) (X := X) (D := D) (dA := dA) hD _ _ _ _ _ _ _ e13) (va_cwS 4 hts (lw_S q1638 q1639 q106 q1640) rfl rfl rfl hdX6_copies ⟨Nat.le_of_ble_eq_true rfl, Nat.le_of_ble_eq_true rfl⟩) rfl hl.1 rfl (Nat.le_of_ble_eq_true rfl) dX6_ahead_41 (fun H locs hP hS => ?_)
          refine lv_aload_n hx hb dX6_ahead_44 rfl (lv_at hl 0 rfl) ?_
          refine lv_iload_n hx hb dX6_ahead_45 rfl (lv_at hl 1 rfl) ?_
          obtain ⟨x14, t15, e16, hf⟩ := tw_bdE hf
          refine tw_cVi (As := [.int a1]) (rest := []) C hml hP hS (mm_queueOf (l := l) (X := X) (D := D) (dA := dA) hD _ _ _ _ e16) (cwV 1 hts (lw_V q1691 q1693 qs72 q106 q1694) rfl rfl rfl hdX6_queueOf ⟨Nat.le_of_ble_eq_true rfl, Nat.le_of_ble_eq_true rfl⟩) rfl hl.1 rfl (Nat.le_of_ble_eq_true rfl) dX6_ahead_46 (fun H locs hP hS => ?_)
          refine lv_istore (lv' := [(4, .int x14), (0, .ref o), (1, .int a1), (2, .int a2), (3, .int a3)]) hx hb dX6_ahead_49 hl (by decide) rfl (fun ls hl => ?_)
          refine lv_aload_n hx hb dX6_ahead_51 rfl (lv_at hl 1 rfl) ?_
          refine tw_aget (k := 26) C hP (by decide) (by decide) q1402 dX6_ahead_52 ?_
          refine lv_bipush (v := (24 : Int32)) hx hb dX6_ahead_55 (by decide) ?_
          refine lv_iload_n hx hb dX6_ahead_57 rfl (lv_at hl 2 rfl) ?_
          refine lv_imul hx hb dX6_ahead_58 ?_
          refine lv_iconst (v := (3 : Int32)) hx hb dX6_ahead_59 (by decide) ?_
          refine lv_iadd hx hb dX6_ahead_60 ?_
          obtain ⟨x17, t18, e19, hf⟩ := tw_bdE hf
          refine tw_iald C hP e19 dX6_ahead_61 (fun hP => ?_)
          refine lv_istore (lv' := [(5, .int x17), (4, .int x14), (0, .ref o), (1, .int a1), (2, .int a2), (3, .int a3)]) hx hb dX6_ahead_62 hl (by decide) rfl (fun ls hl => ?_)
          refine lv_iconst (v := (0 : Int32)) hx hb dX6_ahead_64 (by decide) ?_
          refine lv_istore (lv' := [(6, .int (0 : Int32)), (5, .int x17), (4, .int x14), (0, .ref o), (1, .int a1), (2, .int a2), (3, .int a3)]) hx hb dX6_ahead_65 hl (by decide) rfl (fun ls hl => ?_)
          have k67 : ∀ (n : Nat) (v67_4 : Int32) (v67_6 : Int32) (t20 : TS) (H : Heap) (locs : List Loc) (ls : Array Slot), tw_P D dA o ad t20 H → va_S A s.heap H locs → lv_has ls 7 [(0, .ref o), (1, .int a1), (2, .int a2), (3, .int a3), (4, .int v67_4), (5, .int x17), (6, .int v67_6)] → tw_lp (fm_ahead_L67 a2 a3 a1 x17) (fun _ _ _ => none) n v67_4 v67_6 t20 = some (r, tZ) → W p l e (headSpec (ws_ yX6_ahead cX6_ahead 7 (some .int)) ({ frames := 5, cells := 0, slots := 0, locals := 103 })).room s m ([.ref o, .int a1, .int a2, .int a3] : List Value).toArray below meth c H locs 0 0 (MQ below (tw_Qi D dA o ad A r tZ) ([.ref o, .int a1, .int a2, .int a3] : List Value).toArray s 0 0 A) (F0 m 67 ls []) := by
            intro n
            induction n with
            | zero => intro v67_4 v67_6 t20 H locs ls hP hS hl hf; exact (tw_no hf).elim
            | succ n ih67 =>
              intro v67_4 v67_6 t20 H locs ls hP hS hl hf
              obtain ⟨sf67, hs67⟩ : ∃ f, f = tw_lp (fm_ahead_L67 a2 a3 a1 x17) (fun _ _ _ => none) n := ⟨_, rfl⟩
              rw [← hs67] at ih67
              have hf : fm_ahead_L67 a2 a3 a1 x17 sf67 v67_4 v67_6 t20 = some (r, tZ) := by rw [hs67]; exact hf
              clear hs67
              unfold fm_ahead_L67 at hf
              refine lv_iload hx hb dX6_ahead_67 (lv_at hl 6 rfl) ?_
              refine lv_iload_n hx hb dX6_ahead_69 rfl (lv_at hl 2 rfl) ?_
              refine lv_icmp_ge (tgt := 105) hx hb dX6_ahead_70 (by decide) (fun hc => ?_) (fun hc => ?_)
              · have hf := tw_ifT hc hf
                refine lv_iload_n hx hb dX6_ahead_105 rfl (lv_at hl 3 rfl) ?_
                have k141 : ∀ (w141_0 : Int32) (t21 : TS) (H : Heap) (locs : List Loc) (ls : Array Slot), tw_P D dA o ad t21 H → va_S A s.heap H locs → lv_has ls 7 [(0, .ref o)] → fm_ahead_J141 w141_0 t21 = some (r, tZ) → W p l e (headSpec (ws_ yX6_ahead cX6_ahead 7 (some .int)) ({ frames := 5, cells := 0, slots := 0, locals := 103 })).room s m ([.ref o, .int a1, .int a2, .int a3] : List Value).toArray below meth c H locs 0 0 (MQ below (tw_Qi D dA o ad A r tZ) ([.ref o, .int a1, .int a2, .int a3] : List Value).toArray s 0 0 A) (F0 m 141 ls [.int w141_0]) := by
                  intro w141_0 t21 H locs ls hP hS hl hf
                  unfold fm_ahead_J141 at hf
                  refine lv_istore (lv' := [(6, .int w141_0), (0, .ref o)]) hx hb dX6_ahead_141 hl (by decide) rfl (fun ls hl => ?_)
                  refine lv_aload_n hx hb dX6_ahead_143 rfl (lv_at hl 1 rfl) ?_
                  refine tw_aget (k := 27) C hP (by decide) (by decide) q1403 dX6_ahead_144 ?_
                  refine lv_iconst (v := (0 : Int32)) hx hb dX6_ahead_147 (by decide) ?_
                  refine lv_aload_n hx hb dX6_ahead_148 rfl (lv_at hl 1 rfl) ?_
                  refine tw_aget (k := 26) C hP (by decide) (by decide) q1402 dX6_ahead_149 ?_
                  refine lv_iconst (v := (0 : Int32)) hx hb dX6_ahead_152 (by decide) ?_
                  obtain ⟨x22, t23, e24, hf⟩ := tw_bdE hf
                  refine tw_cSv (As := [.ref (ad 27), .int (0 : Int32), .ref (ad 26), .int (0 : Int32)]) (rest := []) C hml hP hS (mm_copies (l := l) (X := X) (D := D) (dA := dA) hD _ _ _ _ _ _ _ e24) (va_cwS 4 hts (lw_S q1638 q1639 q106 q1640) rfl rfl rfl hdX6_copies ⟨Nat.le_of_ble_eq_true rfl, Nat.le_of_ble_eq_true rfl⟩) rfl hl.1 rfl (Nat.le_of_ble_eq_true rfl) dX6_ahead_153 (fun H locs hP hS => ?_)
                  refine lv_iload hx hb dX6_ahead_156 (lv_at hl 0 rfl) ?_
                  exact tw_ireti (tw_rtE hf).1 (tw_rtE hf).2 C hr hP hS hlk dX6_ahead_158
                refine lv_if_ne (tgt := 117) hx hb dX6_ahead_106 (by decide) (fun hc => ?_) (fun hc => ?_)
                · have hf := tw_ifF hc hf
                  refine lv_iload_n hx hb dX6_ahead_117 rfl (lv_at hl 3 rfl) ?_
                  refine lv_iconst (v := (1 : Int32)) hx hb dX6_ahead_118 (by decide) ?_
                  refine lv_icmp_ne (tgt := 127) hx hb dX6_ahead_119 (by decide) (fun hc => ?_) (fun hc => ?_)
                  · have hf := tw_ifF hc hf
                    refine lv_aload_n hx hb dX6_ahead_127 rfl (lv_at hl 0 rfl) ?_
                    refine tw_aget (k := 26) C hP (by decide) (by decide) q1402 dX6_ahead_128 ?_
                    refine lv_bipush (v := (24 : Int32)) hx hb dX6_ahead_131 (by decide) ?_
                    refine lv_iload_n hx hb dX6_ahead_133 rfl (lv_at hl 1 rfl) ?_
                    refine lv_imul hx hb dX6_ahead_134 ?_
                    refine lv_iconst (v := (3 : Int32)) hx hb dX6_ahead_135 (by decide) ?_
                    refine lv_iadd hx hb dX6_ahead_136 ?_
                    obtain ⟨x25, t26, e27, hf⟩ := tw_bdE hf
                    refine tw_iald C hP e27 dX6_ahead_137 (fun hP => ?_)
                    refine lv_iload hx hb dX6_ahead_138 (lv_at hl 5 rfl) ?_
                    refine lv_isub hx hb dX6_ahead_140 ?_
                    exact k141 _ _ _ _ _ hP hS (lv_sub hl [0] rfl) hf
                  · have hf := tw_ifT hc hf
                    refine lv_iload hx hb dX6_ahead_122 (lv_at hl 4 rfl) ?_
                    refine lv_goto (tgt := 141) hx hb dX6_ahead_124 (by decide) ?_
                    exact k141 _ _ _ _ _ hP hS (lv_sub hl [0] rfl) hf
                · have hf := tw_ifT hc hf
                  refine lv_aload_n hx hb dX6_ahead_109 rfl (lv_at hl 0 rfl) ?_
                  refine lv_iload_n hx hb dX6_ahead_110 rfl (lv_at hl 1 rfl) ?_
                  obtain ⟨x28, t29, e30, hf⟩ := tw_bdE hf
                  refine tw_cVi (As := [.int a1]) (rest := []) C hml hP hS (mm_queueOf (l := l) (X := X) (D := D) (dA := dA) hD _ _ _ _ e30) (cwV 1 hts (lw_V q1691 q1693 qs72 q106 q1694) rfl rfl rfl hdX6_queueOf ⟨Nat.le_of_ble_eq_true rfl, Nat.le_of_ble_eq_true rfl⟩) rfl hl.1 rfl (Nat.le_of_ble_eq_true rfl) dX6_ahead_111 (fun H locs hP hS => ?_)
                  refine lv_goto (tgt := 141) hx hb dX6_ahead_114 (by decide) ?_
                  exact k141 _ _ _ _ _ hP hS (lv_sub hl [0] rfl) hf
              · have hf := tw_ifF hc hf
                refine lv_aload_n hx hb dX6_ahead_73 rfl (lv_at hl 0 rfl) ?_
                obtain ⟨x31, t32, e33, hf⟩ := tw_bdE hf
                refine tw_cVv (As := []) (rest := []) C hml hP hS (mm_tickGoes (l := l) (X := X) (D := D) (dA := dA) hD _ _ _ e33) (cwV 0 hts (lw_V q1657 q1659 qs65 q106 q1660) rfl rfl rfl hdX6_tickGoes ⟨Nat.le_of_ble_eq_true rfl, Nat.le_of_ble_eq_true rfl⟩) rfl hl.1 rfl (Nat.le_of_ble_eq_true rfl) dX6_ahead_74 (fun H locs hP hS => ?_)
                refine lv_aload_n hx hb dX6_ahead_77 rfl (lv_at hl 0 rfl) ?_
                refine lv_iload_n hx hb dX6_ahead_78 rfl (lv_at hl 1 rfl) ?_
                obtain ⟨x34, t35, e36, hf⟩ := tw_bdE hf
                refine tw_cVi (As := [.int a1]) (rest := []) C hml hP hS (mm_queueOf (l := l) (X := X) (D := D) (dA := dA) hD _ _ _ _ e36) (cwV 1 hts (lw_V q1691 q1693 qs72 q106 q1694) rfl rfl rfl hdX6_queueOf ⟨Nat.le_of_ble_eq_true rfl, Nat.le_of_ble_eq_true rfl⟩) rfl hl.1 rfl (Nat.le_of_ble_eq_true rfl) dX6_ahead_79 (fun H locs hP hS => ?_)
                refine lv_iload hx hb dX6_ahead_82 (lv_at hl 4 rfl) ?_
                have k97 : ∀ (w97_0 : Int32) (t37 : TS) (H : Heap) (locs : List Loc) (ls : Array Slot), tw_P D dA o ad t37 H → va_S A s.heap H locs → lv_has ls 7 [(0, .ref o), (1, .int a1), (2, .int a2), (3, .int a3), (5, .int x17), (6, .int v67_6)] → fm_ahead_J97 sf67 v67_6 w97_0 t37 = some (r, tZ) → W p l e (headSpec (ws_ yX6_ahead cX6_ahead 7 (some .int)) ({ frames := 5, cells := 0, slots := 0, locals := 103 })).room s m ([.ref o, .int a1, .int a2, .int a3] : List Value).toArray below meth c H locs 0 0 (MQ below (tw_Qi D dA o ad A r tZ) ([.ref o, .int a1, .int a2, .int a3] : List Value).toArray s 0 0 A) (F0 m 97 ls [.int w97_0]) := by
                  intro w97_0 t37 H locs ls hP hS hl hf
                  unfold fm_ahead_J97 at hf
                  refine lv_istore (lv' := [(4, .int w97_0), (0, .ref o), (1, .int a1), (2, .int a2), (3, .int a3), (5, .int x17), (6, .int v67_6)]) hx hb dX6_ahead_97 hl (by decide) rfl (fun ls hl => ?_)
                  refine lv_iinc (v := (v67_6 + (1 : Int32))) (lv' := [(6, .int (v67_6 + (1 : Int32))), (4, .int w97_0), (0, .ref o), (1, .int a1), (2, .int a2), (3, .int a3), (5, .int x17)]) hx hb dX6_ahead_99 hl (k := 6) rfl rfl (by decide) rfl (fun ls hl => ?_)
                  refine lv_goto (tgt := 67) hx hb dX6_ahead_102 (by decide) ?_
                  exact ih67 _ _ _ _ _ _ hP hS (lv_sub hl [2, 3, 4, 5, 1, 6, 0] rfl) hf
                refine lv_icmp_le (tgt := 95) hx hb dX6_ahead_84 (by decide) (fun hc => ?_) (fun hc => ?_)
                · have hf := tw_ifT hc hf
                  refine lv_iload hx hb dX6_ahead_95 (lv_at hl 4 rfl) ?_
                  exact k97 _ _ _ _ _ hP hS (lv_sub hl [0, 1, 2, 3, 5, 6] rfl) hf
                · have hf := tw_ifF hc hf
                  refine lv_aload_n hx hb dX6_ahead_87 rfl (lv_at hl 0 rfl) ?_
                  refine lv_iload_n hx hb dX6_ahead_88 rfl (lv_at hl 1 rfl) ?_
                  obtain ⟨x38, t39, e40, hf⟩ := tw_bdE hf
                  refine tw_cVi (As := [.int a1]) (rest := []) C hml hP hS (mm_queueOf (l := l) (X := X) (D := D) (dA := dA) hD _ _ _ _ e40) (cwV 1 hts (lw_V q1691 q1693 qs72 q106 q1694) rfl rfl rfl hdX6_queueOf ⟨Nat.le_of_ble_eq_true rfl, Nat.le_of_ble_eq_true rfl⟩) rfl hl.1 rfl (Nat.le_of_ble_eq_true rfl) dX6_ahead_89 (fun H locs hP hS => ?_)
                  refine lv_goto (tgt := 97) hx hb dX6_ahead_92 (by decide) ?_
                  exact k97 _ _ _ _ _ hP hS (lv_sub hl [0, 1, 2, 3, 5, 6] rfl) hf
          exact k67 _ _ _ _ _ _ _ hP hS (lv_sub hl [3, 4, 5, 6, 2, 1, 0] rfl) hf
        · have hf := tw_ifF hc hf
          exact k29 _ _ _ _ hP hS (lv_sub hl [] rfl) hf
def fm_flows_2_J29   : TM Int32 :=
  tw_rt (-1 : Int32)
def fm_flows_2_L89 (a2 : Int32) (x11 : Int32) (w53_0 : Int32) (w71_0 : Int32) (sf89 : Int32 → TM Int32) (v89_6 : Int32) : TM Int32 :=
  if a2 ≤ v89_6 then ( tw_bd (tw_ld 26 (x11 + w53_0)) fun x20 =>
    tw_bd (fm_copies 27 (0 : Int32) 26 (0 : Int32)) fun _ =>
  tw_rt (x20 - w71_0))
  else (tw_bd (fm_tickGoes) fun _ =>
 
  sf89 (v89_6 + (1 : Int32)))
def fm_flows_2_J71 (a2 : Int32) (x11 : Int32) (w53_0 : Int32) (w71_0 : Int32) : TM Int32 :=
    tw_bd (fm_copies 26 (0 : Int32) 27 (0 : Int32)) fun _ =>
 
  tw_lp (fm_flows_2_L89 a2 x11 w53_0 w71_0) (fun _ _ => none) tw_fu (0 : Int32)
def fm_flows_2_J53 (a3 : Int32) (a2 : Int32) (x11 : Int32) (w53_0 : Int32) : TM Int32 :=
  if a3 = 0 then (fm_flows_2_J71 a2 x11 w53_0 (0 : Int32))
  else ( tw_bd (tw_ld 26 (x11 + w53_0)) fun x29 =>
 
  fm_flows_2_J71 a2 x11 w53_0 x29)
def fm_flows_2 (a1 : Int32) (a2 : Int32) (a3 : Int32) : TM Int32 :=
  tw_bd (tw_pi 0 (0 : Int32)) fun _ =>
  tw_bd (fm_isFlow a1) fun x4 =>
  if x4 = 0 then (fm_flows_2_J29)
  else (tw_bd (fm_isFar a2) fun x8 =>
  if x8 = 0 then (fm_flows_2_J29)
  else (if a3 < 0 then (fm_flows_2_J29)
  else (if a3 ≤ (2 : Int32) then (tw_bd (fm_flowAt a1) fun x11 =>
  if a3 = 0 then (fm_flows_2_J53 a3 a2 x11 (0 : Int32))
  else (if a3 = (1 : Int32) then (fm_flows_2_J53 a3 a2 x11 (5 : Int32))
  else (fm_flows_2_J53 a3 a2 x11 (4 : Int32))))
  else (fm_flows_2_J29))))
theorem hdX6_flows_2 : yX6_flows_2.cls = "LosslessFabricModel" ∧ (yX6_flows_2.cls ≠ "java/lang/invoke/MethodHandle" ∧ yX6_flows_2.cls ≠ "java/lang/invoke/VarHandle" ∧ (parseMethodDescriptor yX6_flows_2.desc).map (fun d => d.parameters.length) = some 3) := by decide +kernel
set_option maxHeartbeats 4000000 in
theorem mm_flows_2 {l : Launch} {X : (Nat → Nat) × (Nat → Nat) × Nat} {D : va_G} {dA : Nat → ClassId} {o : Nat} {ad : Nat → Nat} {A : Nat → Prop} (hD : tw_D o ad A) (a1 : Int32) (a2 : Int32) (a3 : Int32) (t0 tZ : TS) (r : Int32) (hf : fm_flows_2 a1 a2 a3 t0 = some (r, tZ)) : Met l yX6_flows_2 (ws_ yX6_flows_2 cX6_flows_2 7 (some .int)) ({ frames := 5, cells := 0, slots := 0, locals := 103 }) (va_Pc [.ref o, .int a1, .int a2, .int a3] (tw_W X A D dA o ad t0)) (tw_Qi D dA o ad A r tZ) 0 0 A := by
  refine Met.ofW (cc := cX6_flows_2) (maxL := 7) (ret := some .int) (by decide) rfl ?_
  intro p e s m args below meth c s₁ B hml hv
  obtain ⟨rfl, hP, hK, hX⟩ := hv
  have hx := B.exec
  have hb := B.bytes
  have hr := B.returns
  have hts := atoms_spec (ws := (ws_ yX6_flows_2 cX6_flows_2 7 (some .int))) B.pre
  have hts : ∀ w ∈ lw_all, w.before _ s = true := fun w h => hts w (List.mem_cons_of_mem _ h)
  have hown : s.vm.findClass "LosslessFabricModel" = some m.cls := findClass_of_methodNamed B.named
  have hlk := B.notSynchronized
  have C : tw_C X p s m _ c cX6_flows_2 D dA o ad A := ⟨hx, hb, hts, hown, hK, hD, hX⟩
  have hS : va_S A s.heap s.heap [] := va_S.rf
  have hl := lv_entry ([.ref o, .int a1, .int a2, .int a3]) (n := 7) (Nat.le_of_ble_eq_true rfl)
  rw [lg_entry_eq]
  generalize (lg_sl ([.ref o, .int a1, .int a2, .int a3]) ++ List.replicate (7 - (lg_sl ([.ref o, .int a1, .int a2, .int a3])).length) Slot.unset).toArray = ls at hl ⊢
  have hl : lv_has ls 7 [(0, .ref o), (1, .int a1), (2, .int a2), (3, .int a3)] := hl
  unfold fm_flows_2 at hf
  refine lv_aload_n hx hb dX6_flows_2_0 rfl (lv_at hl 0 rfl) ?_
  refine lv_iconst (v := (0 : Int32)) hx hb dX6_flows_2_1 (by decide) ?_
  obtain ⟨x1, t2, e3, hf⟩ := tw_bdE hf
  refine tw_iput (k := 0) C hP hS (by decide) rfl e3 q1376 dX6_flows_2_2 (fun H locs hP hS => ?_)
  refine lv_aload_n hx hb dX6_flows_2_5 rfl (lv_at hl 0 rfl) ?_
  refine lv_iload_n hx hb dX6_flows_2_6 rfl (lv_at hl 1 rfl) ?_
  obtain ⟨x4, t5, e6, hf⟩ := tw_bdE hf
  refine tw_cVi (As := [.int a1]) (rest := []) C hml hP hS (mm_isFlow (l := l) (X := X) (D := D) (dA := dA) hD _ _ _ _ e6) (cwV 1 hts (lw_V q1727 q1729 qs80 q106 q1730) rfl rfl rfl hdX6_isFlow ⟨Nat.le_of_ble_eq_true rfl, Nat.le_of_ble_eq_true rfl⟩) rfl hl.1 rfl (Nat.le_of_ble_eq_true rfl) dX6_flows_2_7 (fun H locs hP hS => ?_)
  have k29 : ∀  (t7 : TS) (H : Heap) (locs : List Loc) (ls : Array Slot), tw_P D dA o ad t7 H → va_S A s.heap H locs → lv_has ls 7 [] → fm_flows_2_J29  t7 = some (r, tZ) → W p l e (headSpec (ws_ yX6_flows_2 cX6_flows_2 7 (some .int)) ({ frames := 5, cells := 0, slots := 0, locals := 103 })).room s m ([.ref o, .int a1, .int a2, .int a3] : List Value).toArray below meth c H locs 0 0 (MQ below (tw_Qi D dA o ad A r tZ) ([.ref o, .int a1, .int a2, .int a3] : List Value).toArray s 0 0 A) (F0 m 29 ls []) := by
    intro t7 H locs ls hP hS hl hf
    unfold fm_flows_2_J29 at hf
    refine lv_iconst (v := (-1 : Int32)) hx hb dX6_flows_2_29 (by decide) ?_
    exact tw_ireti (tw_rtE hf).1 (tw_rtE hf).2 C hr hP hS hlk dX6_flows_2_30
  refine lv_if_eq (tgt := 29) hx hb dX6_flows_2_10 (by decide) (fun hc => ?_) (fun hc => ?_)
  · have hf := tw_ifT hc hf
    exact k29 _ _ _ _ hP hS (lv_sub hl [] rfl) hf
  · have hf := tw_ifF hc hf
    refine lv_iload_n hx hb dX6_flows_2_13 rfl (lv_at hl 2 rfl) ?_
    obtain ⟨x8, t9, e10, hf⟩ := tw_bdE hf
    refine tw_cSi (As := [.int a2]) (rest := []) C hml hP hS (mm_isFar (l := l) (X := X) (D := D) (dA := dA) hD _ _ _ _ e10) (va_cwS 1 hts (lw_S q1864 q1865 q106 q1866) rfl rfl rfl hdX6_isFar ⟨Nat.le_of_ble_eq_true rfl, Nat.le_of_ble_eq_true rfl⟩) rfl hl.1 rfl (Nat.le_of_ble_eq_true rfl) dX6_flows_2_14 (fun H locs hP hS => ?_)
    refine lv_if_eq (tgt := 29) hx hb dX6_flows_2_17 (by decide) (fun hc => ?_) (fun hc => ?_)
    · have hf := tw_ifT hc hf
      exact k29 _ _ _ _ hP hS (lv_sub hl [] rfl) hf
    · have hf := tw_ifF hc hf
      refine lv_iload_n hx hb dX6_flows_2_20 rfl (lv_at hl 3 rfl) ?_
      refine lv_if_lt (tgt := 29) hx hb dX6_flows_2_21 (by decide) (fun hc => ?_) (fun hc => ?_)
      · have hf := tw_ifT hc hf
        exact k29 _ _ _ _ hP hS (lv_sub hl [] rfl) hf
      · have hf := tw_ifF hc hf
        refine lv_iload_n hx hb dX6_flows_2_24 rfl (lv_at hl 3 rfl) ?_
        refine lv_iconst (v := (2 : Int32)) hx hb dX6_flows_2_25 (by decide) ?_
        refine lv_icmp_le (tgt := 31) hx hb dX6_flows_2_26 (by decide) (fun hc => ?_) (fun hc => ?_)
        · have hf := tw_ifT hc hf
          refine lv_iload_n hx hb dX6_flows_2_31 rfl (lv_at hl 1 rfl) ?_
          obtain ⟨x11, t12, e13, hf⟩ := tw_bdE hf
          refine tw_cSi (As := [.int a1]) (rest := []) C hml hP hS (mm_flowAt (l := l) (X := X) (D := D) (dA := dA) hD _ _ _ _ e13) (va_cwS 1 hts (lw_S q1661 q1662 q106 q1663) rfl rfl rfl hdX6_flowAt ⟨Nat.le_of_ble_eq_true rfl, Nat.le_of_ble_eq_true rfl⟩) rfl hl.1 rfl (Nat.le_of_ble_eq_true rfl) dX6_flows_2_32 (fun H locs hP hS => ?_)
          refine lv_iload_n hx hb dX6_flows_2_35 rfl (lv_at hl 3 rfl) ?_
          have k53 : ∀ (w53_0 : Int32) (t14 : TS) (H : Heap) (locs : List Loc) (ls : Array Slot), tw_P D dA o ad t14 H → va_S A s.heap H locs → lv_has ls 7 [(0, .ref o), (2, .int a2), (3, .int a3)] → fm_flows_2_J53 a3 a2 x11 w53_0 t14 = some (r, tZ) → W p l e (headSpec (ws_ yX6_flows_2 cX6_flows_2 7 (some .int)) ({ frames := 5, cells := 0, slots := 0, locals := 103 })).room s m ([.ref o, .int a1, .int a2, .int a3] : List Value).toArray below meth c H locs 0 0 (MQ below (tw_Qi D dA o ad A r tZ) ([.ref o, .int a1, .int a2, .int a3] : List Value).toArray s 0 0 A) (F0 m 53 ls [.int w53_0, .int x11]) := by
            intro w53_0 t14 H locs ls hP hS hl hf
            unfold fm_flows_2_J53 at hf
            refine lv_iadd hx hb dX6_flows_2_53 ?_
            refine lv_istore (lv' := [(4, .int (x11 + w53_0)), (0, .ref o), (2, .int a2), (3, .int a3)]) hx hb dX6_flows_2_54 hl (by decide) rfl (fun ls hl => ?_)
            refine lv_iload_n hx hb dX6_flows_2_56 rfl (lv_at hl 3 rfl) ?_
            have k71 : ∀ (w71_0 : Int32) (t15 : TS) (H : Heap) (locs : List Loc) (ls : Array Slot), tw_P D dA o ad t15 H → va_S A s.heap H locs → lv_has ls 7 [(0, .ref o), (2, .int a2), (4, .int (x11 + w53_0))] → fm_flows_2_J71 a2 x11 w53_0 w71_0 t15 = some (r, tZ) → W p l e (headSpec (ws_ yX6_flows_2 cX6_flows_2 7 (some .int)) ({ frames := 5, cells := 0, slots := 0, locals := 103 })).room s m ([.ref o, .int a1, .int a2, .int a3] : List Value).toArray below meth c H locs 0 0 (MQ below (tw_Qi D dA o ad A r tZ) ([.ref o, .int a1, .int a2, .int a3] : List Value).toArray s 0 0 A) (F0 m 71 ls [.int w71_0]) := by
              intro w71_0 t15 H locs ls hP hS hl hf
              unfold fm_flows_2_J71 at hf
              refine lv_istore (lv' := [(5, .int w71_0), (0, .ref o), (2, .int a2), (4, .int (x11 + w53_0))]) hx hb dX6_flows_2_71 hl (by decide) rfl (fun ls hl => ?_)
              refine lv_aload_n hx hb dX6_flows_2_73 rfl (lv_at hl 1 rfl) ?_
              refine tw_aget (k := 26) C hP (by decide) (by decide) q1402 dX6_flows_2_74 ?_
              refine lv_iconst (v := (0 : Int32)) hx hb dX6_flows_2_77 (by decide) ?_
              refine lv_aload_n hx hb dX6_flows_2_78 rfl (lv_at hl 1 rfl) ?_
              refine tw_aget (k := 27) C hP (by decide) (by decide) q1403 dX6_flows_2_79 ?_
              refine lv_iconst (v := (0 : Int32)) hx hb dX6_flows_2_82 (by decide) ?_
              obtain ⟨x16, t17, e18, hf⟩ := tw_bdE hf
              refine tw_cSv (As := [.ref (ad 26), .int (0 : Int32), .ref (ad 27), .int (0 : Int32)]) (rest := []) C hml hP hS (mm_copies (l := l) (X := X) (D := D) (dA := dA) hD _ _ _ _ _ _ _ e18) (va_cwS 4 hts (lw_S q1638 q1639 q106 q1640) rfl rfl rfl hdX6_copies ⟨Nat.le_of_ble_eq_true rfl, Nat.le_of_ble_eq_true rfl⟩) rfl hl.1 rfl (Nat.le_of_ble_eq_true rfl) dX6_flows_2_83 (fun H locs hP hS => ?_)
              refine lv_iconst (v := (0 : Int32)) hx hb dX6_flows_2_86 (by decide) ?_
              refine lv_istore (lv' := [(6, .int (0 : Int32)), (5, .int w71_0), (0, .ref o), (2, .int a2), (4, .int (x11 + w53_0))]) hx hb dX6_flows_2_87 hl (by decide) rfl (fun ls hl => ?_)
              have k89 : ∀ (n : Nat) (v89_6 : Int32) (t19 : TS) (H : Heap) (locs : List Loc) (ls : Array Slot), tw_P D dA o ad t19 H → va_S A s.heap H locs → lv_has ls 7 [(0, .ref o), (2, .int a2), (4, .int (x11 + w53_0)), (5, .int w71_0), (6, .int v89_6)] → tw_lp (fm_flows_2_L89 a2 x11 w53_0 w71_0) (fun _ _ => none) n v89_6 t19 = some (r, tZ) → W p l e (headSpec (ws_ yX6_flows_2 cX6_flows_2 7 (some .int)) ({ frames := 5, cells := 0, slots := 0, locals := 103 })).room s m ([.ref o, .int a1, .int a2, .int a3] : List Value).toArray below meth c H locs 0 0 (MQ below (tw_Qi D dA o ad A r tZ) ([.ref o, .int a1, .int a2, .int a3] : List Value).toArray s 0 0 A) (F0 m 89 ls []) := by
                intro n
                induction n with
                | zero => intro v89_6 t19 H locs ls hP hS hl hf; exact (tw_no hf).elim
                | succ n ih89 =>
                  intro v89_6 t19 H locs ls hP hS hl hf
                  obtain ⟨sf89, hs89⟩ : ∃ f, f = tw_lp (fm_flows_2_L89 a2 x11 w53_0 w71_0) (fun _ _ => none) n := ⟨_, rfl⟩
                  rw [← hs89] at ih89
                  have hf : fm_flows_2_L89 a2 x11 w53_0 w71_0 sf89 v89_6 t19 = some (r, tZ) := by rw [hs89]; exact hf
                  clear hs89
                  unfold fm_flows_2_L89 at hf
                  refine lv_iload hx hb dX6_flows_2_89 (lv_at hl 4 rfl) ?_
                  refine lv_iload_n hx hb dX6_flows_2_91 rfl (lv_at hl 1 rfl) ?_
                  refine lv_icmp_ge (tgt := 105) hx hb dX6_flows_2_92 (by decide) (fun hc => ?_) (fun hc => ?_)
                  · have hf := tw_ifT hc hf
                    refine lv_aload_n hx hb dX6_flows_2_105 rfl (lv_at hl 0 rfl) ?_
                    refine tw_aget (k := 26) C hP (by decide) (by decide) q1402 dX6_flows_2_106 ?_
                    refine lv_iload hx hb dX6_flows_2_109 (lv_at hl 2 rfl) ?_
                    obtain ⟨x20, t21, e22, hf⟩ := tw_bdE hf
                    refine tw_iald C hP e22 dX6_flows_2_111 (fun hP => ?_)
                    refine lv_iload hx hb dX6_flows_2_112 (lv_at hl 3 rfl) ?_
                    refine lv_isub hx hb dX6_flows_2_114 ?_
                    refine lv_istore (lv' := [(6, .int (x20 - w71_0)), (0, .ref o), (2, .int a2), (4, .int (x11 + w53_0)), (5, .int w71_0)]) hx hb dX6_flows_2_115 hl (by decide) rfl (fun ls hl => ?_)
                    refine lv_aload_n hx hb dX6_flows_2_117 rfl (lv_at hl 1 rfl) ?_
                    refine tw_aget (k := 27) C hP (by decide) (by decide) q1403 dX6_flows_2_118 ?_
                    refine lv_iconst (v := (0 : Int32)) hx hb dX6_flows_2_121 (by decide) ?_
                    refine lv_aload_n hx hb dX6_flows_2_122 rfl (lv_at hl 1 rfl) ?_
                    refine tw_aget (k := 26) C hP (by decide) (by decide) q1402 dX6_flows_2_123 ?_
                    refine lv_iconst (v := (0 : Int32)) hx hb dX6_flows_2_126 (by decide) ?_
                    obtain ⟨x23, t24, e25, hf⟩ := tw_bdE hf
                    refine tw_cSv (As := [.ref (ad 27), .int (0 : Int32), .ref (ad 26), .int (0 : Int32)]) (rest := []) C hml hP hS (mm_copies (l := l) (X := X) (D := D) (dA := dA) hD _ _ _ _ _ _ _ e25) (va_cwS 4 hts (lw_S q1638 q1639 q106 q1640) rfl rfl rfl hdX6_copies ⟨Nat.le_of_ble_eq_true rfl, Nat.le_of_ble_eq_true rfl⟩) rfl hl.1 rfl (Nat.le_of_ble_eq_true rfl) dX6_flows_2_127 (fun H locs hP hS => ?_)
                    refine lv_iload hx hb dX6_flows_2_130 (lv_at hl 0 rfl) ?_
                    exact tw_ireti (tw_rtE hf).1 (tw_rtE hf).2 C hr hP hS hlk dX6_flows_2_132
                  · have hf := tw_ifF hc hf
                    refine lv_aload_n hx hb dX6_flows_2_95 rfl (lv_at hl 0 rfl) ?_
                    obtain ⟨x26, t27, e28, hf⟩ := tw_bdE hf
                    refine tw_cVv (As := []) (rest := []) C hml hP hS (mm_tickGoes (l := l) (X := X) (D := D) (dA := dA) hD _ _ _ e28) (cwV 0 hts (lw_V q1657 q1659 qs65 q106 q1660) rfl rfl rfl hdX6_tickGoes ⟨Nat.le_of_ble_eq_true rfl, Nat.le_of_ble_eq_true rfl⟩) rfl hl.1 rfl (Nat.le_of_ble_eq_true rfl) dX6_flows_2_96 (fun H locs hP hS => ?_)
                    refine lv_iinc (v := (v89_6 + (1 : Int32))) (lv' := [(6, .int (v89_6 + (1 : Int32))), (0, .ref o), (2, .int a2), (4, .int (x11 + w53_0)), (5, .int w71_0)]) hx hb dX6_flows_2_99 hl (k := 4) rfl rfl (by decide) rfl (fun ls hl => ?_)
                    refine lv_goto (tgt := 89) hx hb dX6_flows_2_102 (by decide) ?_
                    exact ih89 _ _ _ _ _ hP hS (lv_sub hl [1, 2, 3, 4, 0] rfl) hf
              exact k89 _ _ _ _ _ _ hP hS (lv_sub hl [2, 3, 4, 1, 0] rfl) hf
            refine lv_if_ne (tgt := 64) hx hb dX6_flows_2_57 (by decide) (fun hc => ?_) (fun hc => ?_)
            · have hf := tw_ifF hc hf
              refine lv_aload_n hx hb dX6_flows_2_64 rfl (lv_at hl 1 rfl) ?_
              refine tw_aget (k := 26) C hP (by decide) (by decide) q1402 dX6_flows_2_65 ?_
              refine lv_iload hx hb dX6_flows_2_68 (lv_at hl 0 rfl) ?_
              obtain ⟨x29, t30, e31, hf⟩ := tw_bdE hf
              refine tw_iald C hP e31 dX6_flows_2_70 (fun hP => ?_)
              exact k71 _ _ _ _ _ hP hS (lv_sub hl [1, 2, 0] rfl) hf
            · have hf := tw_ifT hc hf
              refine lv_iconst (v := (0 : Int32)) hx hb dX6_flows_2_60 (by decide) ?_
              refine lv_goto (tgt := 71) hx hb dX6_flows_2_61 (by decide) ?_
              exact k71 _ _ _ _ _ hP hS (lv_sub hl [1, 2, 0] rfl) hf
          refine lv_if_ne (tgt := 43) hx hb dX6_flows_2_36 (by decide) (fun hc => ?_) (fun hc => ?_)
          · have hf := tw_ifF hc hf
            refine lv_iload_n hx hb dX6_flows_2_43 rfl (lv_at hl 3 rfl) ?_
            refine lv_iconst (v := (1 : Int32)) hx hb dX6_flows_2_44 (by decide) ?_
            refine lv_icmp_ne (tgt := 52) hx hb dX6_flows_2_45 (by decide) (fun hc => ?_) (fun hc => ?_)
            · have hf := tw_ifF hc hf
              refine lv_iconst (v := (4 : Int32)) hx hb dX6_flows_2_52 (by decide) ?_
              exact k53 _ _ _ _ _ hP hS (lv_sub hl [0, 2, 3] rfl) hf
            · have hf := tw_ifT hc hf
              refine lv_iconst (v := (5 : Int32)) hx hb dX6_flows_2_48 (by decide) ?_
              refine lv_goto (tgt := 53) hx hb dX6_flows_2_49 (by decide) ?_
              exact k53 _ _ _ _ _ hP hS (lv_sub hl [0, 2, 3] rfl) hf
          · have hf := tw_ifT hc hf
            refine lv_iconst (v := (0 : Int32)) hx hb dX6_flows_2_39 (by decide) ?_
            refine lv_goto (tgt := 53) hx hb dX6_flows_2_40 (by decide) ?_
            exact k53 _ _ _ _ _ hP hS (lv_sub hl [0, 2, 3] rfl) hf
        · have hf := tw_ifF hc hf
          exact k29 _ _ _ _ hP hS (lv_sub hl [] rfl) hf
def fm_isStalled_J17  (w17_0 : Int32) : TM Int32 :=
  tw_rz w17_0
def fm_isStalled  : TM Int32 :=
  tw_bd (fm_laysWaits (0 : Int32)) fun _ =>
  tw_bd (fm_inCyclesNow) fun x4 =>
  if x4 = 0 then (fm_isStalled_J17 (0 : Int32))
  else (fm_isStalled_J17 (1 : Int32))
theorem hdX6_isStalled : yX6_isStalled.cls = "LosslessFabricModel" ∧ (yX6_isStalled.cls ≠ "java/lang/invoke/MethodHandle" ∧ yX6_isStalled.cls ≠ "java/lang/invoke/VarHandle" ∧ (parseMethodDescriptor yX6_isStalled.desc).map (fun d => d.parameters.length) = some 0) := by decide +kernel
set_option maxHeartbeats 4000000 in
theorem mm_isStalled {l : Launch} {X : (Nat → Nat) × (Nat → Nat) × Nat} {D : va_G} {dA : Nat → ClassId} {o : Nat} {ad : Nat → Nat} {A : Nat → Prop} (hD : tw_D o ad A)  (t0 tZ : TS) (r : Int32) (hf : fm_isStalled  t0 = some (r, tZ)) : Met l yX6_isStalled (ws_ yX6_isStalled cX6_isStalled 1 (some .boolean)) ({ frames := 5, cells := 0, slots := 0, locals := 105 }) (va_Pc [.ref o] (tw_W X A D dA o ad t0)) (tw_Qi D dA o ad A r tZ) 0 0 A := by
  refine Met.ofW (cc := cX6_isStalled) (maxL := 1) (ret := some .boolean) (by decide) rfl ?_
  intro p e s m args below meth c s₁ B hml hv
  obtain ⟨rfl, hP, hK, hX⟩ := hv
  have hx := B.exec
  have hb := B.bytes
  have hr := B.returns
  have hts := atoms_spec (ws := (ws_ yX6_isStalled cX6_isStalled 1 (some .boolean))) B.pre
  have hts : ∀ w ∈ lw_all, w.before _ s = true := fun w h => hts w (List.mem_cons_of_mem _ h)
  have hown : s.vm.findClass "LosslessFabricModel" = some m.cls := findClass_of_methodNamed B.named
  have hlk := B.notSynchronized
  have C : tw_C X p s m _ c cX6_isStalled D dA o ad A := ⟨hx, hb, hts, hown, hK, hD, hX⟩
  have hS : va_S A s.heap s.heap [] := va_S.rf
  have hl := lv_entry ([.ref o]) (n := 1) (Nat.le_of_ble_eq_true rfl)
  rw [lg_entry_eq]
  generalize (lg_sl ([.ref o]) ++ List.replicate (1 - (lg_sl ([.ref o])).length) Slot.unset).toArray = ls at hl ⊢
  have hl : lv_has ls 1 [(0, .ref o)] := hl
  unfold fm_isStalled at hf
  refine lv_aload_n hx hb dX6_isStalled_0 rfl (lv_at hl 0 rfl) ?_
  refine lv_iconst (v := (0 : Int32)) hx hb dX6_isStalled_1 (by decide) ?_
  obtain ⟨x1, t2, e3, hf⟩ := tw_bdE hf
  refine tw_cVv (As := [.int (0 : Int32)]) (rest := []) C hml hP hS (mm_laysWaits (l := l) (X := X) (D := D) (dA := dA) hD _ _ _ _ e3) (cwV 1 hts (lw_V q1792 q1794 qs83 q106 q1795) rfl rfl rfl hdX6_laysWaits ⟨Nat.le_of_ble_eq_true rfl, Nat.le_of_ble_eq_true rfl⟩) rfl hl.1 rfl (Nat.le_of_ble_eq_true rfl) dX6_isStalled_2 (fun H locs hP hS => ?_)
  refine lv_aload_n hx hb dX6_isStalled_5 rfl (lv_at hl 0 rfl) ?_
  obtain ⟨x4, t5, e6, hf⟩ := tw_bdE hf
  refine tw_cVi (As := []) (rest := []) C hml hP hS (mm_inCyclesNow (l := l) (X := X) (D := D) (dA := dA) hD _ _ _ e6) (cwV 0 hts (lw_V q1812 q1814 qs87 q106 q1815) rfl rfl rfl hdX6_inCyclesNow ⟨Nat.le_of_ble_eq_true rfl, Nat.le_of_ble_eq_true rfl⟩) rfl hl.1 rfl (Nat.le_of_ble_eq_true rfl) dX6_isStalled_6 (fun H locs hP hS => ?_)
  have k17 : ∀ (w17_0 : Int32) (t7 : TS) (H : Heap) (locs : List Loc) (ls : Array Slot), tw_P D dA o ad t7 H → va_S A s.heap H locs → lv_has ls 1 [] → fm_isStalled_J17 w17_0 t7 = some (r, tZ) → W p l e (headSpec (ws_ yX6_isStalled cX6_isStalled 1 (some .boolean)) ({ frames := 5, cells := 0, slots := 0, locals := 105 })).room s m ([.ref o] : List Value).toArray below meth c H locs 0 0 (MQ below (tw_Qi D dA o ad A r tZ) ([.ref o] : List Value).toArray s 0 0 A) (F0 m 17 ls [.int w17_0]) := by
    intro w17_0 t7 H locs ls hP hS hl hf
    unfold fm_isStalled_J17 at hf
    exact tw_iretz hf C hr hP hS hlk dX6_isStalled_17
  refine lv_if_eq (tgt := 16) hx hb dX6_isStalled_9 (by decide) (fun hc => ?_) (fun hc => ?_)
  · have hf := tw_ifT hc hf
    refine lv_iconst (v := (0 : Int32)) hx hb dX6_isStalled_16 (by decide) ?_
    exact k17 _ _ _ _ _ hP hS (lv_sub hl [] rfl) hf
  · have hf := tw_ifF hc hf
    refine lv_iconst (v := (1 : Int32)) hx hb dX6_isStalled_12 (by decide) ?_
    refine lv_goto (tgt := 17) hx hb dX6_isStalled_13 (by decide) ?_
    exact k17 _ _ _ _ _ hP hS (lv_sub hl [] rfl) hf
def fm_stalls_J72  (w72_0 : Int32) : TM Int32 :=
  tw_rt w72_0
def fm_stalls_J44 (v20_1 : Int32)  : TM Int32 :=
  tw_bd (fm_isStalled) fun x9 =>
    tw_bd (fm_copies 27 (0 : Int32) 26 (0 : Int32)) fun _ =>
  if x9 = 0 then (fm_stalls_J72 (-2 : Int32))
  else (fm_stalls_J72 v20_1)
def fm_stalls_L20  (sf20 : Int32 → TM Int32) (v20_1 : Int32) : TM Int32 :=
  if (300 : Int32) ≤ v20_1 then (fm_stalls_J44 v20_1)
  else (tw_bd (fm_isStalled) fun x16 =>
  if x16 = 0 then (tw_bd (fm_tickGoes) fun _ =>
 
  sf20 (v20_1 + (1 : Int32)))
  else (fm_stalls_J44 v20_1))
def fm_stalls  : TM Int32 :=
  tw_bd (tw_pi 0 (0 : Int32)) fun _ =>
    tw_bd (fm_copies 26 (0 : Int32) 27 (0 : Int32)) fun _ =>
 
  tw_lp (fm_stalls_L20) (fun _ _ => none) tw_fu (0 : Int32)
theorem hdX6_stalls : yX6_stalls.cls = "LosslessFabricModel" ∧ (yX6_stalls.cls ≠ "java/lang/invoke/MethodHandle" ∧ yX6_stalls.cls ≠ "java/lang/invoke/VarHandle" ∧ (parseMethodDescriptor yX6_stalls.desc).map (fun d => d.parameters.length) = some 0) := by decide +kernel
set_option maxHeartbeats 4000000 in
theorem mm_stalls {l : Launch} {X : (Nat → Nat) × (Nat → Nat) × Nat} {D : va_G} {dA : Nat → ClassId} {o : Nat} {ad : Nat → Nat} {A : Nat → Prop} (hD : tw_D o ad A)  (t0 tZ : TS) (r : Int32) (hf : fm_stalls  t0 = some (r, tZ)) : Met l yX6_stalls (ws_ yX6_stalls cX6_stalls 3 (some .int)) ({ frames := 6, cells := 0, slots := 0, locals := 125 }) (va_Pc [.ref o] (tw_W X A D dA o ad t0)) (tw_Qi D dA o ad A r tZ) 0 0 A := by
  refine Met.ofW (cc := cX6_stalls) (maxL := 3) (ret := some .int) (by decide) rfl ?_
  intro p e s m args below meth c s₁ B hml hv
  obtain ⟨rfl, hP, hK, hX⟩ := hv
  have hx := B.exec
  have hb := B.bytes
  have hr := B.returns
  have hts := atoms_spec (ws := (ws_ yX6_stalls cX6_stalls 3 (some .int))) B.pre
  have hts : ∀ w ∈ lw_all, w.before _ s = true := fun w h => hts w (List.mem_cons_of_mem _ h)
  have hown : s.vm.findClass "LosslessFabricModel" = some m.cls := findClass_of_methodNamed B.named
  have hlk := B.notSynchronized
  have C : tw_C X p s m _ c cX6_stalls D dA o ad A := ⟨hx, hb, hts, hown, hK, hD, hX⟩
  have hS : va_S A s.heap s.heap [] := va_S.rf
  have hl := lv_entry ([.ref o]) (n := 3) (Nat.le_of_ble_eq_true rfl)
  rw [lg_entry_eq]
  generalize (lg_sl ([.ref o]) ++ List.replicate (3 - (lg_sl ([.ref o])).length) Slot.unset).toArray = ls at hl ⊢
  have hl : lv_has ls 3 [(0, .ref o)] := hl
  unfold fm_stalls at hf
  refine lv_aload_n hx hb dX6_stalls_0 rfl (lv_at hl 0 rfl) ?_
  refine lv_iconst (v := (0 : Int32)) hx hb dX6_stalls_1 (by decide) ?_
  obtain ⟨x1, t2, e3, hf⟩ := tw_bdE hf
  refine tw_iput (k := 0) C hP hS (by decide) rfl e3 q1376 dX6_stalls_2 (fun H locs hP hS => ?_)
  refine lv_aload_n hx hb dX6_stalls_5 rfl (lv_at hl 0 rfl) ?_
  refine tw_aget (k := 26) C hP (by decide) (by decide) q1402 dX6_stalls_6 ?_
  refine lv_iconst (v := (0 : Int32)) hx hb dX6_stalls_9 (by decide) ?_
  refine lv_aload_n hx hb dX6_stalls_10 rfl (lv_at hl 0 rfl) ?_
  refine tw_aget (k := 27) C hP (by decide) (by decide) q1403 dX6_stalls_11 ?_
  refine lv_iconst (v := (0 : Int32)) hx hb dX6_stalls_14 (by decide) ?_
  obtain ⟨x4, t5, e6, hf⟩ := tw_bdE hf
  refine tw_cSv (As := [.ref (ad 26), .int (0 : Int32), .ref (ad 27), .int (0 : Int32)]) (rest := []) C hml hP hS (mm_copies (l := l) (X := X) (D := D) (dA := dA) hD _ _ _ _ _ _ _ e6) (va_cwS 4 hts (lw_S q1638 q1639 q106 q1640) rfl rfl rfl hdX6_copies ⟨Nat.le_of_ble_eq_true rfl, Nat.le_of_ble_eq_true rfl⟩) rfl hl.1 rfl (Nat.le_of_ble_eq_true rfl) dX6_stalls_15 (fun H locs hP hS => ?_)
  refine lv_iconst (v := (0 : Int32)) hx hb dX6_stalls_18 (by decide) ?_
  refine lv_istore_n (lv' := [(1, .int (0 : Int32)), (0, .ref o)]) hx hb dX6_stalls_19 rfl hl (by decide) rfl (fun ls hl => ?_)
  have k20 : ∀ (n : Nat) (v20_1 : Int32) (t7 : TS) (H : Heap) (locs : List Loc) (ls : Array Slot), tw_P D dA o ad t7 H → va_S A s.heap H locs → lv_has ls 3 [(0, .ref o), (1, .int v20_1)] → tw_lp (fm_stalls_L20) (fun _ _ => none) n v20_1 t7 = some (r, tZ) → W p l e (headSpec (ws_ yX6_stalls cX6_stalls 3 (some .int)) ({ frames := 6, cells := 0, slots := 0, locals := 125 })).room s m ([.ref o] : List Value).toArray below meth c H locs 0 0 (MQ below (tw_Qi D dA o ad A r tZ) ([.ref o] : List Value).toArray s 0 0 A) (F0 m 20 ls []) := by
    intro n
    induction n with
    | zero => intro v20_1 t7 H locs ls hP hS hl hf; exact (tw_no hf).elim
    | succ n ih20 =>
      intro v20_1 t7 H locs ls hP hS hl hf
      obtain ⟨sf20, hs20⟩ : ∃ f, f = tw_lp (fm_stalls_L20) (fun _ _ => none) n := ⟨_, rfl⟩
      rw [← hs20] at ih20
      have hf : fm_stalls_L20 sf20 v20_1 t7 = some (r, tZ) := by rw [hs20]; exact hf
      clear hs20
      unfold fm_stalls_L20 at hf
      refine lv_iload_n hx hb dX6_stalls_20 rfl (lv_at hl 1 rfl) ?_
      refine lv_sipush (v := (300 : Int32)) hx hb dX6_stalls_21 (by decide) ?_
      have k44 : ∀  (t8 : TS) (H : Heap) (locs : List Loc) (ls : Array Slot), tw_P D dA o ad t8 H → va_S A s.heap H locs → lv_has ls 3 [(0, .ref o), (1, .int v20_1)] → fm_stalls_J44 v20_1  t8 = some (r, tZ) → W p l e (headSpec (ws_ yX6_stalls cX6_stalls 3 (some .int)) ({ frames := 6, cells := 0, slots := 0, locals := 125 })).room s m ([.ref o] : List Value).toArray below meth c H locs 0 0 (MQ below (tw_Qi D dA o ad A r tZ) ([.ref o] : List Value).toArray s 0 0 A) (F0 m 44 ls []) := by
        intro t8 H locs ls hP hS hl hf
        unfold fm_stalls_J44 at hf
        refine lv_aload_n hx hb dX6_stalls_44 rfl (lv_at hl 0 rfl) ?_
        obtain ⟨x9, t10, e11, hf⟩ := tw_bdE hf
        refine tw_cVi (As := []) (rest := []) C hml hP hS (mm_isStalled (l := l) (X := X) (D := D) (dA := dA) hD _ _ _ e11) (cwV 0 hts (lw_V q1875 q1877 qs94 q106 q1878) rfl rfl rfl hdX6_isStalled ⟨Nat.le_of_ble_eq_true rfl, Nat.le_of_ble_eq_true rfl⟩) rfl hl.1 rfl (Nat.le_of_ble_eq_true rfl) dX6_stalls_45 (fun H locs hP hS => ?_)
        refine lv_istore_n (lv' := [(2, .int x9), (0, .ref o), (1, .int v20_1)]) hx hb dX6_stalls_48 rfl hl (by decide) rfl (fun ls hl => ?_)
        refine lv_aload_n hx hb dX6_stalls_49 rfl (lv_at hl 1 rfl) ?_
        refine tw_aget (k := 27) C hP (by decide) (by decide) q1403 dX6_stalls_50 ?_
        refine lv_iconst (v := (0 : Int32)) hx hb dX6_stalls_53 (by decide) ?_
        refine lv_aload_n hx hb dX6_stalls_54 rfl (lv_at hl 1 rfl) ?_
        refine tw_aget (k := 26) C hP (by decide) (by decide) q1402 dX6_stalls_55 ?_
        refine lv_iconst (v := (0 : Int32)) hx hb dX6_stalls_58 (by decide) ?_
        obtain ⟨x12, t13, e14, hf⟩ := tw_bdE hf
        refine tw_cSv (As := [.ref (ad 27), .int (0 : Int32), .ref (ad 26), .int (0 : Int32)]) (rest := []) C hml hP hS (mm_copies (l := l) (X := X) (D := D) (dA := dA) hD _ _ _ _ _ _ _ e14) (va_cwS 4 hts (lw_S q1638 q1639 q106 q1640) rfl rfl rfl hdX6_copies ⟨Nat.le_of_ble_eq_true rfl, Nat.le_of_ble_eq_true rfl⟩) rfl hl.1 rfl (Nat.le_of_ble_eq_true rfl) dX6_stalls_59 (fun H locs hP hS => ?_)
        refine lv_iload_n hx hb dX6_stalls_62 rfl (lv_at hl 0 rfl) ?_
        have k72 : ∀ (w72_0 : Int32) (t15 : TS) (H : Heap) (locs : List Loc) (ls : Array Slot), tw_P D dA o ad t15 H → va_S A s.heap H locs → lv_has ls 3 [] → fm_stalls_J72 w72_0 t15 = some (r, tZ) → W p l e (headSpec (ws_ yX6_stalls cX6_stalls 3 (some .int)) ({ frames := 6, cells := 0, slots := 0, locals := 125 })).room s m ([.ref o] : List Value).toArray below meth c H locs 0 0 (MQ below (tw_Qi D dA o ad A r tZ) ([.ref o] : List Value).toArray s 0 0 A) (F0 m 72 ls [.int w72_0]) := by
          intro w72_0 t15 H locs ls hP hS hl hf
          unfold fm_stalls_J72 at hf
          exact tw_ireti (tw_rtE hf).1 (tw_rtE hf).2 C hr hP hS hlk dX6_stalls_72
        refine lv_if_eq (tgt := 70) hx hb dX6_stalls_63 (by decide) (fun hc => ?_) (fun hc => ?_)
        · have hf := tw_ifT hc hf
          refine lv_bipush (v := (-2 : Int32)) hx hb dX6_stalls_70 (by decide) ?_
          exact k72 _ _ _ _ _ hP hS (lv_sub hl [] rfl) hf
        · have hf := tw_ifF hc hf
          refine lv_iload_n hx hb dX6_stalls_66 rfl (lv_at hl 2 rfl) ?_
          refine lv_goto (tgt := 72) hx hb dX6_stalls_67 (by decide) ?_
          exact k72 _ _ _ _ _ hP hS (lv_sub hl [] rfl) hf
      refine lv_icmp_ge (tgt := 44) hx hb dX6_stalls_24 (by decide) (fun hc => ?_) (fun hc => ?_)
      · have hf := tw_ifT hc hf
        exact k44 _ _ _ _ hP hS (lv_sub hl [0, 1] rfl) hf
      · have hf := tw_ifF hc hf
        refine lv_aload_n hx hb dX6_stalls_27 rfl (lv_at hl 0 rfl) ?_
        obtain ⟨x16, t17, e18, hf⟩ := tw_bdE hf
        refine tw_cVi (As := []) (rest := []) C hml hP hS (mm_isStalled (l := l) (X := X) (D := D) (dA := dA) hD _ _ _ e18) (cwV 0 hts (lw_V q1875 q1877 qs94 q106 q1878) rfl rfl rfl hdX6_isStalled ⟨Nat.le_of_ble_eq_true rfl, Nat.le_of_ble_eq_true rfl⟩) rfl hl.1 rfl (Nat.le_of_ble_eq_true rfl) dX6_stalls_28 (fun H locs hP hS => ?_)
        refine lv_if_ne (tgt := 44) hx hb dX6_stalls_31 (by decide) (fun hc => ?_) (fun hc => ?_)
        · have hf := tw_ifF hc hf
          exact k44 _ _ _ _ hP hS (lv_sub hl [0, 1] rfl) hf
        · have hf := tw_ifT hc hf
          refine lv_aload_n hx hb dX6_stalls_34 rfl (lv_at hl 0 rfl) ?_
          obtain ⟨x19, t20, e21, hf⟩ := tw_bdE hf
          refine tw_cVv (As := []) (rest := []) C hml hP hS (mm_tickGoes (l := l) (X := X) (D := D) (dA := dA) hD _ _ _ e21) (cwV 0 hts (lw_V q1657 q1659 qs65 q106 q1660) rfl rfl rfl hdX6_tickGoes ⟨Nat.le_of_ble_eq_true rfl, Nat.le_of_ble_eq_true rfl⟩) rfl hl.1 rfl (Nat.le_of_ble_eq_true rfl) dX6_stalls_35 (fun H locs hP hS => ?_)
          refine lv_iinc (v := (v20_1 + (1 : Int32))) (lv' := [(1, .int (v20_1 + (1 : Int32))), (0, .ref o)]) hx hb dX6_stalls_38 hl (k := 1) rfl rfl (by decide) rfl (fun ls hl => ?_)
          refine lv_goto (tgt := 20) hx hb dX6_stalls_41 (by decide) ?_
          exact ih20 _ _ _ _ _ hP hS (lv_sub hl [1, 0] rfl) hf
  exact k20 _ _ _ _ _ _ hP hS (lv_sub hl [1, 0] rfl) hf