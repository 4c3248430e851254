def fx_X1_common_L6  (sf6 : Int64 → Int64 → HM Int64) (v6_4 : Int64) (v6_6 : Int64) : HM Int64 :=
  if (lg_cmp v6_6 (0 : Int64)) = 0 then (tw_rt v6_4)
  else (tw_bd (tw_nl v6_6) fun _ =>
 
  sf6 v6_6 (v6_4 - v6_4 / v6_6 * v6_6))
def fx_X1_common (a0 : Int64) (a2 : Int64) : HM Int64 :=
  tw_lp (fx_X1_common_L6) (fun _ _ _ => none) tw_fu a0 a2
theorem hdX1_common : (yX1_common.cls ≠ "java/lang/invoke/MethodHandle" ∧ yX1_common.cls ≠ "java/lang/invoke/VarHandle" ∧ (parseMethodDescriptor yX1_common.desc).map (fun d => d.parameters.length) = some 2) := by decide +kernel
set_option maxHeartbeats 4000000 in
theorem mx_X1_common {l : Launch} {K : GK} (hA : gw_A K) (a0 : Int64) (a2 : Int64) (t0 tZ : Hp) (r : Int64) (hf : fx_X1_common a0 a2 t0 = some (r, tZ)) : Met l yX1_common (ws_ yX1_common cX1_common 10 (some (.long))) ({ frames := 2, cells := 0, slots := 0, locals := 12 }) (va_Pc [.long a0, .long a2] (gw_W K t0)) (gw_Ql K r tZ) 0 0 K.2.2.2.1 := by
  refine Met.ofW (cc := cX1_common) (maxL := 10) (ret := some (.long)) (by decide) rfl ?_
  intro p e s m args below meth c s₁ B hml hv
  obtain ⟨rfl, hP, hK, hX, hN, hL⟩ := hv
  have hx := B.exec
  have hb := B.bytes
  have hr := B.returns
  have hts := atoms_spec (ws := (ws_ yX1_common cX1_common 10 (some (.long)))) B.pre
  have hts : ∀ w ∈ lw_all, w.before _ s = true := fun w h => hts w (List.mem_cons_of_mem _ h)
  have hown : s.vm.findClass "LosslessFabric" = some m.cls := findClass_of_methodNamed B.named
  have hlk := B.notSynchronized
  have C : gw_C K "LosslessFabric" p s m _ c cX1_common := ⟨hx, hb, hts, hown, hK, hA, hX, hN, hL⟩
  have hS : va_S K.2.2.2.1 s.heap s.heap [] := va_S.rf
  have hl := lv_entry ([.long a0, .long a2]) (n := 10) (Nat.le_of_ble_eq_true rfl)
  rw [lg_entry_eq]
  generalize (lg_sl ([.long a0, .long a2]) ++ List.replicate (10 - (lg_sl ([.long a0, .long a2])).length) Slot.unset).toArray = ls at hl ⊢
  have hl : lv_has ls 10 [(0, .long a0), (2, .long a2)] := hl
  unfold fx_X1_common at hf
  refine lv_lload_n hx hb dX1_common_0 rfl (lv_at hl 0 rfl) ?_
  refine lv_lstore (lv' := [(4, .long a0), (0, .long a0), (2, .long a2)]) hx hb dX1_common_1 hl (by decide) rfl (fun ls hl => ?_)
  refine lv_lload_n hx hb dX1_common_3 rfl (lv_at hl 2 rfl) ?_
  refine lv_lstore (lv' := [(6, .long a2), (4, .long a0), (0, .long a0), (2, .long a2)]) hx hb dX1_common_4 hl (by decide) rfl (fun ls hl => ?_)
  have k6 : ∀ (n : Nat) (v6_4 : Int64) (v6_6 : Int64) (t1 : Hp) (H : Heap) (locs : List Loc) (ls : Array Slot), gw_P K t1 H → va_S K.2.2.2.1 s.heap H locs → lv_has ls 10 [(4, .long v6_4), (6, .long v6_6)] → tw_lp (fx_X1_common_L6) (fun _ _ _ => none) n v6_4 v6_6 t1 = some (r, tZ) → W p l e (headSpec (ws_ yX1_common cX1_common 10 (some (.long))) ({ frames := 2, cells := 0, slots := 0, locals := 12 })).room s m ([.long a0, .long a2] : List Value).toArray below meth c H locs 0 0 (MQ below (gw_Ql K r tZ) ([.long a0, .long a2] : List Value).toArray s 0 0 K.2.2.2.1) (F0 m 6 ls []) := by
    intro n
    induction n with
    | zero => intro v6_4 v6_6 t1 H locs ls hP hS hl hf; exact (tw_no hf).elim
    | succ n ih6 =>
      intro v6_4 v6_6 t1 H locs ls hP hS hl hf
      obtain ⟨sf6, hs6⟩ : ∃ f, f = tw_lp (fx_X1_common_L6) (fun _ _ _ => none) n := ⟨_, rfl⟩
      rw [← hs6] at ih6
      have hf : fx_X1_common_L6 sf6 v6_4 v6_6 t1 = some (r, tZ) := by rw [hs6]; exact hf
      clear hs6
      unfold fx_X1_common_L6 at hf
      refine lv_lload hx hb dX1_common_6 (lv_at hl 1 rfl) ?_
      refine lv_lconst (v := (0 : Int64)) hx hb dX1_common_8 (by decide) ?_
      refine W.lcmp hx hb dX1_common_9 ?_
      refine lv_if_eq (tgt := 31) hx hb dX1_common_10 (by decide) (fun hc => ?_) (fun hc => ?_)
      · have hf := tw_ifT hc hf
        refine lv_lload hx hb dX1_common_31 (lv_at hl 0 rfl) ?_
        exact gw_iretl (tw_rtE hf).1 (tw_rtE hf).2 rfl rfl C hr hP hS hlk dX1_common_33
      · have hf := tw_ifF hc hf
        refine lv_lload hx hb dX1_common_13 (lv_at hl 0 rfl) ?_
        refine lv_lload hx hb dX1_common_15 (lv_at hl 1 rfl) ?_
        obtain ⟨w2, t3, e4, hf⟩ := tw_bdE hf
        rw [← (tw_nlE e4).2] at hf
        refine lv_lrem hx hb dX1_common_17 (tw_nlE e4).1 ?_
        refine lv_lstore (lv' := [(8, .long (v6_4 - v6_4 / v6_6 * v6_6)), (4, .long v6_4), (6, .long v6_6)]) hx hb dX1_common_18 hl (by decide) rfl (fun ls hl => ?_)
        refine lv_lload hx hb dX1_common_20 (lv_at hl 2 rfl) ?_
        refine lv_lstore (lv' := [(4, .long v6_6), (8, .long (v6_4 - v6_4 / v6_6 * v6_6)), (6, .long v6_6)]) hx hb dX1_common_22 hl (by decide) rfl (fun ls hl => ?_)
        refine lv_lload hx hb dX1_common_24 (lv_at hl 1 rfl) ?_
        refine lv_lstore (lv' := [(6, .long (v6_4 - v6_4 / v6_6 * v6_6)), (4, .long v6_6), (8, .long (v6_4 - v6_4 / v6_6 * v6_6))]) hx hb dX1_common_26 hl (by decide) rfl (fun ls hl => ?_)
        refine lv_goto (tgt := 6) hx hb dX1_common_28 (by decide) ?_
        exact ih6 _ _ _ _ _ _ hP hS (lv_sub hl [1, 0] rfl) hf
  exact k6 _ _ _ _ _ _ _ hP hS (lv_sub hl [1, 0] rfl) hf
def fx_X1_count_J84 (a0 : Nat) (a1 : Int32)  : HM Int32 :=
  tw_bd (gw_gr 0 11 a0) fun x2 =>
  tw_bd (gw_on 2 x2 (fx_X3_all x2 (a1 - (3 : Int32)))) fun x5 =>
  tw_rt x5
def fx_X1_count_J129 (sf97 : Int32 → Int32 → HM Int32) (v97_2 : Int32) (v97_3 : Int32) (w129_0 : Int32) : HM Int32 :=
  sf97 (v97_2 + w129_0) (v97_3 + (1 : Int32))
def fx_X1_count_L97 (a0 : Nat) (sf97 : Int32 → Int32 → HM Int32) (v97_2 : Int32) (v97_3 : Int32) : HM Int32 :=
  tw_bd (gw_gr 0 4 a0) fun x35 =>
  tw_bd (gw_gi 1 3 x35) fun x38 =>
  if x38 ≤ v97_3 then (tw_rt v97_2)
  else (tw_bd (gw_gr 0 11 a0) fun x41 =>
  tw_bd (gw_gr 2 3 x41) fun x44 =>
  tw_bd (gw_lr 7 x44 v97_3) fun x47 =>
  tw_bd (gw_gi 4 11 x47) fun x50 =>
  if x50 = 0 then (fx_X1_count_J129 sf97 v97_2 v97_3 (0 : Int32))
  else (fx_X1_count_J129 sf97 v97_2 v97_3 (1 : Int32)))
def fx_X1_count_J173 (sf141 : Int32 → Int32 → HM Int32) (v141_2 : Int32) (v141_3 : Int32) (w173_0 : Int32) : HM Int32 :=
  sf141 (v141_2 + w173_0) (v141_3 + (1 : Int32))
def fx_X1_count_L141 (a0 : Nat) (sf141 : Int32 → Int32 → HM Int32) (v141_2 : Int32) (v141_3 : Int32) : HM Int32 :=
  tw_bd (gw_gr 0 4 a0) fun x56 =>
  tw_bd (gw_gi 1 2 x56) fun x59 =>
  if x59 ≤ v141_3 then (tw_rt v141_2)
  else (tw_bd (gw_gr 0 11 a0) fun x62 =>
  tw_bd (gw_gr 2 2 x62) fun x65 =>
  tw_bd (gw_lr 6 x65 v141_3) fun x68 =>
  tw_bd (gw_on 3 x68 (fx_X4_asksPause x68)) fun x71 =>
  if x71 = 0 then (fx_X1_count_J173 sf141 v141_2 v141_3 (0 : Int32))
  else (fx_X1_count_J173 sf141 v141_2 v141_3 (1 : Int32)))
def fx_X1_count (a0 : Nat) (a1 : Int32) : HM Int32 :=
  if a1 = (0 : Int32) then (tw_bd (gw_gr 0 4 a0) fun x9 =>
  tw_bd (gw_gi 1 2 x9) fun x12 =>
  tw_rt x12)
  else if a1 = (1 : Int32) then (tw_bd (gw_gr 0 4 a0) fun x16 =>
  tw_bd (gw_gi 1 3 x16) fun x19 =>
  tw_rt x19)
  else if a1 = (2 : Int32) then (tw_bd (gw_gr 0 11 a0) fun x23 =>
  tw_bd (gw_gi 2 1 x23) fun x26 =>
  tw_rt x26)
  else if a1 = (3 : Int32) then (fx_X1_count_J84 a0 a1)
  else if a1 = (4 : Int32) then (fx_X1_count_J84 a0 a1)
  else if a1 = (5 : Int32) then (fx_X1_count_J84 a0 a1)
  else if a1 = (6 : Int32) then (fx_X1_count_J84 a0 a1)
  else if a1 = (7 : Int32) then (tw_lp (fx_X1_count_L97 a0) (fun _ _ _ => none) tw_fu (0 : Int32) (0 : Int32))
  else if a1 = (8 : Int32) then (tw_lp (fx_X1_count_L141 a0) (fun _ _ _ => none) tw_fu (0 : Int32) (0 : Int32))
  else if a1 = (9 : Int32) then (tw_bd (gw_gi 0 15 a0) fun x76 =>
  tw_rt x76)
  else if a1 = (10 : Int32) then (tw_bd (gw_gi 0 1 a0) fun x80 =>
  tw_rt x80)
  else (tw_rt (-1 : Int32))
theorem hdX1_count : yX1_count.cls = "LosslessFabric" ∧ (yX1_count.cls ≠ "java/lang/invoke/MethodHandle" ∧ yX1_count.cls ≠ "java/lang/invoke/VarHandle" ∧ (parseMethodDescriptor yX1_count.desc).map (fun d => d.parameters.length) = some 1) := by decide +kernel
set_option maxHeartbeats 4000000 in
theorem mx_X1_count {l : Launch} {K : GK} (hA : gw_A K) (a0 : Nat) (a1 : Int32) (t0 tZ : Hp) (r : Int32) (hf : fx_X1_count a0 a1 t0 = some (r, tZ)) : Met l yX1_count (ws_ yX1_count cX1_count 4 (some (.int))) ({ frames := 3, cells := 0, slots := 0, locals := 36 }) (va_Pc [.ref a0, .int a1] (gw_W K t0)) (gw_Qi K r tZ) 0 0 K.2.2.2.1 := by
  refine Met.ofW (cc := cX1_count) (maxL := 4) (ret := some (.int)) (by decide) rfl ?_
  intro p e s m args below meth c s₁ B hml hv
  obtain ⟨rfl, hP, hK, hX, hN, hL⟩ := hv
  have hx := B.exec
  have hb := B.bytes
  have hr := B.returns
  have hts := atoms_spec (ws := (ws_ yX1_count cX1_count 4 (some (.int)))) B.pre
  have hts : ∀ w ∈ lw_all, w.before _ s = true := fun w h => hts w (List.mem_cons_of_mem _ h)
  have hown : s.vm.findClass "LosslessFabric" = some m.cls := findClass_of_methodNamed B.named
  have hlk := B.notSynchronized
  have C : gw_C K "LosslessFabric" p s m _ c cX1_count := ⟨hx, hb, hts, hown, hK, hA, hX, hN, hL⟩
  have hS : va_S K.2.2.2.1 s.heap s.heap [] := va_S.rf
  have hl := lv_entry ([.ref a0, .int a1]) (n := 4) (Nat.le_of_ble_eq_true rfl)
  rw [lg_entry_eq]
  generalize (lg_sl ([.ref a0, .int a1]) ++ List.replicate (4 - (lg_sl ([.ref a0, .int a1])).length) Slot.unset).toArray = ls at hl ⊢
  have hl : lv_has ls 4 [(0, .ref a0), (1, .int a1)] := hl
  unfold fx_X1_count at hf
  refine lv_iconst (v := (0 : Int32)) hx hb dX1_count_0 (by decide) ?_
  refine lv_istore_n (lv' := [(2, .int (0 : Int32)), (0, .ref a0), (1, .int a1)]) hx hb dX1_count_1 rfl hl (by decide) rfl (fun ls hl => ?_)
  refine lv_iload_n hx hb dX1_count_2 rfl (lv_at hl 2 rfl) ?_
  have k84 : ∀  (t1 : Hp) (H : Heap) (locs : List Loc) (ls : Array Slot), gw_P K t1 H → va_S K.2.2.2.1 s.heap H locs → lv_has ls 4 [(0, .ref a0), (1, .int a1)] → fx_X1_count_J84 a0 a1  t1 = some (r, tZ) → W p l e (headSpec (ws_ yX1_count cX1_count 4 (some (.int))) ({ frames := 3, cells := 0, slots := 0, locals := 36 })).room s m ([.ref a0, .int a1] : List Value).toArray below meth c H locs 0 0 (MQ below (gw_Qi K r tZ) ([.ref a0, .int a1] : List Value).toArray s 0 0 K.2.2.2.1) (F0 m 84 ls []) := by
    intro t1 H locs ls hP hS hl hf
    unfold fx_X1_count_J84 at hf
    refine lv_aload_n hx hb dX1_count_84 rfl (lv_at hl 0 rfl) ?_
    obtain ⟨x2, t3, e4, hf⟩ := tw_bdE hf
    refine gw_rget (ci := 0) (k := 11) (T := TX1) C hP rfl in_X1 (by decide) e4 q404 rfl dX1_count_85 (fun hP => ?_)
    refine lv_iload_n hx hb dX1_count_88 rfl (lv_at hl 1 rfl) ?_
    refine lv_iconst (v := (3 : Int32)) hx hb dX1_count_89 (by decide) ?_
    refine lv_isub hx hb dX1_count_90 ?_
    obtain ⟨x5, t6, e7, hf⟩ := tw_bdE hf
    refine gw_cVi (As := [.int (a1 - (3 : Int32))]) (rest := []) (ci := 2) (T := TX3) (N := 4) C hml hP hS rfl (gw_onE e7).1 (mx_X3_all (l := l) (K := K) hA _ _ _ _ _ (gw_onE e7).2) (cwV 1 hts (lw_V q1236 q1237 q1238 q103 q1239) rfl rfl rfl hdX3_all ⟨Nat.le_of_ble_eq_true rfl, Nat.le_of_ble_eq_true rfl⟩) rfl hl.1 rfl (Nat.le_of_ble_eq_true rfl) (Nat.zero_le _) (Nat.zero_le _) dX1_count_91 (fun H locs hP hS => ?_)
    exact gw_ireti (tw_rtE hf).1 (tw_rtE hf).2 rfl rfl C hr hP hS hlk dX1_count_94
  by_cases c8 : a1 = (0 : Int32)
  · have hf := tw_ifT c8 hf
    refine lv_tableIn (tgt := 60) hx hb dX1_count_3 (by rw [c8]; decide) (by rw [c8]; decide) (by rw [c8]; rfl) (by decide) ?_
    refine lv_aload_n hx hb dX1_count_60 rfl (lv_at hl 1 rfl) ?_
    obtain ⟨x9, t10, e11, hf⟩ := tw_bdE hf
    refine gw_rget (ci := 0) (k := 4) (T := TX1) C hP rfl in_X1 (by decide) e11 q394 rfl dX1_count_61 (fun hP => ?_)
    obtain ⟨x12, t13, e14, hf⟩ := tw_bdE hf
    refine gw_igetN (ci := 1) (k := 2) (T := TX2) C hP rfl in_X2 (by decide) e14 q160 rfl dX1_count_64 (fun hP => ?_)
    exact gw_ireti (tw_rtE hf).1 (tw_rtE hf).2 rfl rfl C hr hP hS hlk dX1_count_67
  have hf := tw_ifF c8 hf
  by_cases c15 : a1 = (1 : Int32)
  · have hf := tw_ifT c15 hf
    refine lv_tableIn (tgt := 68) hx hb dX1_count_3 (by rw [c15]; decide) (by rw [c15]; decide) (by rw [c15]; rfl) (by decide) ?_
    refine lv_aload_n hx hb dX1_count_68 rfl (lv_at hl 1 rfl) ?_
    obtain ⟨x16, t17, e18, hf⟩ := tw_bdE hf
    refine gw_rget (ci := 0) (k := 4) (T := TX1) C hP rfl in_X1 (by decide) e18 q394 rfl dX1_count_69 (fun hP => ?_)
    obtain ⟨x19, t20, e21, hf⟩ := tw_bdE hf
    refine gw_igetN (ci := 1) (k := 3) (T := TX2) C hP rfl in_X2 (by decide) e21 q165 rfl dX1_count_72 (fun hP => ?_)
    exact gw_ireti (tw_rtE hf).1 (tw_rtE hf).2 rfl rfl C hr hP hS hlk dX1_count_75
  have hf := tw_ifF c15 hf
  by_cases c22 : a1 = (2 : Int32)
  · have hf := tw_ifT c22 hf
    refine lv_tableIn (tgt := 76) hx hb dX1_count_3 (by rw [c22]; decide) (by rw [c22]; decide) (by rw [c22]; rfl) (by decide) ?_
    refine lv_aload_n hx hb dX1_count_76 rfl (lv_at hl 1 rfl) ?_
    obtain ⟨x23, t24, e25, hf⟩ := tw_bdE hf
    refine gw_rget (ci := 0) (k := 11) (T := TX1) C hP rfl in_X1 (by decide) e25 q404 rfl dX1_count_77 (fun hP => ?_)
    obtain ⟨x26, t27, e28, hf⟩ := tw_bdE hf
    refine gw_igetN (ci := 2) (k := 1) (T := TX3) C hP rfl in_X3 (by decide) e28 q353 rfl dX1_count_80 (fun hP => ?_)
    exact gw_ireti (tw_rtE hf).1 (tw_rtE hf).2 rfl rfl C hr hP hS hlk dX1_count_83
  have hf := tw_ifF c22 hf
  by_cases c29 : a1 = (3 : Int32)
  · have hf := tw_ifT c29 hf
    refine lv_tableIn (tgt := 84) hx hb dX1_count_3 (by rw [c29]; decide) (by rw [c29]; decide) (by rw [c29]; rfl) (by decide) ?_
    exact k84 _ _ _ _ hP hS (lv_sub hl [1, 2] rfl) hf
  have hf := tw_ifF c29 hf
  by_cases c30 : a1 = (4 : Int32)
  · have hf := tw_ifT c30 hf
    refine lv_tableIn (tgt := 84) hx hb dX1_count_3 (by rw [c30]; decide) (by rw [c30]; decide) (by rw [c30]; rfl) (by decide) ?_
    exact k84 _ _ _ _ hP hS (lv_sub hl [1, 2] rfl) hf
  have hf := tw_ifF c30 hf
  by_cases c31 : a1 = (5 : Int32)
  · have hf := tw_ifT c31 hf
    refine lv_tableIn (tgt := 84) hx hb dX1_count_3 (by rw [c31]; decide) (by rw [c31]; decide) (by rw [c31]; rfl) (by decide) ?_
    exact k84 _ _ _ _ hP hS (lv_sub hl [1, 2] rfl) hf
  have hf := tw_ifF c31 hf
  by_cases c32 : a1 = (6 : Int32)
  · have hf := tw_ifT c32 hf
    refine lv_tableIn (tgt := 84) hx hb dX1_count_3 (by rw [c32]; decide) (by rw [c32]; decide) (by rw [c32]; rfl) (by decide) ?_
    exact k84 _ _ _ _ hP hS (lv_sub hl [1, 2] rfl) hf
  have hf := tw_ifF c32 hf
  by_cases c33 : a1 = (7 : Int32)
  · have hf := tw_ifT c33 hf
    refine lv_tableIn (tgt := 95) hx hb dX1_count_3 (by rw [c33]; decide) (by rw [c33]; decide) (by rw [c33]; rfl) (by decide) ?_
    refine lv_iconst (v := (0 : Int32)) hx hb dX1_count_95 (by decide) ?_
    refine lv_istore_n (lv' := [(3, .int (0 : Int32)), (2, .int (0 : Int32)), (0, .ref a0), (1, .int a1)]) hx hb dX1_count_96 rfl hl (by decide) rfl (fun ls hl => ?_)
    have k97 : ∀ (n : Nat) (v97_2 : Int32) (v97_3 : Int32) (t34 : Hp) (H : Heap) (locs : List Loc) (ls : Array Slot), gw_P K t34 H → va_S K.2.2.2.1 s.heap H locs → lv_has ls 4 [(0, .ref a0), (2, .int v97_2), (3, .int v97_3)] → tw_lp (fx_X1_count_L97 a0) (fun _ _ _ => none) n v97_2 v97_3 t34 = some (r, tZ) → W p l e (headSpec (ws_ yX1_count cX1_count 4 (some (.int))) ({ frames := 3, cells := 0, slots := 0, locals := 36 })).room s m ([.ref a0, .int a1] : List Value).toArray below meth c H locs 0 0 (MQ below (gw_Qi K r tZ) ([.ref a0, .int a1] : List Value).toArray s 0 0 K.2.2.2.1) (F0 m 97 ls []) := by
      intro n
      induction n with
      | zero => intro v97_2 v97_3 t34 H locs ls hP hS hl hf; exact (tw_no hf).elim
      | succ n ih97 =>
        intro v97_2 v97_3 t34 H locs ls hP hS hl hf
        obtain ⟨sf97, hs97⟩ : ∃ f, f = tw_lp (fx_X1_count_L97 a0) (fun _ _ _ => none) n := ⟨_, rfl⟩
        rw [← hs97] at ih97
        have hf : fx_X1_count_L97 a0 sf97 v97_2 v97_3 t34 = some (r, tZ) := by rw [hs97]; exact hf
        clear hs97
        unfold fx_X1_count_L97 at hf
        refine lv_iload_n hx hb dX1_count_97 rfl (lv_at hl 2 rfl) ?_
        refine lv_aload_n hx hb dX1_count_98 rfl (lv_at hl 0 rfl) ?_
        obtain ⟨x35, t36, e37, hf⟩ := tw_bdE hf
        refine gw_rget (ci := 0) (k := 4) (T := TX1) C hP rfl in_X1 (by decide) e37 q394 rfl dX1_count_99 (fun hP => ?_)
        obtain ⟨x38, t39, e40, hf⟩ := tw_bdE hf
        refine gw_igetN (ci := 1) (k := 3) (T := TX2) C hP rfl in_X2 (by decide) e40 q165 rfl dX1_count_102 (fun hP => ?_)
        refine lv_icmp_ge (tgt := 137) hx hb dX1_count_105 (by decide) (fun hc => ?_) (fun hc => ?_)
        · have hf := tw_ifT hc hf
          refine lv_iload_n hx hb dX1_count_137 rfl (lv_at hl 1 rfl) ?_
          exact gw_ireti (tw_rtE hf).1 (tw_rtE hf).2 rfl rfl C hr hP hS hlk dX1_count_138
        · have hf := tw_ifF hc hf
          refine lv_iload_n hx hb dX1_count_108 rfl (lv_at hl 1 rfl) ?_
          refine lv_aload_n hx hb dX1_count_109 rfl (lv_at hl 0 rfl) ?_
          obtain ⟨x41, t42, e43, hf⟩ := tw_bdE hf
          refine gw_rget (ci := 0) (k := 11) (T := TX1) C hP rfl in_X1 (by decide) e43 q404 rfl dX1_count_110 (fun hP => ?_)
          obtain ⟨x44, t45, e46, hf⟩ := tw_bdE hf
          refine gw_rgetN (ci := 2) (k := 3) (T := TX3) C hP rfl in_X3 (by decide) e46 q358 rfl dX1_count_113 (fun hP => ?_)
          refine lv_iload_n hx hb dX1_count_116 rfl (lv_at hl 2 rfl) ?_
          obtain ⟨x47, t48, e49, hf⟩ := tw_bdE hf
          refine gw_aald C hP rfl e49 dX1_count_117 (fun hP => ?_)
          obtain ⟨x50, t51, e52, hf⟩ := tw_bdE hf
          refine gw_igetN (ci := 4) (k := 11) (T := TX5) C hP rfl in_X5 (by decide) e52 q325 rfl dX1_count_118 (fun hP => ?_)
          have k129 : ∀ (w129_0 : Int32) (t53 : Hp) (H : Heap) (locs : List Loc) (ls : Array Slot), gw_P K t53 H → va_S K.2.2.2.1 s.heap H locs → lv_has ls 4 [(0, .ref a0), (3, .int v97_3)] → fx_X1_count_J129 sf97 v97_2 v97_3 w129_0 t53 = some (r, tZ) → W p l e (headSpec (ws_ yX1_count cX1_count 4 (some (.int))) ({ frames := 3, cells := 0, slots := 0, locals := 36 })).room s m ([.ref a0, .int a1] : List Value).toArray below meth c H locs 0 0 (MQ below (gw_Qi K r tZ) ([.ref a0, .int a1] : List Value).toArray s 0 0 K.2.2.2.1) (F0 m 129 ls [.int w129_0, .int v97_2]) := by
            intro w129_0 t53 H locs ls hP hS hl hf
            unfold fx_X1_count_J129 at hf
            refine lv_iadd hx hb dX1_count_129 ?_
            refine lv_istore_n (lv' := [(2, .int (v97_2 + w129_0)), (0, .ref a0), (3, .int v97_3)]) hx hb dX1_count_130 rfl hl (by decide) rfl (fun ls hl => ?_)
            refine lv_iinc (v := (v97_3 + (1 : Int32))) (lv' := [(3, .int (v97_3 + (1 : Int32))), (2, .int (v97_2 + w129_0)), (0, .ref a0)]) hx hb dX1_count_131 hl (k := 2) rfl rfl (by decide) rfl (fun ls hl => ?_)
            refine lv_goto (tgt := 97) hx hb dX1_count_134 (by decide) ?_
            exact ih97 _ _ _ _ _ _ hP hS (lv_sub hl [2, 1, 0] rfl) hf
          refine lv_if_eq (tgt := 128) hx hb dX1_count_121 (by decide) (fun hc => ?_) (fun hc => ?_)
          · have hf := tw_ifT hc hf
            refine lv_iconst (v := (0 : Int32)) hx hb dX1_count_128 (by decide) ?_
            exact k129 _ _ _ _ _ hP hS (lv_sub hl [0, 2] rfl) hf
          · have hf := tw_ifF hc hf
            refine lv_iconst (v := (1 : Int32)) hx hb dX1_count_124 (by decide) ?_
            refine lv_goto (tgt := 129) hx hb dX1_count_125 (by decide) ?_
            exact k129 _ _ _ _ _ hP hS (lv_sub hl [0, 2] rfl) hf
    exact k97 _ _ _ _ _ _ _ hP hS (lv_sub hl [2, 1, 0] rfl) hf
  have hf := tw_ifF c33 hf
  by_cases c54 : a1 = (8 : Int32)
  · have hf := tw_ifT c54 hf
    refine lv_tableIn (tgt := 139) hx hb dX1_count_3 (by rw [c54]; decide) (by rw [c54]; decide) (by rw [c54]; rfl) (by decide) ?_
    refine lv_iconst (v := (0 : Int32)) hx hb dX1_count_139 (by decide) ?_
    refine lv_istore_n (lv' := [(3, .int (0 : Int32)), (2, .int (0 : Int32)), (0, .ref a0), (1, .int a1)]) hx hb dX1_count_140 rfl hl (by decide) rfl (fun ls hl => ?_)
    have k141 : ∀ (n : Nat) (v141_2 : Int32) (v141_3 : Int32) (t55 : Hp) (H : Heap) (locs : List Loc) (ls : Array Slot), gw_P K t55 H → va_S K.2.2.2.1 s.heap H locs → lv_has ls 4 [(0, .ref a0), (2, .int v141_2), (3, .int v141_3)] → tw_lp (fx_X1_count_L141 a0) (fun _ _ _ => none) n v141_2 v141_3 t55 = some (r, tZ) → W p l e (headSpec (ws_ yX1_count cX1_count 4 (some (.int))) ({ frames := 3, cells := 0, slots := 0, locals := 36 })).room s m ([.ref a0, .int a1] : List Value).toArray below meth c H locs 0 0 (MQ below (gw_Qi K r tZ) ([.ref a0, .int a1] : List Value).toArray s 0 0 K.2.2.2.1) (F0 m 141 ls []) := by
      intro n
      induction n with
      | zero => intro v141_2 v141_3 t55 H locs ls hP hS hl hf; exact (tw_no hf).elim
      | succ n ih141 =>
        intro v141_2 v141_3 t55 H locs ls hP hS hl hf
        obtain ⟨sf141, hs141⟩ : ∃ f, f = tw_lp (fx_X1_count_L141 a0) (fun _ _ _ => none) n := ⟨_, rfl⟩
        rw [← hs141] at ih141
        have hf : fx_X1_count_L141 a0 sf141 v141_2 v141_3 t55 = some (r, tZ) := by rw [hs141]; exact hf
        clear hs141
        unfold fx_X1_count_L141 at hf
        refine lv_iload_n hx hb dX1_count_141 rfl (lv_at hl 2 rfl) ?_
        refine lv_aload_n hx hb dX1_count_142 rfl (lv_at hl 0 rfl) ?_
        obtain ⟨x56, t57, e58, hf⟩ := tw_bdE hf
        refine gw_rget (ci := 0) (k := 4) (T := TX1) C hP rfl in_X1 (by decide) e58 q394 rfl dX1_count_143 (fun hP => ?_)
        obtain ⟨x59, t60, e61, hf⟩ := tw_bdE hf
        refine gw_igetN (ci := 1) (k := 2) (T := TX2) C hP rfl in_X2 (by decide) e61 q160 rfl dX1_count_146 (fun hP => ?_)
        refine lv_icmp_ge (tgt := 181) hx hb dX1_count_149 (by decide) (fun hc => ?_) (fun hc => ?_)
        · have hf := tw_ifT hc hf
          refine lv_iload_n hx hb dX1_count_181 rfl (lv_at hl 1 rfl) ?_
          exact gw_ireti (tw_rtE hf).1 (tw_rtE hf).2 rfl rfl C hr hP hS hlk dX1_count_182
        · have hf := tw_ifF hc hf
          refine lv_iload_n hx hb dX1_count_152 rfl (lv_at hl 1 rfl) ?_
          refine lv_aload_n hx hb dX1_count_153 rfl (lv_at hl 0 rfl) ?_
          obtain ⟨x62, t63, e64, hf⟩ := tw_bdE hf
          refine gw_rget (ci := 0) (k := 11) (T := TX1) C hP rfl in_X1 (by decide) e64 q404 rfl dX1_count_154 (fun hP => ?_)
          obtain ⟨x65, t66, e67, hf⟩ := tw_bdE hf
          refine gw_rgetN (ci := 2) (k := 2) (T := TX3) C hP rfl in_X3 (by decide) e67 q355 rfl dX1_count_157 (fun hP => ?_)
          refine lv_iload_n hx hb dX1_count_160 rfl (lv_at hl 2 rfl) ?_
          obtain ⟨x68, t69, e70, hf⟩ := tw_bdE hf
          refine gw_aald C hP rfl e70 dX1_count_161 (fun hP => ?_)
          obtain ⟨x71, t72, e73, hf⟩ := tw_bdE hf
          refine gw_cVi (As := []) (rest := [.int v141_2]) (ci := 3) (T := TX4) (N := 12) C hml hP hS rfl (gw_onE e73).1 (mx_X4_asksPause (l := l) (K := K) hA _ _ _ _ (gw_onE e73).2) (cwV 0 hts (lw_V q1263 q1026 q1027 q104 q1028) rfl rfl rfl hdX4_asksPause ⟨Nat.le_of_ble_eq_true rfl, Nat.le_of_ble_eq_true rfl⟩) rfl hl.1 rfl (Nat.le_of_ble_eq_true rfl) (Nat.zero_le _) (Nat.zero_le _) dX1_count_162 (fun H locs hP hS => ?_)
          have k173 : ∀ (w173_0 : Int32) (t74 : Hp) (H : Heap) (locs : List Loc) (ls : Array Slot), gw_P K t74 H → va_S K.2.2.2.1 s.heap H locs → lv_has ls 4 [(0, .ref a0), (3, .int v141_3)] → fx_X1_count_J173 sf141 v141_2 v141_3 w173_0 t74 = some (r, tZ) → W p l e (headSpec (ws_ yX1_count cX1_count 4 (some (.int))) ({ frames := 3, cells := 0, slots := 0, locals := 36 })).room s m ([.ref a0, .int a1] : List Value).toArray below meth c H locs 0 0 (MQ below (gw_Qi K r tZ) ([.ref a0, .int a1] : List Value).toArray s 0 0 K.2.2.2.1) (F0 m 173 ls [.int w173_0, .int v141_2]) := by
            intro w173_0 t74 H locs ls hP hS hl hf
            unfold fx_X1_count_J173 at hf
            refine lv_iadd hx hb dX1_count_173 ?_
            refine lv_istore_n (lv' := [(2, .int (v141_2 + w173_0)), (0, .ref a0), (3, .int v141_3)]) hx hb dX1_count_174 rfl hl (by decide) rfl (fun ls hl => ?_)
            refine lv_iinc (v := (v141_3 + (1 : Int32))) (lv' := [(3, .int (v141_3 + (1 : Int32))), (2, .int (v141_2 + w173_0)), (0, .ref a0)]) hx hb dX1_count_175 hl (k := 2) rfl rfl (by decide) rfl (fun ls hl => ?_)
            refine lv_goto (tgt := 141) hx hb dX1_count_178 (by decide) ?_
            exact ih141 _ _ _ _ _ _ hP hS (lv_sub hl [2, 1, 0] rfl) hf
          refine lv_if_eq (tgt := 172) hx hb dX1_count_165 (by decide) (fun hc => ?_) (fun hc => ?_)
          · have hf := tw_ifT hc hf
            refine lv_iconst (v := (0 : Int32)) hx hb dX1_count_172 (by decide) ?_
            exact k173 _ _ _ _ _ hP hS (lv_sub hl [0, 2] rfl) hf
          · have hf := tw_ifF hc hf
            refine lv_iconst (v := (1 : Int32)) hx hb dX1_count_168 (by decide) ?_
            refine lv_goto (tgt := 173) hx hb dX1_count_169 (by decide) ?_
            exact k173 _ _ _ _ _ hP hS (lv_sub hl [0, 2] rfl) hf
    exact k141 _ _ _ _ _ _ _ hP hS (lv_sub hl [2, 1, 0] rfl) hf
  have hf := tw_ifF c54 hf
  by_cases c75 : a1 = (9 : Int32)
  · have hf := tw_ifT c75 hf
    refine lv_tableIn (tgt := 183) hx hb dX1_count_3 (by rw [c75]; decide) (by rw [c75]; decide) (by rw [c75]; rfl) (by decide) ?_
    refine lv_aload_n hx hb dX1_count_183 rfl (lv_at hl 1 rfl) ?_
    obtain ⟨x76, t77, e78, hf⟩ := tw_bdE hf
    refine gw_iget (ci := 0) (k := 15) (T := TX1) C hP rfl in_X1 (by decide) e78 q408 rfl dX1_count_184 (fun hP => ?_)
    exact gw_ireti (tw_rtE hf).1 (tw_rtE hf).2 rfl rfl C hr hP hS hlk dX1_count_187
  have hf := tw_ifF c75 hf
  by_cases c79 : a1 = (10 : Int32)
  · have hf := tw_ifT c79 hf
    refine lv_tableIn (tgt := 188) hx hb dX1_count_3 (by rw [c79]; decide) (by rw [c79]; decide) (by rw [c79]; rfl) (by decide) ?_
    refine lv_aload_n hx hb dX1_count_188 rfl (lv_at hl 1 rfl) ?_
    obtain ⟨x80, t81, e82, hf⟩ := tw_bdE hf
    refine gw_iget (ci := 0) (k := 1) (T := TX1) C hP rfl in_X1 (by decide) e82 q391 rfl dX1_count_189 (fun hP => ?_)
    exact gw_ireti (tw_rtE hf).1 (tw_rtE hf).2 rfl rfl C hr hP hS hlk dX1_count_192
  have hf := tw_ifF c79 hf
  refine lv_tableOut (tgt := 193) hx hb dX1_count_3 (tw_swo 10 (fun i hi => by match i, hi with | 0, _ => exact c8 | 1, _ => exact c15 | 2, _ => exact c22 | 3, _ => exact c29 | 4, _ => exact c30 | 5, _ => exact c31 | 6, _ => exact c32 | 7, _ => exact c33 | 8, _ => exact c54 | 9, _ => exact c75 | 10, _ => exact c79 | i + 11, h => exact absurd h (by omega))) (by decide) ?_
  refine lv_iconst (v := (-1 : Int32)) hx hb dX1_count_193 (by decide) ?_
  exact gw_ireti (tw_rtE hf).1 (tw_rtE hf).2 rfl rfl C hr hP hS hlk dX1_count_194
def fx_J12_numberOfTrailingZeros_J74  (v74_0 : Int32) (v74_1 : Int32) : HM Int32 :=
  tw_rt (v74_1 + (((v74_0).toUInt32 >>> (((1 : Int32)).toUInt32 &&& Int32.toUInt32 31)).toInt32))
def fx_J12_numberOfTrailingZeros_J62  (v62_0 : Int32) (v62_1 : Int32) : HM Int32 :=
  if v62_0 ≤ (4 : Int32) then (fx_J12_numberOfTrailingZeros_J74 v62_0 v62_1)
  else (fx_J12_numberOfTrailingZeros_J74 (((v62_0).toUInt32 >>> (((2 : Int32)).toUInt32 &&& Int32.toUInt32 31)).toInt32) (v62_1 + (2 : Int32)))
def fx_J12_numberOfTrailingZeros_J49  (v49_0 : Int32) (v49_1 : Int32) : HM Int32 :=
  if v49_0 ≤ (16 : Int32) then (fx_J12_numberOfTrailingZeros_J62 v49_0 v49_1)
  else (fx_J12_numberOfTrailingZeros_J62 (((v49_0).toUInt32 >>> (((4 : Int32)).toUInt32 &&& Int32.toUInt32 31)).toInt32) (v49_1 + (4 : Int32)))
def fx_J12_numberOfTrailingZeros_J34  (v34_0 : Int32) (v34_1 : Int32) : HM Int32 :=
  if v34_0 ≤ (256 : Int32) then (fx_J12_numberOfTrailingZeros_J49 v34_0 v34_1)
  else (fx_J12_numberOfTrailingZeros_J49 (((v34_0).toUInt32 >>> (((8 : Int32)).toUInt32 &&& Int32.toUInt32 31)).toInt32) (v34_1 + (8 : Int32)))
def fx_J12_numberOfTrailingZeros (a0 : Int32) : HM Int32 :=
  if 0 < ((a0 ^^^ (-1 : Int32)) &&& (a0 - (1 : Int32))) then (if ((a0 ^^^ (-1 : Int32)) &&& (a0 - (1 : Int32))) ≤ (65536 : Int32) then (fx_J12_numberOfTrailingZeros_J34 ((a0 ^^^ (-1 : Int32)) &&& (a0 - (1 : Int32))) (1 : Int32))
  else (fx_J12_numberOfTrailingZeros_J34 (((((a0 ^^^ (-1 : Int32)) &&& (a0 - (1 : Int32)))).toUInt32 >>> (((16 : Int32)).toUInt32 &&& Int32.toUInt32 31)).toInt32) ((1 : Int32) + (16 : Int32))))
  else (tw_rt (((a0 ^^^ (-1 : Int32)) &&& (a0 - (1 : Int32))) &&& (32 : Int32)))
theorem hdJ12_numberOfTrailingZeros : (yJ12_numberOfTrailingZeros.cls ≠ "java/lang/invoke/MethodHandle" ∧ yJ12_numberOfTrailingZeros.cls ≠ "java/lang/invoke/VarHandle" ∧ (parseMethodDescriptor yJ12_numberOfTrailingZeros.desc).map (fun d => d.parameters.length) = some 1) := by decide +kernel
set_option maxHeartbeats 4000000 in
theorem mx_J12_numberOfTrailingZeros {l : Launch} {K : GK} (hA : gw_A K) (a0 : Int32) (t0 tZ : Hp) (r : Int32) (hf : fx_J12_numberOfTrailingZeros a0 t0 = some (r, tZ)) : Met l yJ12_numberOfTrailingZeros (ws_ yJ12_numberOfTrailingZeros cJ12_numberOfTrailingZeros 2 (some (.int))) ({ frames := 2, cells := 0, slots := 0, locals := 12 }) (va_Pc [.int a0] (gw_W K t0)) (gw_Qi K r tZ) 0 0 K.2.2.2.1 := by
  refine Met.ofW (cc := cJ12_numberOfTrailingZeros) (maxL := 2) (ret := some (.int)) (by decide) rfl ?_
  intro p e s m args below meth c s₁ B hml hv
  obtain ⟨rfl, hP, hK, hX, hN, hL⟩ := hv
  have hx := B.exec
  have hb := B.bytes
  have hr := B.returns
  have hts := atoms_spec (ws := (ws_ yJ12_numberOfTrailingZeros cJ12_numberOfTrailingZeros 2 (some (.int)))) B.pre
  have hts : ∀ w ∈ lw_all, w.before _ s = true := fun w h => hts w (List.mem_cons_of_mem _ h)
  have hown : s.vm.findClass "java/lang/Integer" = some m.cls := findClass_of_methodNamed B.named
  have hlk := B.notSynchronized
  have C : gw_C K "java/lang/Integer" p s m _ c cJ12_numberOfTrailingZeros := ⟨hx, hb, hts, hown, hK, hA, hX, hN, hL⟩
  have hS : va_S K.2.2.2.1 s.heap s.heap [] := va_S.rf
  have hl := lv_entry ([.int a0]) (n := 2) (Nat.le_of_ble_eq_true rfl)
  rw [lg_entry_eq]
  generalize (lg_sl ([.int a0]) ++ List.replicate (2 - (lg_sl ([.int a0])).length) Slot.unset).toArray = ls at hl ⊢
  have hl : lv_has ls 2 [(0, .int a0)] := hl
  unfold fx_J12_numberOfTrailingZeros at hf
  refine lv_iload_n hx hb dJ12_numberOfTrailingZeros_0 rfl (lv_at hl 0 rfl) ?_
  refine lv_iconst (v := (-1 : Int32)) hx hb dJ12_numberOfTrailingZeros_1 (by decide) ?_
  refine lv_ixor hx hb dJ12_numberOfTrailingZeros_2 ?_
  refine lv_iload_n hx hb dJ12_numberOfTrailingZeros_3 rfl (lv_at hl 0 rfl) ?_
  refine lv_iconst (v := (1 : Int32)) hx hb dJ12_numberOfTrailingZeros_4 (by decide) ?_
  refine lv_isub hx hb dJ12_numberOfTrailingZeros_5 ?_
  refine lv_iand hx hb dJ12_numberOfTrailingZeros_6 ?_
  refine lv_istore_n (lv' := [(0, .int ((a0 ^^^ (-1 : Int32)) &&& (a0 - (1 : Int32))))]) hx hb dJ12_numberOfTrailingZeros_7 rfl hl (by decide) rfl (fun ls hl => ?_)
  refine lv_iload_n hx hb dJ12_numberOfTrailingZeros_8 rfl (lv_at hl 0 rfl) ?_
  refine lv_if_gt (tgt := 17) hx hb dJ12_numberOfTrailingZeros_9 (by decide) (fun hc => ?_) (fun hc => ?_)
  · have hf := tw_ifT hc hf
    refine lv_iconst (v := (1 : Int32)) hx hb dJ12_numberOfTrailingZeros_17 (by decide) ?_
    refine lv_istore_n (lv' := [(1, .int (1 : Int32)), (0, .int ((a0 ^^^ (-1 : Int32)) &&& (a0 - (1 : Int32))))]) hx hb dJ12_numberOfTrailingZeros_18 rfl hl (by decide) rfl (fun ls hl => ?_)
    refine lv_iload_n hx hb dJ12_numberOfTrailingZeros_19 rfl (lv_at hl 1 rfl) ?_
    refine lv_ldcw hx hb hown (hts _ q1096) dJ12_numberOfTrailingZeros_20 ?_
    have k34 : ∀ (v34_0 : Int32) (v34_1 : Int32) (t1 : Hp) (H : Heap) (locs : List Loc) (ls : Array Slot), gw_P K t1 H → va_S K.2.2.2.1 s.heap H locs → lv_has ls 2 [(0, .int v34_0), (1, .int v34_1)] → fx_J12_numberOfTrailingZeros_J34 v34_0 v34_1 t1 = some (r, tZ) → W p l e (headSpec (ws_ yJ12_numberOfTrailingZeros cJ12_numberOfTrailingZeros 2 (some (.int))) ({ frames := 2, cells := 0, slots := 0, locals := 12 })).room s m ([.int a0] : List Value).toArray below meth c H locs 0 0 (MQ below (gw_Qi K r tZ) ([.int a0] : List Value).toArray s 0 0 K.2.2.2.1) (F0 m 34 ls []) := by
      intro v34_0 v34_1 t1 H locs ls hP hS hl hf
      unfold fx_J12_numberOfTrailingZeros_J34 at hf
      refine lv_iload_n hx hb dJ12_numberOfTrailingZeros_34 rfl (lv_at hl 0 rfl) ?_
      refine lv_sipush (v := (256 : Int32)) hx hb dJ12_numberOfTrailingZeros_35 (by decide) ?_
      have k49 : ∀ (v49_0 : Int32) (v49_1 : Int32) (t2 : Hp) (H : Heap) (locs : List Loc) (ls : Array Slot), gw_P K t2 H → va_S K.2.2.2.1 s.heap H locs → lv_has ls 2 [(0, .int v49_0), (1, .int v49_1)] → fx_J12_numberOfTrailingZeros_J49 v49_0 v49_1 t2 = some (r, tZ) → W p l e (headSpec (ws_ yJ12_numberOfTrailingZeros cJ12_numberOfTrailingZeros 2 (some (.int))) ({ frames := 2, cells := 0, slots := 0, locals := 12 })).room s m ([.int a0] : List Value).toArray below meth c H locs 0 0 (MQ below (gw_Qi K r tZ) ([.int a0] : List Value).toArray s 0 0 K.2.2.2.1) (F0 m 49 ls []) := by
        intro v49_0 v49_1 t2 H locs ls hP hS hl hf
        unfold fx_J12_numberOfTrailingZeros_J49 at hf
        refine lv_iload_n hx hb dJ12_numberOfTrailingZeros_49 rfl (lv_at hl 0 rfl) ?_
        refine lv_bipush (v := (16 : Int32)) hx hb dJ12_numberOfTrailingZeros_50 (by decide) ?_
        have k62 : ∀ (v62_0 : Int32) (v62_1 : Int32) (t3 : Hp) (H : Heap) (locs : List Loc) (ls : Array Slot), gw_P K t3 H → va_S K.2.2.2.1 s.heap H locs → lv_has ls 2 [(0, .int v62_0), (1, .int v62_1)] → fx_J12_numberOfTrailingZeros_J62 v62_0 v62_1 t3 = some (r, tZ) → W p l e (headSpec (ws_ yJ12_numberOfTrailingZeros cJ12_numberOfTrailingZeros 2 (some (.int))) ({ frames := 2, cells := 0, slots := 0, locals := 12 })).room s m ([.int a0] : List Value).toArray below meth c H locs 0 0 (MQ below (gw_Qi K r tZ) ([.int a0] : List Value).toArray s 0 0 K.2.2.2.1) (F0 m 62 ls []) := by
          intro v62_0 v62_1 t3 H locs ls hP hS hl hf
          unfold fx_J12_numberOfTrailingZeros_J62 at hf
          refine lv_iload_n hx hb dJ12_numberOfTrailingZeros_62 rfl (lv_at hl 0 rfl) ?_
          refine lv_iconst (v := (4 : Int32)) hx hb dJ12_numberOfTrailingZeros_63 (by decide) ?_
          have k74 : ∀ (v74_0 : Int32) (v74_1 : Int32) (t4 : Hp) (H : Heap) (locs : List Loc) (ls : Array Slot), gw_P K t4 H → va_S K.2.2.2.1 s.heap H locs → lv_has ls 2 [(0, .int v74_0), (1, .int v74_1)] → fx_J12_numberOfTrailingZeros_J74 v74_0 v74_1 t4 = some (r, tZ) → W p l e (headSpec (ws_ yJ12_numberOfTrailingZeros cJ12_numberOfTrailingZeros 2 (some (.int))) ({ frames := 2, cells := 0, slots := 0, locals := 12 })).room s m ([.int a0] : List Value).toArray below meth c H locs 0 0 (MQ below (gw_Qi K r tZ) ([.int a0] : List Value).toArray s 0 0 K.2.2.2.1) (F0 m 74 ls []) := by
            intro v74_0 v74_1 t4 H locs ls hP hS hl hf
            unfold fx_J12_numberOfTrailingZeros_J74 at hf
            refine lv_iload_n hx hb dJ12_numberOfTrailingZeros_74 rfl (lv_at hl 1 rfl) ?_
            refine lv_iload_n hx hb dJ12_numberOfTrailingZeros_75 rfl (lv_at hl 0 rfl) ?_
            refine lv_iconst (v := (1 : Int32)) hx hb dJ12_numberOfTrailingZeros_76 (by decide) ?_
            refine lv_iushr hx hb dJ12_numberOfTrailingZeros_77 rfl ?_
            refine lv_iadd hx hb dJ12_numberOfTrailingZeros_78 ?_
            exact gw_ireti (tw_rtE hf).1 (tw_rtE hf).2 rfl rfl C hr hP hS hlk dJ12_numberOfTrailingZeros_79
          refine lv_icmp_le (tgt := 74) hx hb dJ12_numberOfTrailingZeros_64 (by decide) (fun hc => ?_) (fun hc => ?_)
          · have hf := tw_ifT hc hf
            exact k74 _ _ _ _ _ _ hP hS (lv_sub hl [0, 1] rfl) hf
          · have hf := tw_ifF hc hf
            refine lv_iinc (v := (v62_1 + (2 : Int32))) (lv' := [(1, .int (v62_1 + (2 : Int32))), (0, .int v62_0)]) hx hb dJ12_numberOfTrailingZeros_67 hl (k := 1) rfl rfl (by decide) rfl (fun ls hl => ?_)
            refine lv_iload_n hx hb dJ12_numberOfTrailingZeros_70 rfl (lv_at hl 1 rfl) ?_
            refine lv_iconst (v := (2 : Int32)) hx hb dJ12_numberOfTrailingZeros_71 (by decide) ?_
            refine lv_iushr hx hb dJ12_numberOfTrailingZeros_72 rfl ?_
            refine lv_istore_n (lv' := [(0, .int (((v62_0).toUInt32 >>> (((2 : Int32)).toUInt32 &&& Int32.toUInt32 31)).toInt32)), (1, .int (v62_1 + (2 : Int32)))]) hx hb dJ12_numberOfTrailingZeros_73 rfl hl (by decide) rfl (fun ls hl => ?_)
            exact k74 _ _ _ _ _ _ hP hS (lv_sub hl [0, 1] rfl) hf
        refine lv_icmp_le (tgt := 62) hx hb dJ12_numberOfTrailingZeros_52 (by decide) (fun hc => ?_) (fun hc => ?_)
        · have hf := tw_ifT hc hf
          exact k62 _ _ _ _ _ _ hP hS (lv_sub hl [0, 1] rfl) hf
        · have hf := tw_ifF hc hf
          refine lv_iinc (v := (v49_1 + (4 : Int32))) (lv' := [(1, .int (v49_1 + (4 : Int32))), (0, .int v49_0)]) hx hb dJ12_numberOfTrailingZeros_55 hl (k := 1) rfl rfl (by decide) rfl (fun ls hl => ?_)
          refine lv_iload_n hx hb dJ12_numberOfTrailingZeros_58 rfl (lv_at hl 1 rfl) ?_
          refine lv_iconst (v := (4 : Int32)) hx hb dJ12_numberOfTrailingZeros_59 (by decide) ?_
          refine lv_iushr hx hb dJ12_numberOfTrailingZeros_60 rfl ?_
          refine lv_istore_n (lv' := [(0, .int (((v49_0).toUInt32 >>> (((4 : Int32)).toUInt32 &&& Int32.toUInt32 31)).toInt32)), (1, .int (v49_1 + (4 : Int32)))]) hx hb dJ12_numberOfTrailingZeros_61 rfl hl (by decide) rfl (fun ls hl => ?_)
          exact k62 _ _ _ _ _ _ hP hS (lv_sub hl [0, 1] rfl) hf
      refine lv_icmp_le (tgt := 49) hx hb dJ12_numberOfTrailingZeros_38 (by decide) (fun hc => ?_) (fun hc => ?_)
      · have hf := tw_ifT hc hf
        exact k49 _ _ _ _ _ _ hP hS (lv_sub hl [0, 1] rfl) hf
      · have hf := tw_ifF hc hf
        refine lv_iinc (v := (v34_1 + (8 : Int32))) (lv' := [(1, .int (v34_1 + (8 : Int32))), (0, .int v34_0)]) hx hb dJ12_numberOfTrailingZeros_41 hl (k := 1) rfl rfl (by decide) rfl (fun ls hl => ?_)
        refine lv_iload_n hx hb dJ12_numberOfTrailingZeros_44 rfl (lv_at hl 1 rfl) ?_
        refine lv_bipush (v := (8 : Int32)) hx hb dJ12_numberOfTrailingZeros_45 (by decide) ?_
        refine lv_iushr hx hb dJ12_numberOfTrailingZeros_47 rfl ?_
        refine lv_istore_n (lv' := [(0, .int (((v34_0).toUInt32 >>> (((8 : Int32)).toUInt32 &&& Int32.toUInt32 31)).toInt32)), (1, .int (v34_1 + (8 : Int32)))]) hx hb dJ12_numberOfTrailingZeros_48 rfl hl (by decide) rfl (fun ls hl => ?_)
        exact k49 _ _ _ _ _ _ hP hS (lv_sub hl [0, 1] rfl) hf
    refine lv_icmp_le (tgt := 34) hx hb dJ12_numberOfTrailingZeros_23 (by decide) (fun hc => ?_) (fun hc => ?_)
    · have hf := tw_ifT hc hf
      exact k34 _ _ _ _ _ _ hP hS (lv_sub hl [1, 0] rfl) hf
    · have hf := tw_ifF hc hf
      refine lv_iinc (v := ((1 : Int32) + (16 : Int32))) (lv' := [(1, .int ((1 : Int32) + (16 : Int32))), (0, .int ((a0 ^^^ (-1 : Int32)) &&& (a0 - (1 : Int32))))]) hx hb dJ12_numberOfTrailingZeros_26 hl (k := 0) rfl rfl (by decide) rfl (fun ls hl => ?_)
      refine lv_iload_n hx hb dJ12_numberOfTrailingZeros_29 rfl (lv_at hl 1 rfl) ?_
      refine lv_bipush (v := (16 : Int32)) hx hb dJ12_numberOfTrailingZeros_30 (by decide) ?_
      refine lv_iushr hx hb dJ12_numberOfTrailingZeros_32 rfl ?_
      refine lv_istore_n (lv' := [(0, .int (((((a0 ^^^ (-1 : Int32)) &&& (a0 - (1 : Int32)))).toUInt32 >>> (((16 : Int32)).toUInt32 &&& Int32.toUInt32 31)).toInt32)), (1, .int ((1 : Int32) + (16 : Int32)))]) hx hb dJ12_numberOfTrailingZeros_33 rfl hl (by decide) rfl (fun ls hl => ?_)
      exact k34 _ _ _ _ _ _ hP hS (lv_sub hl [0, 1] rfl) hf
  · have hf := tw_ifF hc hf
    refine lv_iload_n hx hb dJ12_numberOfTrailingZeros_12 rfl (lv_at hl 0 rfl) ?_
    refine lv_bipush (v := (32 : Int32)) hx hb dJ12_numberOfTrailingZeros_13 (by decide) ?_
    refine lv_iand hx hb dJ12_numberOfTrailingZeros_15 ?_
    exact gw_ireti (tw_rtE hf).1 (tw_rtE hf).2 rfl rfl C hr hP hS hlk dJ12_numberOfTrailingZeros_16
def fx_X12_nextTo_J26 (sf2 : Int32 → HM Int32) (v2_3 : Int32)  : HM Int32 :=
  sf2 (v2_3 + (1 : Int32))
def fx_X12_nextTo_L2 (a0 : Nat) (a2 : Int32) (a1 : Int32) (sf2 : Int32 → HM Int32) (v2_3 : Int32) : HM Int32 :=
  tw_bd (gw_gr 11 1 a0) fun x2 =>
  tw_bd (gw_ld 0 x2 v2_3) fun x5 =>
  if x5 = a2 then (tw_bd (gw_gr 11 0 a0) fun x9 =>
  tw_bd (fi_2 x9 a1 v2_3) fun x12 =>
  if x12 = 0 then (fx_X12_nextTo_J26 sf2 v2_3)
  else (tw_rt v2_3))
  else (fx_X12_nextTo_J26 sf2 v2_3)
def fx_X12_nextTo (a0 : Nat) (a1 : Int32) (a2 : Int32) : HM Int32 :=
  tw_lp (fx_X12_nextTo_L2 a0 a2 a1) (fun _ _ => none) tw_fu (0 : Int32)
theorem hdX12_nextTo : yX12_nextTo.cls = "LosslessFabric$Cycle" ∧ (yX12_nextTo.cls ≠ "java/lang/invoke/MethodHandle" ∧ yX12_nextTo.cls ≠ "java/lang/invoke/VarHandle" ∧ (parseMethodDescriptor yX12_nextTo.desc).map (fun d => d.parameters.length) = some 2) := by decide +kernel
set_option maxHeartbeats 4000000 in
theorem mx_X12_nextTo {l : Launch} {K : GK} (hA : gw_A K) (a0 : Nat) (a1 : Int32) (a2 : Int32) (t0 tZ : Hp) (r : Int32) (hf : fx_X12_nextTo a0 a1 a2 t0 = some (r, tZ)) : Met l yX12_nextTo (ws_ yX12_nextTo cX12_nextTo 4 (some (.int))) ({ frames := 8, cells := 0, slots := 0, locals := 145 }) (va_Pc [.ref a0, .int a1, .int a2] (gw_W K t0)) (gw_Qi K r tZ) 0 0 K.2.2.2.1 := by
  refine Met.ofW (cc := cX12_nextTo) (maxL := 4) (ret := some (.int)) (by decide) rfl ?_
  intro p e s m args below meth c s₁ B hml hv
  obtain ⟨rfl, hP, hK, hX, hN, hL⟩ := hv
  have hx := B.exec
  have hb := B.bytes
  have hr := B.returns
  have hts := atoms_spec (ws := (ws_ yX12_nextTo cX12_nextTo 4 (some (.int)))) B.pre
  have hts : ∀ w ∈ lw_all, w.before _ s = true := fun w h => hts w (List.mem_cons_of_mem _ h)
  have hown : s.vm.findClass "LosslessFabric$Cycle" = some m.cls := findClass_of_methodNamed B.named
  have hlk := B.notSynchronized
  have C : gw_C K "LosslessFabric$Cycle" p s m _ c cX12_nextTo := ⟨hx, hb, hts, hown, hK, hA, hX, hN, hL⟩
  have hS : va_S K.2.2.2.1 s.heap s.heap [] := va_S.rf
  have hl := lv_entry ([.ref a0, .int a1, .int a2]) (n := 4) (Nat.le_of_ble_eq_true rfl)
  rw [lg_entry_eq]
  generalize (lg_sl ([.ref a0, .int a1, .int a2]) ++ List.replicate (4 - (lg_sl ([.ref a0, .int a1, .int a2])).length) Slot.unset).toArray = ls at hl ⊢
  have hl : lv_has ls 4 [(0, .ref a0), (1, .int a1), (2, .int a2)] := hl
  unfold fx_X12_nextTo at hf
  refine lv_iconst (v := (0 : Int32)) hx hb dX12_nextTo_0 (by decide) ?_
  refine lv_istore_n (lv' := [(3, .int (0 : Int32)), (0, .ref a0), (1, .int a1), (2, .int a2)]) hx hb dX12_nextTo_1 rfl hl (by decide) rfl (fun ls hl => ?_)
  have k2 : ∀ (n : Nat) (v2_3 : Int32) (t1 : Hp) (H : Heap) (locs : List Loc) (ls : Array Slot), gw_P K t1 H → va_S K.2.2.2.1 s.heap H locs → lv_has ls 4 [(0, .ref a0), (1, .int a1), (2, .int a2), (3, .int v2_3)] → tw_lp (fx_X12_nextTo_L2 a0 a2 a1) (fun _ _ => none) n v2_3 t1 = some (r, tZ) → W p l e (headSpec (ws_ yX12_nextTo cX12_nextTo 4 (some (.int))) ({ frames := 8, cells := 0, slots := 0, locals := 145 })).room s m ([.ref a0, .int a1, .int a2] : List Value).toArray below meth c H locs 0 0 (MQ below (gw_Qi K r tZ) ([.ref a0, .int a1, .int a2] : List Value).toArray s 0 0 K.2.2.2.1) (F0 m 2 ls []) := by
    intro n
    induction n with
    | zero => intro v2_3 t1 H locs ls hP hS hl hf; exact (tw_no hf).elim
    | succ n ih2 =>
      intro v2_3 t1 H locs ls hP hS hl hf
      obtain ⟨sf2, hs2⟩ : ∃ f, f = tw_lp (fx_X12_nextTo_L2 a0 a2 a1) (fun _ _ => none) n := ⟨_, rfl⟩
      rw [← hs2] at ih2
      have hf : fx_X12_nextTo_L2 a0 a2 a1 sf2 v2_3 t1 = some (r, tZ) := by rw [hs2]; exact hf
      clear hs2
      unfold fx_X12_nextTo_L2 at hf
      refine lv_aload_n hx hb dX12_nextTo_2 rfl (lv_at hl 0 rfl) ?_
      obtain ⟨x2, t3, e4, hf⟩ := tw_bdE hf
      refine gw_rget (ci := 11) (k := 1) (T := TX12) C hP rfl in_X12 (by decide) e4 q1055 rfl dX12_nextTo_3 (fun hP => ?_)
      refine lv_iload_n hx hb dX12_nextTo_6 rfl (lv_at hl 3 rfl) ?_
      obtain ⟨x5, t6, e7, hf⟩ := tw_bdE hf
      refine gw_iald C hP e7 dX12_nextTo_7 (fun hP => ?_)
      refine lv_iload_n hx hb dX12_nextTo_8 rfl (lv_at hl 2 rfl) ?_
      have k26 : ∀  (t8 : Hp) (H : Heap) (locs : List Loc) (ls : Array Slot), gw_P K t8 H → va_S K.2.2.2.1 s.heap H locs → lv_has ls 4 [(0, .ref a0), (1, .int a1), (2, .int a2), (3, .int v2_3)] → fx_X12_nextTo_J26 sf2 v2_3  t8 = some (r, tZ) → W p l e (headSpec (ws_ yX12_nextTo cX12_nextTo 4 (some (.int))) ({ frames := 8, cells := 0, slots := 0, locals := 145 })).room s m ([.ref a0, .int a1, .int a2] : List Value).toArray below meth c H locs 0 0 (MQ below (gw_Qi K r tZ) ([.ref a0, .int a1, .int a2] : List Value).toArray s 0 0 K.2.2.2.1) (F0 m 26 ls []) := by
        intro t8 H locs ls hP hS hl hf
        unfold fx_X12_nextTo_J26 at hf
        refine lv_iinc (v := (v2_3 + (1 : Int32))) (lv' := [(3, .int (v2_3 + (1 : Int32))), (0, .ref a0), (1, .int a1), (2, .int a2)]) hx hb dX12_nextTo_26 hl (k := 3) rfl rfl (by decide) rfl (fun ls hl => ?_)
        refine lv_goto (tgt := 2) hx hb dX12_nextTo_29 (by decide) ?_
        exact ih2 _ _ _ _ _ hP hS (lv_sub hl [1, 2, 3, 0] rfl) hf
      refine lv_icmp_ne (tgt := 26) hx hb dX12_nextTo_9 (by decide) (fun hc => ?_) (fun hc => ?_)
      · have hf := tw_ifF hc hf
        exact k26 _ _ _ _ hP hS (lv_sub hl [0, 1, 2, 3] rfl) hf
      · have hf := tw_ifT hc hf
        refine lv_aload_n hx hb dX12_nextTo_12 rfl (lv_at hl 0 rfl) ?_
        obtain ⟨x9, t10, e11, hf⟩ := tw_bdE hf
        refine gw_rget (ci := 11) (k := 0) (T := TX12) C hP rfl in_X12 (by decide) e11 q1054 rfl dX12_nextTo_13 (fun hP => ?_)
        refine lv_iload_n hx hb dX12_nextTo_16 rfl (lv_at hl 1 rfl) ?_
        refine lv_iload_n hx hb dX12_nextTo_17 rfl (lv_at hl 3 rfl) ?_
        obtain ⟨x12, t13, e14, hf⟩ := tw_bdE hf
        refine gw_if2 (rest := []) C hP hS e14 q1089 (hl.1.trans hml.symm) (Nat.le_of_ble_eq_true rfl) (Nat.le_of_ble_eq_true rfl) (Nat.le_of_ble_eq_true rfl) (Nat.zero_le _) (Nat.zero_le _) dX12_nextTo_18 (fun H locs hP hS => ?_)
        refine lv_if_ne (tgt := 32) hx hb dX12_nextTo_23 (by decide) (fun hc => ?_) (fun hc => ?_)
        · have hf := tw_ifF hc hf
          refine lv_iload_n hx hb dX12_nextTo_32 rfl (lv_at hl 3 rfl) ?_
          exact gw_ireti (tw_rtE hf).1 (tw_rtE hf).2 rfl rfl C hr hP hS hlk dX12_nextTo_33
        · have hf := tw_ifT hc hf
          exact k26 _ _ _ _ hP hS (lv_sub hl [0, 1, 2, 3] rfl) hf
  exact k2 _ _ _ _ _ _ hP hS (lv_sub hl [1, 2, 3, 0] rfl) hf
def fx_X12_first_J75 (sf31 : Int32 → Int32 → HM Nat) (v31_4 : Int32) (w75_0 : Int32) : HM Nat :=
  sf31 w75_0 (v31_4 + (-1 : Int32))
def fx_X12_first_L31 (a0 : Nat) (x4 : Int32) (sf31 : Int32 → Int32 → HM Nat) (v31_2 : Int32) (v31_4 : Int32) : HM Nat :=
  if v31_4 ≤ 0 then (tw_rt a0)
  else (tw_bd (gw_gr 11 2 a0) fun x17 =>
  tw_bd (gw_gi 11 3 a0) fun x20 =>
  tw_bd (gw_st x17 x20 v31_2) fun _ =>
  tw_bd (gw_gi 11 3 a0) fun x26 =>
  tw_bd (gw_pi 11 3 a0 (x26 + (1 : Int32))) fun _ =>
  if (v31_4 + (-1 : Int32)) = 0 then (fx_X12_first_J75 sf31 v31_4 x4)
  else (tw_bd (gw_on 11 a0 (fx_X12_nextTo a0 v31_2 (v31_4 + (-1 : Int32)))) fun x33 =>
 
  fx_X12_first_J75 sf31 v31_4 x33))
def fx_X12_first (a0 : Nat) : HM Nat :=
  tw_bd (gw_on 11 a0 (fx_X12_inAny a0)) fun x1 =>
  if x1 = 0 then (tw_rt a0)
  else (tw_bd (fx_J12_numberOfTrailingZeros x1) fun x4 =>
  tw_bd (gw_on 11 a0 (fx_X12_laysTo a0 x4)) fun _ =>
  tw_bd (gw_gr 11 1 a0) fun x10 =>
  tw_bd (gw_ld 0 x10 x4) fun x13 =>
 
  tw_lp (fx_X12_first_L31 a0 x4) (fun _ _ _ => none) tw_fu x4 x13)
theorem hdX12_first : yX12_first.cls = "LosslessFabric$Cycle" ∧ (yX12_first.cls ≠ "java/lang/invoke/MethodHandle" ∧ yX12_first.cls ≠ "java/lang/invoke/VarHandle" ∧ (parseMethodDescriptor yX12_first.desc).map (fun d => d.parameters.length) = some 0) := by decide +kernel
set_option maxHeartbeats 4000000 in
theorem mx_X12_first {l : Launch} {K : GK} (hA : gw_A K) (a0 : Nat) (t0 tZ : Hp) (r : Nat) (hf : fx_X12_first a0 t0 = some (r, tZ)) : Met l yX12_first (ws_ yX12_first cX12_first 5 (some (.object "LosslessFabric$Cycle"))) ({ frames := 11, cells := 0, slots := 0, locals := 214 }) (va_Pc [.ref a0] (gw_W K t0)) (gw_Qr K r tZ) 0 0 K.2.2.2.1 := by
  refine Met.ofW (cc := cX12_first) (maxL := 5) (ret := some (.object "LosslessFabric$Cycle")) (by decide) rfl ?_
  intro p e s m args below meth c s₁ B hml hv
  obtain ⟨rfl, hP, hK, hX, hN, hL⟩ := hv
  have hx := B.exec
  have hb := B.bytes
  have hr := B.returns
  have hts := atoms_spec (ws := (ws_ yX12_first cX12_first 5 (some (.object "LosslessFabric$Cycle")))) B.pre
  have hts : ∀ w ∈ lw_all, w.before _ s = true := fun w h => hts w (List.mem_cons_of_mem _ h)
  have hown : s.vm.findClass "LosslessFabric$Cycle" = some m.cls := findClass_of_methodNamed B.named
  have hlk := B.notSynchronized
  have C : gw_C K "LosslessFabric$Cycle" p s m _ c cX12_first := ⟨hx, hb, hts, hown, hK, hA, hX, hN, hL⟩
  have hS : va_S K.2.2.2.1 s.heap s.heap [] := va_S.rf
  have hl := lv_entry ([.ref a0]) (n := 5) (Nat.le_of_ble_eq_true rfl)
  rw [lg_entry_eq]
  generalize (lg_sl ([.ref a0]) ++ List.replicate (5 - (lg_sl ([.ref a0])).length) Slot.unset).toArray = ls at hl ⊢
  have hl : lv_has ls 5 [(0, .ref a0)] := hl
  unfold fx_X12_first at hf
  refine lv_aload_n hx hb dX12_first_0 rfl (lv_at hl 0 rfl) ?_
  obtain ⟨x1, t2, e3, hf⟩ := tw_bdE hf
  refine gw_cVi (As := []) (rest := []) (ci := 11) (T := TX12) (N := 5) C hml hP hS rfl (gw_onE e3).1 (mx_X12_inAny (l := l) (K := K) hA _ _ _ _ (gw_onE e3).2) (cwV 0 hts (lw_V q1076 q1077 q1078 q125 q1079) rfl rfl rfl hdX12_inAny ⟨Nat.le_of_ble_eq_true rfl, Nat.le_of_ble_eq_true rfl⟩) rfl hl.1 rfl (Nat.le_of_ble_eq_true rfl) (Nat.zero_le _) (Nat.zero_le _) dX12_first_1 (fun H locs hP hS => ?_)
  refine lv_istore_n (lv' := [(1, .int x1), (0, .ref a0)]) hx hb dX12_first_4 rfl hl (by decide) rfl (fun ls hl => ?_)
  refine lv_iload_n hx hb dX12_first_5 rfl (lv_at hl 0 rfl) ?_
  refine lv_if_ne (tgt := 11) hx hb dX12_first_6 (by decide) (fun hc => ?_) (fun hc => ?_)
  · have hf := tw_ifF hc hf
    refine lv_iload_n hx hb dX12_first_11 rfl (lv_at hl 0 rfl) ?_
    obtain ⟨x4, t5, e6, hf⟩ := tw_bdE hf
    refine gw_cSi (As := [.int x1]) (rest := []) C hml hP hS (mx_J12_numberOfTrailingZeros (l := l) (K := K) hA _ _ _ _ e6) (va_cwS 1 hts (lw_S q1093 q1094 q126 q1095) rfl rfl rfl hdJ12_numberOfTrailingZeros ⟨Nat.le_of_ble_eq_true rfl, Nat.le_of_ble_eq_true rfl⟩) rfl hl.1 rfl (Nat.le_of_ble_eq_true rfl) (Nat.zero_le _) (Nat.zero_le _) dX12_first_12 (fun H locs hP hS => ?_)
    refine lv_istore_n (lv' := [(2, .int x4), (1, .int x1), (0, .ref a0)]) hx hb dX12_first_15 rfl hl (by decide) rfl (fun ls hl => ?_)
    refine lv_iload_n hx hb dX12_first_16 rfl (lv_at hl 0 rfl) ?_
    refine lv_istore_n (lv' := [(3, .int x4), (2, .int x4), (1, .int x1), (0, .ref a0)]) hx hb dX12_first_17 rfl hl (by decide) rfl (fun ls hl => ?_)
    refine lv_aload_n hx hb dX12_first_18 rfl (lv_at hl 3 rfl) ?_
    refine lv_iload_n hx hb dX12_first_19 rfl (lv_at hl 0 rfl) ?_
    obtain ⟨x7, t8, e9, hf⟩ := tw_bdE hf
    refine gw_cVv (As := [.int x4]) (rest := []) (ci := 11) (T := TX12) (N := 5) C hml hP hS rfl (gw_onE e9).1 (mx_X12_laysTo (l := l) (K := K) hA _ _ _ _ _ (gw_onE e9).2) (cwV 1 hts (lw_V q1080 q1082 qs25 q125 q1083) rfl rfl rfl hdX12_laysTo ⟨Nat.le_of_ble_eq_true rfl, Nat.le_of_ble_eq_true rfl⟩) rfl hl.1 rfl (Nat.le_of_ble_eq_true rfl) (Nat.zero_le _) (Nat.zero_le _) dX12_first_20 (fun H locs hP hS => ?_)
    refine lv_aload_n hx hb dX12_first_23 rfl (lv_at hl 3 rfl) ?_
    obtain ⟨x10, t11, e12, hf⟩ := tw_bdE hf
    refine gw_rget (ci := 11) (k := 1) (T := TX12) C hP rfl in_X12 (by decide) e12 q1055 rfl dX12_first_24 (fun hP => ?_)
    refine lv_iload_n hx hb dX12_first_27 rfl (lv_at hl 0 rfl) ?_
    obtain ⟨x13, t14, e15, hf⟩ := tw_bdE hf
    refine gw_iald C hP e15 dX12_first_28 (fun hP => ?_)
    refine lv_istore (lv' := [(4, .int x13), (3, .int x4), (2, .int x4), (1, .int x1), (0, .ref a0)]) hx hb dX12_first_29 hl (by decide) rfl (fun ls hl => ?_)
    have k31 : ∀ (n : Nat) (v31_2 : Int32) (v31_4 : Int32) (t16 : Hp) (H : Heap) (locs : List Loc) (ls : Array Slot), gw_P K t16 H → va_S K.2.2.2.1 s.heap H locs → lv_has ls 5 [(0, .ref a0), (2, .int v31_2), (3, .int x4), (4, .int v31_4)] → tw_lp (fx_X12_first_L31 a0 x4) (fun _ _ _ => none) n v31_2 v31_4 t16 = some (r, tZ) → W p l e (headSpec (ws_ yX12_first cX12_first 5 (some (.object "LosslessFabric$Cycle"))) ({ frames := 11, cells := 0, slots := 0, locals := 214 })).room s m ([.ref a0] : List Value).toArray below meth c H locs 0 0 (MQ below (gw_Qr K r tZ) ([.ref a0] : List Value).toArray s 0 0 K.2.2.2.1) (F0 m 31 ls []) := by
      intro n
      induction n with
      | zero => intro v31_2 v31_4 t16 H locs ls hP hS hl hf; exact (tw_no hf).elim
      | succ n ih31 =>
        intro v31_2 v31_4 t16 H locs ls hP hS hl hf
        obtain ⟨sf31, hs31⟩ : ∃ f, f = tw_lp (fx_X12_first_L31 a0 x4) (fun _ _ _ => none) n := ⟨_, rfl⟩
        rw [← hs31] at ih31
        have hf : fx_X12_first_L31 a0 x4 sf31 v31_2 v31_4 t16 = some (r, tZ) := by rw [hs31]; exact hf
        clear hs31
        unfold fx_X12_first_L31 at hf
        refine lv_iload hx hb dX12_first_31 (lv_at hl 3 rfl) ?_
        refine lv_if_le (tgt := 79) hx hb dX12_first_33 (by decide) (fun hc => ?_) (fun hc => ?_)
        · have hf := tw_ifT hc hf
          refine lv_aload_n hx hb dX12_first_79 rfl (lv_at hl 0 rfl) ?_
          exact gw_iretr (tw_rtE hf).1 (tw_rtE hf).2 rfl rfl C hr (Or.inl ⟨_, rfl⟩) hP hS hlk dX12_first_80
        · have hf := tw_ifF hc hf
          refine lv_aload_n hx hb dX12_first_36 rfl (lv_at hl 0 rfl) ?_
          obtain ⟨x17, t18, e19, hf⟩ := tw_bdE hf
          refine gw_rget (ci := 11) (k := 2) (T := TX12) C hP rfl in_X12 (by decide) e19 q1056 rfl dX12_first_37 (fun hP => ?_)
          refine lv_aload_n hx hb dX12_first_40 rfl (lv_at hl 0 rfl) ?_
          obtain ⟨x20, t21, e22, hf⟩ := tw_bdE hf
          refine gw_iget (ci := 11) (k := 3) (T := TX12) C hP rfl in_X12 (by decide) e22 q1058 rfl dX12_first_41 (fun hP => ?_)
          refine lv_iload_n hx hb dX12_first_44 rfl (lv_at hl 1 rfl) ?_
          obtain ⟨x23, t24, e25, hf⟩ := tw_bdE hf
          refine gw_iast C hP hS e25 dX12_first_45 (fun H locs hP hS => ?_)
          refine lv_aload_n hx hb dX12_first_46 rfl (lv_at hl 0 rfl) ?_
          refine lv_dup hx hb dX12_first_47 rfl ?_
          obtain ⟨x26, t27, e28, hf⟩ := tw_bdE hf
          refine gw_iget (ci := 11) (k := 3) (T := TX12) C hP rfl in_X12 (by decide) e28 q1058 rfl dX12_first_48 (fun hP => ?_)
          refine lv_iconst (v := (1 : Int32)) hx hb dX12_first_51 (by decide) ?_
          refine lv_iadd hx hb dX12_first_52 ?_
          obtain ⟨x29, t30, e31, hf⟩ := tw_bdE hf
          refine gw_vput (ci := 11) (k := 3) (T := TX12) C hP hS rfl in_X12 tyX12 tyX12_ok nmX12 (by decide) e31 q1058 rfl rfl (vp_nar_int _) rfl dX12_first_53 (fun H locs hP hS => ?_)
          refine lv_iinc (v := (v31_4 + (-1 : Int32))) (lv' := [(4, .int (v31_4 + (-1 : Int32))), (0, .ref a0), (2, .int v31_2), (3, .int x4)]) hx hb dX12_first_56 hl (k := 3) rfl rfl (by decide) rfl (fun ls hl => ?_)
          refine lv_iload hx hb dX12_first_59 (lv_at hl 0 rfl) ?_
          have k75 : ∀ (w75_0 : Int32) (t32 : Hp) (H : Heap) (locs : List Loc) (ls : Array Slot), gw_P K t32 H → va_S K.2.2.2.1 s.heap H locs → lv_has ls 5 [(0, .ref a0), (3, .int x4), (4, .int (v31_4 + (-1 : Int32)))] → fx_X12_first_J75 sf31 v31_4 w75_0 t32 = some (r, tZ) → W p l e (headSpec (ws_ yX12_first cX12_first 5 (some (.object "LosslessFabric$Cycle"))) ({ frames := 11, cells := 0, slots := 0, locals := 214 })).room s m ([.ref a0] : List Value).toArray below meth c H locs 0 0 (MQ below (gw_Qr K r tZ) ([.ref a0] : List Value).toArray s 0 0 K.2.2.2.1) (F0 m 75 ls [.int w75_0]) := by
            intro w75_0 t32 H locs ls hP hS hl hf
            unfold fx_X12_first_J75 at hf
            refine lv_istore_n (lv' := [(2, .int w75_0), (0, .ref a0), (3, .int x4), (4, .int (v31_4 + (-1 : Int32)))]) hx hb dX12_first_75 rfl hl (by decide) rfl (fun ls hl => ?_)
            refine lv_goto (tgt := 31) hx hb dX12_first_76 (by decide) ?_
            exact ih31 _ _ _ _ _ _ hP hS (lv_sub hl [1, 0, 2, 3] rfl) hf
          refine lv_if_ne (tgt := 68) hx hb dX12_first_61 (by decide) (fun hc => ?_) (fun hc => ?_)
          · have hf := tw_ifF hc hf
            refine lv_aload_n hx hb dX12_first_68 rfl (lv_at hl 1 rfl) ?_
            refine lv_iload_n hx hb dX12_first_69 rfl (lv_at hl 2 rfl) ?_
            refine lv_iload hx hb dX12_first_70 (lv_at hl 0 rfl) ?_
            obtain ⟨x33, t34, e35, hf⟩ := tw_bdE hf
            refine gw_cVi (As := [.int v31_2, .int (v31_4 + (-1 : Int32))]) (rest := []) (ci := 11) (T := TX12) (N := 5) C hml hP hS rfl (gw_onE e35).1 (mx_X12_nextTo (l := l) (K := K) hA _ _ _ _ _ _ (gw_onE e35).2) (cwV 2 hts (lw_V q1097 q1099 qs27 q125 q1100) rfl rfl rfl hdX12_nextTo ⟨Nat.le_of_ble_eq_true rfl, Nat.le_of_ble_eq_true rfl⟩) rfl hl.1 rfl (Nat.le_of_ble_eq_true rfl) (Nat.zero_le _) (Nat.zero_le _) dX12_first_72 (fun H locs hP hS => ?_)
            exact k75 _ _ _ _ _ hP hS (lv_sub hl [1, 3, 0] rfl) hf
          · have hf := tw_ifT hc hf
            refine lv_iload_n hx hb dX12_first_64 rfl (lv_at hl 3 rfl) ?_
            refine lv_goto (tgt := 75) hx hb dX12_first_65 (by decide) ?_
            exact k75 _ _ _ _ _ hP hS (lv_sub hl [1, 3, 0] rfl) hf
    exact k31 _ _ _ _ _ _ _ hP hS (lv_sub hl [4, 2, 1, 0] rfl) hf
  · have hf := tw_ifT hc hf
    refine lv_aload_n hx hb dX12_first_9 rfl (lv_at hl 1 rfl) ?_
    exact gw_iretr (tw_rtE hf).1 (tw_rtE hf).2 rfl rfl C hr (Or.inl ⟨_, rfl⟩) hP hS hlk dX12_first_10
def fx_X1_cycle_J37  (w37_0 : Int32) : gM Int32 :=
  gw_rc w37_0
def fx_X1_cycle (a0 : Nat) (a1 : Int32) : gM Int32 :=
  if 0 ≤ a1 then (gw_b0 (gw_gr 0 11 a0) fun x1 =>
  gw_bc (gw_on 0 a0 (fx_X1_paused a0 x1)) fun x4 =>
  gw_b0 (gw_on 11 x4 (fx_X12_first x4)) fun x7 =>
  gw_b0 (gw_gi 11 3 x7) fun x10 =>
  if x10 ≤ a1 then (fx_X1_cycle_J37 (-2 : Int32))
  else (gw_b0 (gw_gr 11 2 x7) fun x14 =>
  gw_b0 (gw_ld 0 x14 a1) fun x17 =>
 
  fx_X1_cycle_J37 x17))
  else (gw_rc (-1 : Int32))
theorem hdX1_cycle : yX1_cycle.cls = "LosslessFabric" ∧ (yX1_cycle.cls ≠ "java/lang/invoke/MethodHandle" ∧ yX1_cycle.cls ≠ "java/lang/invoke/VarHandle" ∧ (parseMethodDescriptor yX1_cycle.desc).map (fun d => d.parameters.length) = some 1) := by decide +kernel
set_option maxHeartbeats 4000000 in
theorem mx_X1_cycle {l : Launch} {K : GK} (hA : gw_A K) (a0 : Nat) (a1 : Int32) (t0 tZ : Hp) (r : Int32) (C0 S0 : Nat) (hf : fx_X1_cycle a0 a1 t0 = some (r, tZ, C0, S0)) : Met l yX1_cycle (ws_ yX1_cycle cX1_cycle 3 (some (.int))) ({ frames := 12, cells := C0, slots := S0, locals := 3221 }) (va_Pc [.ref a0, .int a1] (gw_W K t0)) (gw_Qi K r tZ) C0 S0 K.2.2.2.1 := by
  refine Met.ofW (cc := cX1_cycle) (maxL := 3) (ret := some (.int)) (by decide) rfl ?_
  intro p e s m args below meth c s₁ B hml hv
  obtain ⟨rfl, hP, hK, hX, hN, hL⟩ := hv
  have hx := B.exec
  have hb := B.bytes
  have hr := B.returns
  have hts := atoms_spec (ws := (ws_ yX1_cycle cX1_cycle 3 (some (.int)))) B.pre
  have hts : ∀ w ∈ lw_all, w.before _ s = true := fun w h => hts w (List.mem_cons_of_mem _ h)
  have hown : s.vm.findClass "LosslessFabric" = some m.cls := findClass_of_methodNamed B.named
  have hlk := B.notSynchronized
  have C : gw_C K "LosslessFabric" p s m _ c cX1_cycle := ⟨hx, hb, hts, hown, hK, hA, hX, hN, hL⟩
  have hk : 0 + C0 = C0 := Nat.zero_add _
  have hn : 0 + S0 = S0 := Nat.zero_add _
  have hS : va_S K.2.2.2.1 s.heap s.heap [] := va_S.rf
  have hl := lv_entry ([.ref a0, .int a1]) (n := 3) (Nat.le_of_ble_eq_true rfl)
  rw [lg_entry_eq]
  generalize (lg_sl ([.ref a0, .int a1]) ++ List.replicate (3 - (lg_sl ([.ref a0, .int a1])).length) Slot.unset).toArray = ls at hl ⊢
  have hl : lv_has ls 3 [(0, .ref a0), (1, .int a1)] := hl
  unfold fx_X1_cycle at hf
  refine lv_iload_n hx hb dX1_cycle_0 rfl (lv_at hl 1 rfl) ?_
  refine lv_if_ge (tgt := 6) hx hb dX1_cycle_1 (by decide) (fun hc => ?_) (fun hc => ?_)
  · have hf := tw_ifT hc hf
    refine lv_aload_n hx hb dX1_cycle_6 rfl (lv_at hl 0 rfl) ?_
    refine lv_aload_n hx hb dX1_cycle_7 rfl (lv_at hl 0 rfl) ?_
    obtain ⟨x1, t2, e3, hf⟩ := gw_b0E hf
    refine gw_rget (ci := 0) (k := 11) (T := TX1) C hP rfl in_X1 (by decide) e3 q404 rfl dX1_cycle_8 (fun hP => ?_)
    obtain ⟨x4, t5, c5, s5, C5, S5, e6, hf, hk, hn⟩ := gw_bcE hf hk hn
    refine gw_cVr (As := [.ref x1]) (rest := []) (ci := 0) (T := TX1) (N := 18) C hml hP hS rfl (gw_onE e6).1 (mx_X1_paused (l := l) (K := K) hA _ _ _ _ _ _ _ (gw_onE e6).2) (cwV 1 hts (lw_V q1042 q1044 qs24 q101 q1045) rfl rfl rfl hdX1_paused ⟨Nat.le_of_ble_eq_true rfl, Nat.le_of_ble_eq_true rfl⟩) rfl hl.1 rfl (Nat.le_of_ble_eq_true rfl) (Nat.le.intro hk) (Nat.le.intro hn) dX1_cycle_11 (fun H locs hP hS => ?_)
    obtain ⟨x7, t8, e9, hf⟩ := gw_b0E hf
    refine gw_cVr (As := []) (rest := []) (ci := 11) (T := TX12) (N := 5) C hml hP hS rfl (gw_onE e9).1 (mx_X12_first (l := l) (K := K) hA _ _ _ _ (gw_onE e9).2) (cwV 0 hts (lw_V q1072 q1073 q1074 q125 q1075) rfl rfl rfl hdX12_first ⟨Nat.le_of_ble_eq_true rfl, Nat.le_of_ble_eq_true rfl⟩) rfl hl.1 rfl (Nat.le_of_ble_eq_true rfl) (Nat.le.intro hk) (Nat.le.intro hn) dX1_cycle_14 (fun H locs hP hS => ?_)
    refine lv_astore_n (lv' := [(2, .ref x7), (0, .ref a0), (1, .int a1)]) hx hb dX1_cycle_17 rfl hl (by decide) rfl (fun ls hl => ?_)
    refine lv_iload_n hx hb dX1_cycle_18 rfl (lv_at hl 2 rfl) ?_
    refine lv_aload_n hx hb dX1_cycle_19 rfl (lv_at hl 0 rfl) ?_
    obtain ⟨x10, t11, e12, hf⟩ := gw_b0E hf
    refine gw_igetN (ci := 11) (k := 3) (T := TX12) C hP rfl in_X12 (by decide) e12 q1059 rfl dX1_cycle_20 (fun hP => ?_)
    have k37 : ∀ (w37_0 : Int32) (t13 : Hp) (k13 n13 C13 S13 : Nat) (H : Heap) (locs : List Loc) (ls : Array Slot), gw_P K t13 H → va_S K.2.2.2.1 s.heap H locs → k13 + C13 = C0 → n13 + S13 = S0 → lv_has ls 3 [] → fx_X1_cycle_J37 w37_0 t13 = some (r, tZ, C13, S13) → W p l e (headSpec (ws_ yX1_cycle cX1_cycle 3 (some (.int))) ({ frames := 12, cells := C0, slots := S0, locals := 3221 })).room s m ([.ref a0, .int a1] : List Value).toArray below meth c H locs k13 n13 (MQ below (gw_Qi K r tZ) ([.ref a0, .int a1] : List Value).toArray s C0 S0 K.2.2.2.1) (F0 m 37 ls [.int w37_0]) := by
      intro w37_0 t13 k13 n13 C13 S13 H locs ls hP hS hk hn hl hf
      unfold fx_X1_cycle_J37 at hf
      obtain ⟨h1, h2, h3, h4⟩ := gw_rcE hf hk hn
      exact gw_ireti h1 h2 h3 h4 C hr hP hS hlk dX1_cycle_37
    refine lv_icmp_ge (tgt := 35) hx hb dX1_cycle_23 (by decide) (fun hc => ?_) (fun hc => ?_)
    · have hf := tw_ifT hc hf
      refine lv_bipush (v := (-2 : Int32)) hx hb dX1_cycle_35 (by decide) ?_
      exact k37 _ _ _ _ _ _ _ _ _ hP hS hk hn (lv_sub hl [] rfl) hf
    · have hf := tw_ifF hc hf
      refine lv_aload_n hx hb dX1_cycle_26 rfl (lv_at hl 0 rfl) ?_
      obtain ⟨x14, t15, e16, hf⟩ := gw_b0E hf
      refine gw_rgetN (ci := 11) (k := 2) (T := TX12) C hP rfl in_X12 (by decide) e16 q1057 rfl dX1_cycle_27 (fun hP => ?_)
      refine lv_iload_n hx hb dX1_cycle_30 rfl (lv_at hl 2 rfl) ?_
      obtain ⟨x17, t18, e19, hf⟩ := gw_b0E hf
      refine gw_iald C hP e19 dX1_cycle_31 (fun hP => ?_)
      refine lv_goto (tgt := 37) hx hb dX1_cycle_32 (by decide) ?_
      exact k37 _ _ _ _ _ _ _ _ _ hP hS hk hn (lv_sub hl [] rfl) hf
  · have hf := tw_ifF hc hf
    refine lv_iconst (v := (-1 : Int32)) hx hb dX1_cycle_4 (by decide) ?_
    obtain ⟨h1, h2, h3, h4⟩ := gw_rcE hf hk hn
    exact gw_ireti h1 h2 h3 h4 C hr hP hS hlk dX1_cycle_5
def fx_X1_isFlow (a0 : Nat) (a1 : Int32) : gM Int32 :=
  gw_b0 (gw_gr 0 4 a0) fun x1 =>
  gw_b0 (gw_gi 1 3 x1) fun x4 =>
  gw_bc (gw_na 0 (1 : Int32)) fun x7 =>
  gw_b0 (gw_st x7 (0 : Int32) a1) fun _ =>
  gw_b0 (fx_X1_areIn (0 : Int32) (x4 - (1 : Int32)) x7) fun x13 =>
  gw_rz x13
theorem hdX1_isFlow : yX1_isFlow.cls = "LosslessFabric" ∧ (yX1_isFlow.cls ≠ "java/lang/invoke/MethodHandle" ∧ yX1_isFlow.cls ≠ "java/lang/invoke/VarHandle" ∧ (parseMethodDescriptor yX1_isFlow.desc).map (fun d => d.parameters.length) = some 1) := by decide +kernel
set_option maxHeartbeats 4000000 in
theorem mx_X1_isFlow {l : Launch} {K : GK} (hA : gw_A K) (a0 : Nat) (a1 : Int32) (t0 tZ : Hp) (r : Int32) (C0 S0 : Nat) (hf : fx_X1_isFlow a0 a1 t0 = some (r, tZ, C0, S0)) : Met l yX1_isFlow (ws_ yX1_isFlow cX1_isFlow 2 (some (.boolean))) ({ frames := 3, cells := C0, slots := S0, locals := 39 }) (va_Pc [.ref a0, .int a1] (gw_W K t0)) (gw_Qi K r tZ) C0 S0 K.2.2.2.1 := by
  refine Met.ofW (cc := cX1_isFlow) (maxL := 2) (ret := some (.boolean)) (by decide) rfl ?_
  intro p e s m args below meth c s₁ B hml hv
  obtain ⟨rfl, hP, hK, hX, hN, hL⟩ := hv
  have hx := B.exec
  have hb := B.bytes
  have hr := B.returns
  have hts := atoms_spec (ws := (ws_ yX1_isFlow cX1_isFlow 2 (some (.boolean)))) B.pre
  have hts : ∀ w ∈ lw_all, w.before _ s = true := fun w h => hts w (List.mem_cons_of_mem _ h)
  have hown : s.vm.findClass "LosslessFabric" = some m.cls := findClass_of_methodNamed B.named
  have hlk := B.notSynchronized
  have C : gw_C K "LosslessFabric" p s m _ c cX1_isFlow := ⟨hx, hb, hts, hown, hK, hA, hX, hN, hL⟩
  have hk : 0 + C0 = C0 := Nat.zero_add _
  have hn : 0 + S0 = S0 := Nat.zero_add _
  have hS : va_S K.2.2.2.1 s.heap s.heap [] := va_S.rf
  have hl := lv_entry ([.ref a0, .int a1]) (n := 2) (Nat.le_of_ble_eq_true rfl)
  rw [lg_entry_eq]
  generalize (lg_sl ([.ref a0, .int a1]) ++ List.replicate (2 - (lg_sl ([.ref a0, .int a1])).length) Slot.unset).toArray = ls at hl ⊢
  have hl : lv_has ls 2 [(0, .ref a0), (1, .int a1)] := hl
  unfold fx_X1_isFlow at hf
  refine lv_iconst (v := (0 : Int32)) hx hb dX1_isFlow_0 (by decide) ?_
  refine lv_aload_n hx hb dX1_isFlow_1 rfl (lv_at hl 0 rfl) ?_
  obtain ⟨x1, t2, e3, hf⟩ := gw_b0E hf
  refine gw_rget (ci := 0) (k := 4) (T := TX1) C hP rfl in_X1 (by decide) e3 q394 rfl dX1_isFlow_2 (fun hP => ?_)
  obtain ⟨x4, t5, e6, hf⟩ := gw_b0E hf
  refine gw_igetN (ci := 1) (k := 3) (T := TX2) C hP rfl in_X2 (by decide) e6 q165 rfl dX1_isFlow_5 (fun hP => ?_)
  refine lv_iconst (v := (1 : Int32)) hx hb dX1_isFlow_8 (by decide) ?_
  refine lv_isub hx hb dX1_isFlow_9 ?_
  refine lv_iconst (v := (1 : Int32)) hx hb dX1_isFlow_10 (by decide) ?_
  obtain ⟨x7, t8, c8, s8, C8, S8, e9, hf, hk, hn⟩ := gw_bcE hf hk hn
  refine gw_newa (atype := .int) C hP hS e9 q290 rfl rfl (fun h => h) rfl (by decide) (Nat.le.intro hk) (Nat.le.intro hn) dX1_isFlow_11 (fun H hP hS => ?_)
  refine lv_dup hx hb dX1_isFlow_13 rfl ?_
  refine lv_iconst (v := (0 : Int32)) hx hb dX1_isFlow_14 (by decide) ?_
  refine lv_iload_n hx hb dX1_isFlow_15 rfl (lv_at hl 1 rfl) ?_
  obtain ⟨x10, t11, e12, hf⟩ := gw_b0E hf
  refine gw_iast C hP hS e12 dX1_isFlow_16 (fun H locs hP hS => ?_)
  obtain ⟨x13, t14, e15, hf⟩ := gw_b0E hf
  refine gw_cSi (As := [.int (0 : Int32), .int (x4 - (1 : Int32)), .ref x7]) (rest := []) C hml hP hS (mx_X1_areIn (l := l) (K := K) hA _ _ _ _ _ _ e15) (va_cwS 3 hts (lw_S q956 q957 q101 q958) rfl rfl rfl hdX1_areIn ⟨Nat.le_of_ble_eq_true rfl, Nat.le_of_ble_eq_true rfl⟩) rfl hl.1 rfl (Nat.le_of_ble_eq_true rfl) (Nat.le.intro hk) (Nat.le.intro hn) dX1_isFlow_17 (fun H locs hP hS => ?_)
  obtain ⟨h0, h1, h2, h3, h4⟩ := gw_rzE hf hk hn
  exact gw_iretz h0 h1 h2 h3 h4 C hr hP hS hlk dX1_isFlow_20
def fx_X1_has_J15  (w15_0 : Int32) : HM Int32 :=
  tw_rz w15_0
def fx_X1_has (a0 : Int32) (a1 : Int32) : HM Int32 :=
   tw_bd (gw_bt a1) fun x1 =>
  if (a0 &&& x1) = 0 then (fx_X1_has_J15 (0 : Int32))
  else (fx_X1_has_J15 (1 : Int32))
theorem hdX1_has : (yX1_has.cls ≠ "java/lang/invoke/MethodHandle" ∧ yX1_has.cls ≠ "java/lang/invoke/VarHandle" ∧ (parseMethodDescriptor yX1_has.desc).map (fun d => d.parameters.length) = some 2) := by decide +kernel
set_option maxHeartbeats 4000000 in
theorem mx_X1_has {l : Launch} {K : GK} (hA : gw_A K) (a0 : Int32) (a1 : Int32) (t0 tZ : Hp) (r : Int32) (hf : fx_X1_has a0 a1 t0 = some (r, tZ)) : Met l yX1_has (ws_ yX1_has cX1_has 2 (some (.boolean))) ({ frames := 2, cells := 0, slots := 0, locals := 12 }) (va_Pc [.int a0, .int a1] (gw_W K t0)) (gw_Qi K r tZ) 0 0 K.2.2.2.1 := by
  refine Met.ofW (cc := cX1_has) (maxL := 2) (ret := some (.boolean)) (by decide) rfl ?_
  intro p e s m args below meth c s₁ B hml hv
  obtain ⟨rfl, hP, hK, hX, hN, hL⟩ := hv
  have hx := B.exec
  have hb := B.bytes
  have hr := B.returns
  have hts := atoms_spec (ws := (ws_ yX1_has cX1_has 2 (some (.boolean)))) B.pre
  have hts : ∀ w ∈ lw_all, w.before _ s = true := fun w h => hts w (List.mem_cons_of_mem _ h)
  have hown : s.vm.findClass "LosslessFabric" = some m.cls := findClass_of_methodNamed B.named
  have hlk := B.notSynchronized
  have C : gw_C K "LosslessFabric" p s m _ c cX1_has := ⟨hx, hb, hts, hown, hK, hA, hX, hN, hL⟩
  have hS : va_S K.2.2.2.1 s.heap s.heap [] := va_S.rf
  have hl := lv_entry ([.int a0, .int a1]) (n := 2) (Nat.le_of_ble_eq_true rfl)
  rw [lg_entry_eq]
  generalize (lg_sl ([.int a0, .int a1]) ++ List.replicate (2 - (lg_sl ([.int a0, .int a1])).length) Slot.unset).toArray = ls at hl ⊢
  have hl : lv_has ls 2 [(0, .int a0), (1, .int a1)] := hl
  unfold fx_X1_has at hf
  refine lv_iload_n hx hb dX1_has_0 rfl (lv_at hl 0 rfl) ?_
  refine va_gets hx hb hX.2.2.2.2.2.1 hS hown (hts _ q1015) (fun _ h => h) dX1_has_1 ?_
  refine lv_iload_n hx hb dX1_has_4 rfl (lv_at hl 1 rfl) ?_
  obtain ⟨x1, t2, e3, hf⟩ := tw_bdE hf
  refine gw_bits C hS e3 dX1_has_5 (fun ht => ?_)
  rw [ht] at hP
  refine lv_iand hx hb dX1_has_6 ?_
  have k15 : ∀ (w15_0 : Int32) (t4 : Hp) (H : Heap) (locs : List Loc) (ls : Array Slot), gw_P K t4 H → va_S K.2.2.2.1 s.heap H locs → lv_has ls 2 [] → fx_X1_has_J15 w15_0 t4 = some (r, tZ) → W p l e (headSpec (ws_ yX1_has cX1_has 2 (some (.boolean))) ({ frames := 2, cells := 0, slots := 0, locals := 12 })).room s m ([.int a0, .int a1] : List Value).toArray below meth c H locs 0 0 (MQ below (gw_Qi K r tZ) ([.int a0, .int a1] : List Value).toArray s 0 0 K.2.2.2.1) (F0 m 15 ls [.int w15_0]) := by
    intro w15_0 t4 H locs ls hP hS hl hf
    unfold fx_X1_has_J15 at hf
    obtain ⟨h0, h1, h2⟩ := tw_rzE hf
    exact gw_iretz h0 h1 h2 rfl rfl C hr hP hS hlk dX1_has_15
  refine lv_if_eq (tgt := 14) hx hb dX1_has_7 (by decide) (fun hc => ?_) (fun hc => ?_)
  · have hf := tw_ifT hc hf
    refine lv_iconst (v := (0 : Int32)) hx hb dX1_has_14 (by decide) ?_
    exact k15 _ _ _ _ _ hP hS (lv_sub hl [] rfl) hf
  · have hf := tw_ifF hc hf
    refine lv_iconst (v := (1 : Int32)) hx hb dX1_has_10 (by decide) ?_
    refine lv_goto (tgt := 15) hx hb dX1_has_11 (by decide) ?_
    exact k15 _ _ _ _ _ hP hS (lv_sub hl [] rfl) hf
def fx_X13_goesBy_J24  (w24_0 : Int32) : HM Int32 :=
  tw_rz w24_0
def fx_X13_goesBy (a0 : Nat) (a1 : Int32) (a2 : Int32) : HM Int32 :=
  tw_bd (gw_gr 12 6 a0) fun x1 =>
  tw_bd (gw_gr 0 4 x1) fun x4 =>
  tw_bd (gw_gr 1 1 x4) fun x7 =>
  tw_bd (gw_lr 5 x7 a1) fun x10 =>
  tw_bd (gw_on 9 x10 (fx_X10_at x10 a2)) fun x13 =>
  if x13 < 0 then (fx_X13_goesBy_J24 (0 : Int32))
  else (fx_X13_goesBy_J24 (1 : Int32))
theorem hdX13_goesBy : yX13_goesBy.cls = "LosslessFabric$Fair" ∧ (yX13_goesBy.cls ≠ "java/lang/invoke/MethodHandle" ∧ yX13_goesBy.cls ≠ "java/lang/invoke/VarHandle" ∧ (parseMethodDescriptor yX13_goesBy.desc).map (fun d => d.parameters.length) = some 2) := by decide +kernel
set_option maxHeartbeats 4000000 in
theorem mx_X13_goesBy {l : Launch} {K : GK} (hA : gw_A K) (a0 : Nat) (a1 : Int32) (a2 : Int32) (t0 tZ : Hp) (r : Int32) (hf : fx_X13_goesBy a0 a1 a2 t0 = some (r, tZ)) : Met l yX13_goesBy (ws_ yX13_goesBy cX13_goesBy 3 (some (.boolean))) ({ frames := 3, cells := 0, slots := 0, locals := 34 }) (va_Pc [.ref a0, .int a1, .int a2] (gw_W K t0)) (gw_Qi K r tZ) 0 0 K.2.2.2.1 := by
  refine Met.ofW (cc := cX13_goesBy) (maxL := 3) (ret := some (.boolean)) (by decide) rfl ?_
  intro p e s m args below meth c s₁ B hml hv
  obtain ⟨rfl, hP, hK, hX, hN, hL⟩ := hv
  have hx := B.exec
  have hb := B.bytes
  have hr := B.returns
  have hts := atoms_spec (ws := (ws_ yX13_goesBy cX13_goesBy 3 (some (.boolean)))) B.pre
  have hts : ∀ w ∈ lw_all, w.before _ s = true := fun w h => hts w (List.mem_cons_of_mem _ h)
  have hown : s.vm.findClass "LosslessFabric$Fair" = some m.cls := findClass_of_methodNamed B.named
  have hlk := B.notSynchronized
  have C : gw_C K "LosslessFabric$Fair" p s m _ c cX13_goesBy := ⟨hx, hb, hts, hown, hK, hA, hX, hN, hL⟩
  have hS : va_S K.2.2.2.1 s.heap s.heap [] := va_S.rf
  have hl := lv_entry ([.ref a0, .int a1, .int a2]) (n := 3) (Nat.le_of_ble_eq_true rfl)
  rw [lg_entry_eq]
  generalize (lg_sl ([.ref a0, .int a1, .int a2]) ++ List.replicate (3 - (lg_sl ([.ref a0, .int a1, .int a2])).length) Slot.unset).toArray = ls at hl ⊢
  have hl : lv_has ls 3 [(0, .ref a0), (1, .int a1), (2, .int a2)] := hl
  unfold fx_X13_goesBy at hf
  refine lv_aload_n hx hb dX13_goesBy_0 rfl (lv_at hl 0 rfl) ?_
  obtain ⟨x1, t2, e3, hf⟩ := tw_bdE hf
  refine gw_rget (ci := 12) (k := 6) (T := TX13) C hP rfl in_X13 (by decide) e3 q1164 rfl dX13_goesBy_1 (fun hP => ?_)
  obtain ⟨x4, t5, e6, hf⟩ := tw_bdE hf
  refine gw_rgetN (ci := 0) (k := 4) (T := TX1) C hP rfl in_X1 (by decide) e6 q395 rfl dX13_goesBy_4 (fun hP => ?_)
  obtain ⟨x7, t8, e9, hf⟩ := tw_bdE hf
  refine gw_rgetN (ci := 1) (k := 1) (T := TX2) C hP rfl in_X2 (by decide) e9 q152 rfl dX13_goesBy_7 (fun hP => ?_)
  refine lv_iload_n hx hb dX13_goesBy_10 rfl (lv_at hl 1 rfl) ?_
  obtain ⟨x10, t11, e12, hf⟩ := tw_bdE hf
  refine gw_aald C hP rfl e12 dX13_goesBy_11 (fun hP => ?_)
  refine lv_iload_n hx hb dX13_goesBy_12 rfl (lv_at hl 2 rfl) ?_
  obtain ⟨x13, t14, e15, hf⟩ := tw_bdE hf
  refine gw_cVi (As := [.int a2]) (rest := []) (ci := 9) (T := TX10) (N := 5) C hml hP hS rfl (gw_onE e15).1 (mx_X10_at (l := l) (K := K) hA _ _ _ _ _ (gw_onE e15).2) (cwV 1 hts (lw_V q1143 q797 q798 q118 q799) rfl rfl rfl hdX10_at ⟨Nat.le_of_ble_eq_true rfl, Nat.le_of_ble_eq_true rfl⟩) rfl hl.1 rfl (Nat.le_of_ble_eq_true rfl) (Nat.zero_le _) (Nat.zero_le _) dX13_goesBy_13 (fun H locs hP hS => ?_)
  have k24 : ∀ (w24_0 : Int32) (t16 : Hp) (H : Heap) (locs : List Loc) (ls : Array Slot), gw_P K t16 H → va_S K.2.2.2.1 s.heap H locs → lv_has ls 3 [] → fx_X13_goesBy_J24 w24_0 t16 = some (r, tZ) → W p l e (headSpec (ws_ yX13_goesBy cX13_goesBy 3 (some (.boolean))) ({ frames := 3, cells := 0, slots := 0, locals := 34 })).room s m ([.ref a0, .int a1, .int a2] : List Value).toArray below meth c H locs 0 0 (MQ below (gw_Qi K r tZ) ([.ref a0, .int a1, .int a2] : List Value).toArray s 0 0 K.2.2.2.1) (F0 m 24 ls [.int w24_0]) := by
    intro w24_0 t16 H locs ls hP hS hl hf
    unfold fx_X13_goesBy_J24 at hf
    obtain ⟨h0, h1, h2⟩ := tw_rzE hf
    exact gw_iretz h0 h1 h2 rfl rfl C hr hP hS hlk dX13_goesBy_24
  refine lv_if_lt (tgt := 23) hx hb dX13_goesBy_16 (by decide) (fun hc => ?_) (fun hc => ?_)
  · have hf := tw_ifT hc hf
    refine lv_iconst (v := (0 : Int32)) hx hb dX13_goesBy_23 (by decide) ?_
    exact k24 _ _ _ _ _ hP hS (lv_sub hl [] rfl) hf
  · have hf := tw_ifF hc hf
    refine lv_iconst (v := (1 : Int32)) hx hb dX13_goesBy_19 (by decide) ?_
    refine lv_goto (tgt := 24) hx hb dX13_goesBy_20 (by decide) ?_
    exact k24 _ _ _ _ _ hP hS (lv_sub hl [] rfl) hf
def fx_X13_less (a0 : Nat) (a1 : Int64) (a3 : Int64) : HM Unit :=
  tw_bd (gw_gl 12 4 a0) fun x1 =>
  tw_bd (gw_gl 12 5 a0) fun x4 =>
  tw_bd (gw_pl 12 4 a0 ((x1 * a3) - (a1 * x4))) fun _ =>
  tw_bd (gw_gl 12 5 a0) fun x10 =>
  tw_bd (gw_pl 12 5 a0 (x10 * a3)) fun _ =>
  tw_bd (gw_gl 12 5 a0) fun x16 =>
  tw_bd (gw_gl 12 4 a0) fun x19 =>
  tw_bd (fx_X1_common x16 x19) fun x22 =>
  tw_bd (gw_gl 12 4 a0) fun x25 =>
  tw_bd (tw_nl x22) fun _ =>
  tw_bd (gw_pl 12 4 a0 (x25 / x22)) fun _ =>
  tw_bd (gw_gl 12 5 a0) fun x34 =>
  tw_bd (tw_nl x22) fun _ =>
  tw_bd (gw_pl 12 5 a0 (x34 / x22)) fun _ =>
  tw_rt ()
theorem hdX13_less : yX13_less.cls = "LosslessFabric$Fair" ∧ (yX13_less.cls ≠ "java/lang/invoke/MethodHandle" ∧ yX13_less.cls ≠ "java/lang/invoke/VarHandle" ∧ (parseMethodDescriptor yX13_less.desc).map (fun d => d.parameters.length) = some 2) := by decide +kernel
set_option maxHeartbeats 4000000 in
theorem mx_X13_less {l : Launch} {K : GK} (hA : gw_A K) (a0 : Nat) (a1 : Int64) (a3 : Int64) (t0 tZ : Hp) (r : Unit) (hf : fx_X13_less a0 a1 a3 t0 = some (r, tZ)) : Met l yX13_less (ws_ yX13_less cX13_less 7 (none)) ({ frames := 3, cells := 0, slots := 0, locals := 41 }) (va_Pc [.ref a0, .long a1, .long a3] (gw_W K t0)) (gw_Qv K tZ) 0 0 K.2.2.2.1 := by
  refine Met.ofW (cc := cX13_less) (maxL := 7) (ret := none) (by decide) rfl ?_
  intro p e s m args below meth c s₁ B hml hv
  obtain ⟨rfl, hP, hK, hX, hN, hL⟩ := hv
  have hx := B.exec
  have hb := B.bytes
  have hr := B.returns
  have hts := atoms_spec (ws := (ws_ yX13_less cX13_less 7 (none))) B.pre
  have hts : ∀ w ∈ lw_all, w.before _ s = true := fun w h => hts w (List.mem_cons_of_mem _ h)
  have hown : s.vm.findClass "LosslessFabric$Fair" = some m.cls := findClass_of_methodNamed B.named
  have hlk := B.notSynchronized
  have C : gw_C K "LosslessFabric$Fair" p s m _ c cX13_less := ⟨hx, hb, hts, hown, hK, hA, hX, hN, hL⟩
  have hS : va_S K.2.2.2.1 s.heap s.heap [] := va_S.rf
  have hl := lv_entry ([.ref a0, .long a1, .long a3]) (n := 7) (Nat.le_of_ble_eq_true rfl)
  rw [lg_entry_eq]
  generalize (lg_sl ([.ref a0, .long a1, .long a3]) ++ List.replicate (7 - (lg_sl ([.ref a0, .long a1, .long a3])).length) Slot.unset).toArray = ls at hl ⊢
  have hl : lv_has ls 7 [(0, .ref a0), (1, .long a1), (3, .long a3)] := hl
  unfold fx_X13_less at hf
  refine lv_aload_n hx hb dX13_less_0 rfl (lv_at hl 0 rfl) ?_
  refine lv_aload_n hx hb dX13_less_1 rfl (lv_at hl 0 rfl) ?_
  obtain ⟨x1, t2, e3, hf⟩ := tw_bdE hf
  refine gw_lget (ci := 12) (k := 4) (T := TX13) C hP rfl in_X13 (by decide) e3 q1162 rfl dX13_less_2 (fun hP => ?_)
  refine lv_lload_n hx hb dX13_less_5 rfl (lv_at hl 2 rfl) ?_
  refine lv_lmul hx hb dX13_less_6 ?_
  refine lv_lload_n hx hb dX13_less_7 rfl (lv_at hl 1 rfl) ?_
  refine lv_aload_n hx hb dX13_less_8 rfl (lv_at hl 0 rfl) ?_
  obtain ⟨x4, t5, e6, hf⟩ := tw_bdE hf
  refine gw_lget (ci := 12) (k := 5) (T := TX13) C hP rfl in_X13 (by decide) e6 q1163 rfl dX13_less_9 (fun hP => ?_)
  refine lv_lmul hx hb dX13_less_12 ?_
  refine lv_lsub hx hb dX13_less_13 ?_
  obtain ⟨x7, t8, e9, hf⟩ := tw_bdE hf
  refine gw_vput (ci := 12) (k := 4) (T := TX13) C hP hS rfl in_X13 tyX13 tyX13_ok nmX13 (by decide) e9 q1162 rfl rfl rfl rfl dX13_less_14 (fun H locs hP hS => ?_)
  refine lv_aload_n hx hb dX13_less_17 rfl (lv_at hl 0 rfl) ?_
  refine lv_dup hx hb dX13_less_18 rfl ?_
  obtain ⟨x10, t11, e12, hf⟩ := tw_bdE hf
  refine gw_lget (ci := 12) (k := 5) (T := TX13) C hP rfl in_X13 (by decide) e12 q1163 rfl dX13_less_19 (fun hP => ?_)
  refine lv_lload_n hx hb dX13_less_22 rfl (lv_at hl 2 rfl) ?_
  refine lv_lmul hx hb dX13_less_23 ?_
  obtain ⟨x13, t14, e15, hf⟩ := tw_bdE hf
  refine gw_vput (ci := 12) (k := 5) (T := TX13) C hP hS rfl in_X13 tyX13 tyX13_ok nmX13 (by decide) e15 q1163 rfl rfl rfl rfl dX13_less_24 (fun H locs hP hS => ?_)
  refine lv_aload_n hx hb dX13_less_27 rfl (lv_at hl 0 rfl) ?_
  obtain ⟨x16, t17, e18, hf⟩ := tw_bdE hf
  refine gw_lget (ci := 12) (k := 5) (T := TX13) C hP rfl in_X13 (by decide) e18 q1163 rfl dX13_less_28 (fun hP => ?_)
  refine lv_aload_n hx hb dX13_less_31 rfl (lv_at hl 0 rfl) ?_
  obtain ⟨x19, t20, e21, hf⟩ := tw_bdE hf
  refine gw_lget (ci := 12) (k := 4) (T := TX13) C hP rfl in_X13 (by decide) e21 q1162 rfl dX13_less_32 (fun hP => ?_)
  obtain ⟨x22, t23, e24, hf⟩ := tw_bdE hf
  refine gw_cKl (As := [.long x16, .long x19]) (rest := []) C hml hP hS (mx_X1_common (l := l) (K := K) hA _ _ _ _ _ e24) ⟨va_cnB 2 hts (lw_meth q1153) rfl rfl rfl (hN _ q1151 rfl) (hts _ q101) hdX1_common ⟨Nat.le_of_ble_eq_true rfl, Nat.le_of_ble_eq_true rfl⟩, hts _ q1152, trivial⟩ rfl hl.1 rfl (Nat.le_of_ble_eq_true rfl) (Nat.zero_le _) (Nat.zero_le _) dX13_less_35 (fun H locs hP hS => ?_)
  refine lv_lstore (lv' := [(5, .long x22), (0, .ref a0), (1, .long a1), (3, .long a3)]) hx hb dX13_less_38 hl (by decide) rfl (fun ls hl => ?_)
  refine lv_aload_n hx hb dX13_less_40 rfl (lv_at hl 1 rfl) ?_
  refine lv_dup hx hb dX13_less_41 rfl ?_
  obtain ⟨x25, t26, e27, hf⟩ := tw_bdE hf
  refine gw_lget (ci := 12) (k := 4) (T := TX13) C hP rfl in_X13 (by decide) e27 q1162 rfl dX13_less_42 (fun hP => ?_)
  refine lv_lload hx hb dX13_less_45 (lv_at hl 0 rfl) ?_
  obtain ⟨w28, t29, e30, hf⟩ := tw_bdE hf
  rw [← (tw_nlE e30).2] at hf
  refine lv_ldiv hx hb dX13_less_47 (tw_nlE e30).1 ?_
  obtain ⟨x31, t32, e33, hf⟩ := tw_bdE hf
  refine gw_vput (ci := 12) (k := 4) (T := TX13) C hP hS rfl in_X13 tyX13 tyX13_ok nmX13 (by decide) e33 q1162 rfl rfl rfl rfl dX13_less_48 (fun H locs hP hS => ?_)
  refine lv_aload_n hx hb dX13_less_51 rfl (lv_at hl 1 rfl) ?_
  refine lv_dup hx hb dX13_less_52 rfl ?_
  obtain ⟨x34, t35, e36, hf⟩ := tw_bdE hf
  refine gw_lget (ci := 12) (k := 5) (T := TX13) C hP rfl in_X13 (by decide) e36 q1163 rfl dX13_less_53 (fun hP => ?_)
  refine lv_lload hx hb dX13_less_56 (lv_at hl 0 rfl) ?_
  obtain ⟨w37, t38, e39, hf⟩ := tw_bdE hf
  rw [← (tw_nlE e39).2] at hf
  refine lv_ldiv hx hb dX13_less_58 (tw_nlE e39).1 ?_
  obtain ⟨x40, t41, e42, hf⟩ := tw_bdE hf
  refine gw_vput (ci := 12) (k := 5) (T := TX13) C hP hS rfl in_X13 tyX13 tyX13_ok nmX13 (by decide) e42 q1163 rfl rfl rfl rfl dX13_less_59 (fun H locs hP hS => ?_)
  exact gw_iretv (tw_rtE hf).2 rfl rfl C hr hP hS hlk dX13_less_62