def fx_X1_leaves (a0 : Nat) (a1 : Nat) (a2 : Int32) (a3 : Int32) (a4 : Int32) : HM Unit :=
  if a4 = 0 then (tw_rt ())
  else (tw_bd (gw_gr 0 4 a0) fun x1 =>
  tw_bd (gw_gr 1 1 x1) fun x4 =>
  tw_bd (gw_lr 5 x4 a3) fun x7 =>
  tw_bd (gw_gr 2 3 a1) fun x10 =>
  tw_bd (gw_lr 7 x10 a3) fun x13 =>
  tw_bd (gw_on 9 x7 (fx_X10_at x7 a2)) fun x16 =>
  tw_bd (gw_gr 2 2 a1) fun x19 =>
  tw_bd (gw_lr 6 x19 a2) fun x22 =>
  tw_bd (gw_gi 3 9 x22) fun x25 =>
  tw_bd (gw_pi 3 9 x22 (x25 + a4)) fun _ =>
  if x16 ≤ 0 then (tw_bd (gw_gi 4 6 x13) fun x31 =>
  tw_bd (gw_pi 4 6 x13 (x31 - ((16 : Int32) * a4))) fun _ =>
  tw_bd (gw_gi 4 2 x13) fun x37 =>
  tw_bd (gw_pi 4 2 x13 (x37 + a4)) fun _ =>
  tw_bd (gw_gi 4 9 x13) fun x43 =>
  tw_bd (gw_pi 4 9 x13 (x43 + a4)) fun _ =>
  tw_rt ())
  else (tw_bd (gw_gr 2 2 a1) fun x49 =>
  tw_bd (gw_gr 9 2 x7) fun x52 =>
  tw_bd (gw_ld 0 x52 (x16 - (1 : Int32))) fun x55 =>
  tw_bd (gw_lr 6 x49 x55) fun x58 =>
  tw_bd (gw_gr 3 0 x58) fun x61 =>
  tw_bd (gw_ld 0 x61 a3) fun x64 =>
  tw_bd (gw_st x61 a3 (x64 - a4)) fun _ =>
  tw_rt ()))
theorem hdX1_leaves : yX1_leaves.cls = "LosslessFabric" ∧ (yX1_leaves.cls ≠ "java/lang/invoke/MethodHandle" ∧ yX1_leaves.cls ≠ "java/lang/invoke/VarHandle" ∧ (parseMethodDescriptor yX1_leaves.desc).map (fun d => d.parameters.length) = some 4) := by decide +kernel
set_option maxHeartbeats 4000000 in
theorem mx_X1_leaves {l : Launch} {K : GK} (hA : gw_A K) (a0 : Nat) (a1 : Nat) (a2 : Int32) (a3 : Int32) (a4 : Int32) (t0 tZ : Hp) (r : Unit) (hf : fx_X1_leaves a0 a1 a2 a3 a4 t0 = some (r, tZ)) : Met l yX1_leaves (ws_ yX1_leaves cX1_leaves 8 (none)) ({ frames := 3, cells := 0, slots := 0, locals := 34 }) (va_Pc [.ref a0, .ref a1, .int a2, .int a3, .int a4] (gw_W K t0)) (gw_Qv K tZ) 0 0 K.2.2.2.1 := by
  refine Met.ofW (cc := cX1_leaves) (maxL := 8) (ret := none) (by decide) rfl ?_
  intro p e s m args below meth c s₁ B hml hv
  obtain ⟨rfl, hP, hK, hX, hN, hL⟩ := hv
  have hx := B.exec
  have hb := B.bytes
  have hr := B.returns
  have hts := atoms_spec (ws := (ws_ yX1_leaves cX1_leaves 8 (none))) B.pre
  have hts : ∀ w ∈ lw_all, w.before _ s = true := fun w h => hts w (List.mem_cons_of_mem _ h)
  have hown : s.vm.findClass "LosslessFabric" = some m.cls := findClass_of_methodNamed B.named
  have hlk := B.notSynchronized
  have C : gw_C K "LosslessFabric" p s m _ c cX1_leaves := ⟨hx, hb, hts, hown, hK, hA, hX, hN, hL⟩
  have hS : va_S K.2.2.2.1 s.heap s.heap [] := va_S.rf
  have hl := lv_entry ([.ref a0, .ref a1, .int a2, .int a3, .int a4]) (n := 8) (Nat.le_of_ble_eq_true rfl)
  rw [lg_entry_eq]
  generalize (lg_sl ([.ref a0, .ref a1, .int a2, .int a3, .int a4]) ++ List.replicate (8 - (lg_sl ([.ref a0, .ref a1, .int a2, .int a3, .int a4])).length) Slot.unset).toArray = ls at hl ⊢
  have hl : lv_has ls 8 [(0, .ref a0), (1, .ref a1), (2, .int a2), (3, .int a3), (4, .int a4)] := hl
  unfold fx_X1_leaves at hf
  refine lv_iload hx hb dX1_leaves_0 (lv_at hl 4 rfl) ?_
  refine lv_if_ne (tgt := 6) hx hb dX1_leaves_2 (by decide) (fun hc => ?_) (fun hc => ?_)
  · have hf := tw_ifF hc hf
    refine lv_aload_n hx hb dX1_leaves_6 rfl (lv_at hl 0 rfl) ?_
    obtain ⟨x1, t2, e3, hf⟩ := tw_bdE hf
    refine gw_rget (ci := 0) (k := 4) (T := TX1) C hP rfl in_X1 (by decide) e3 q394 rfl dX1_leaves_7 (fun hP => ?_)
    obtain ⟨x4, t5, e6, hf⟩ := tw_bdE hf
    refine gw_rgetN (ci := 1) (k := 1) (T := TX2) C hP rfl in_X2 (by decide) e6 q154 rfl dX1_leaves_10 (fun hP => ?_)
    refine lv_iload_n hx hb dX1_leaves_13 rfl (lv_at hl 3 rfl) ?_
    obtain ⟨x7, t8, e9, hf⟩ := tw_bdE hf
    refine gw_aald C hP rfl e9 dX1_leaves_14 (fun hP => ?_)
    refine lv_astore (lv' := [(5, .ref x7), (0, .ref a0), (1, .ref a1), (2, .int a2), (3, .int a3), (4, .int a4)]) hx hb dX1_leaves_15 hl (by decide) rfl (fun ls hl => ?_)
    refine lv_aload_n hx hb dX1_leaves_17 rfl (lv_at hl 2 rfl) ?_
    obtain ⟨x10, t11, e12, hf⟩ := tw_bdE hf
    refine gw_rgetN (ci := 2) (k := 3) (T := TX3) C hP rfl in_X3 (by decide) e12 q358 rfl dX1_leaves_18 (fun hP => ?_)
    refine lv_iload_n hx hb dX1_leaves_21 rfl (lv_at hl 4 rfl) ?_
    obtain ⟨x13, t14, e15, hf⟩ := tw_bdE hf
    refine gw_aald C hP rfl e15 dX1_leaves_22 (fun hP => ?_)
    refine lv_astore (lv' := [(6, .ref x13), (5, .ref x7), (0, .ref a0), (1, .ref a1), (2, .int a2), (3, .int a3), (4, .int a4)]) hx hb dX1_leaves_23 hl (by decide) rfl (fun ls hl => ?_)
    refine lv_aload hx hb dX1_leaves_25 (lv_at hl 1 rfl) ?_
    refine lv_iload_n hx hb dX1_leaves_27 rfl (lv_at hl 4 rfl) ?_
    obtain ⟨x16, t17, e18, hf⟩ := tw_bdE hf
    refine gw_cVi (As := [.int a2]) (rest := []) (ci := 9) (T := TX10) (N := 5) C hml hP hS rfl (gw_onE e18).1 (mx_X10_at (l := l) (K := K) hA _ _ _ _ _ (gw_onE e18).2) (cwV 1 hts (lw_V q874 q797 q798 q118 q799) rfl rfl rfl hdX10_at ⟨Nat.le_of_ble_eq_true rfl, Nat.le_of_ble_eq_true rfl⟩) rfl hl.1 rfl (Nat.le_of_ble_eq_true rfl) (Nat.zero_le _) (Nat.zero_le _) dX1_leaves_28 (fun H locs hP hS => ?_)
    refine lv_istore (lv' := [(7, .int x16), (6, .ref x13), (5, .ref x7), (0, .ref a0), (1, .ref a1), (2, .int a2), (3, .int a3), (4, .int a4)]) hx hb dX1_leaves_31 hl (by decide) rfl (fun ls hl => ?_)
    refine lv_aload_n hx hb dX1_leaves_33 rfl (lv_at hl 4 rfl) ?_
    obtain ⟨x19, t20, e21, hf⟩ := tw_bdE hf
    refine gw_rgetN (ci := 2) (k := 2) (T := TX3) C hP rfl in_X3 (by decide) e21 q355 rfl dX1_leaves_34 (fun hP => ?_)
    refine lv_iload_n hx hb dX1_leaves_37 rfl (lv_at hl 5 rfl) ?_
    obtain ⟨x22, t23, e24, hf⟩ := tw_bdE hf
    refine gw_aald C hP rfl e24 dX1_leaves_38 (fun hP => ?_)
    refine lv_dup hx hb dX1_leaves_39 rfl ?_
    obtain ⟨x25, t26, e27, hf⟩ := tw_bdE hf
    refine gw_igetN (ci := 3) (k := 9) (T := TX4) C hP rfl in_X4 (by decide) e27 q259 rfl dX1_leaves_40 (fun hP => ?_)
    refine lv_iload hx hb dX1_leaves_43 (lv_at hl 7 rfl) ?_
    refine lv_iadd hx hb dX1_leaves_45 ?_
    obtain ⟨x28, t29, e30, hf⟩ := tw_bdE hf
    refine gw_vputN (ci := 3) (k := 9) (T := TX4) C hP hS rfl in_X4 tyX4 tyX4_ok nmX4 (by decide) e30 q259 rfl rfl (vp_nar_int _) rfl dX1_leaves_46 (fun H locs hP hS => ?_)
    refine lv_iload hx hb dX1_leaves_49 (lv_at hl 0 rfl) ?_
    refine lv_if_le (tgt := 80) hx hb dX1_leaves_51 (by decide) (fun hc => ?_) (fun hc => ?_)
    · have hf := tw_ifT hc hf
      refine lv_aload hx hb dX1_leaves_80 (lv_at hl 1 rfl) ?_
      refine lv_dup hx hb dX1_leaves_82 rfl ?_
      obtain ⟨x31, t32, e33, hf⟩ := tw_bdE hf
      refine gw_igetN (ci := 4) (k := 6) (T := TX5) C hP rfl in_X5 (by decide) e33 q314 rfl dX1_leaves_83 (fun hP => ?_)
      refine lv_bipush (v := (16 : Int32)) hx hb dX1_leaves_86 (by decide) ?_
      refine lv_iload hx hb dX1_leaves_88 (lv_at hl 7 rfl) ?_
      refine lv_imul hx hb dX1_leaves_90 ?_
      refine lv_isub hx hb dX1_leaves_91 ?_
      obtain ⟨x34, t35, e36, hf⟩ := tw_bdE hf
      refine gw_vputN (ci := 4) (k := 6) (T := TX5) C hP hS rfl in_X5 tyX5 tyX5_ok nmX5 (by decide) e36 q314 rfl rfl (vp_nar_int _) rfl dX1_leaves_92 (fun H locs hP hS => ?_)
      refine lv_aload hx hb dX1_leaves_95 (lv_at hl 1 rfl) ?_
      refine lv_dup hx hb dX1_leaves_97 rfl ?_
      obtain ⟨x37, t38, e39, hf⟩ := tw_bdE hf
      refine gw_igetN (ci := 4) (k := 2) (T := TX5) C hP rfl in_X5 (by decide) e39 q302 rfl dX1_leaves_98 (fun hP => ?_)
      refine lv_iload hx hb dX1_leaves_101 (lv_at hl 7 rfl) ?_
      refine lv_iadd hx hb dX1_leaves_103 ?_
      obtain ⟨x40, t41, e42, hf⟩ := tw_bdE hf
      refine gw_vputN (ci := 4) (k := 2) (T := TX5) C hP hS rfl in_X5 tyX5 tyX5_ok nmX5 (by decide) e42 q302 rfl rfl (vp_nar_int _) rfl dX1_leaves_104 (fun H locs hP hS => ?_)
      refine lv_aload hx hb dX1_leaves_107 (lv_at hl 1 rfl) ?_
      refine lv_dup hx hb dX1_leaves_109 rfl ?_
      obtain ⟨x43, t44, e45, hf⟩ := tw_bdE hf
      refine gw_igetN (ci := 4) (k := 9) (T := TX5) C hP rfl in_X5 (by decide) e45 q320 rfl dX1_leaves_110 (fun hP => ?_)
      refine lv_iload hx hb dX1_leaves_113 (lv_at hl 7 rfl) ?_
      refine lv_iadd hx hb dX1_leaves_115 ?_
      obtain ⟨x46, t47, e48, hf⟩ := tw_bdE hf
      refine gw_vputN (ci := 4) (k := 9) (T := TX5) C hP hS rfl in_X5 tyX5 tyX5_ok nmX5 (by decide) e48 q320 rfl rfl (vp_nar_int _) rfl dX1_leaves_116 (fun H locs hP hS => ?_)
      exact gw_iretv (tw_rtE hf).2 rfl rfl C hr hP hS hlk dX1_leaves_119
    · have hf := tw_ifF hc hf
      refine lv_aload_n hx hb dX1_leaves_54 rfl (lv_at hl 4 rfl) ?_
      obtain ⟨x49, t50, e51, hf⟩ := tw_bdE hf
      refine gw_rgetN (ci := 2) (k := 2) (T := TX3) C hP rfl in_X3 (by decide) e51 q355 rfl dX1_leaves_55 (fun hP => ?_)
      refine lv_aload hx hb dX1_leaves_58 (lv_at hl 2 rfl) ?_
      obtain ⟨x52, t53, e54, hf⟩ := tw_bdE hf
      refine gw_rgetN (ci := 9) (k := 2) (T := TX10) C hP rfl in_X10 (by decide) e54 q778 rfl dX1_leaves_60 (fun hP => ?_)
      refine lv_iload hx hb dX1_leaves_63 (lv_at hl 0 rfl) ?_
      refine lv_iconst (v := (1 : Int32)) hx hb dX1_leaves_65 (by decide) ?_
      refine lv_isub hx hb dX1_leaves_66 ?_
      obtain ⟨x55, t56, e57, hf⟩ := tw_bdE hf
      refine gw_iald C hP e57 dX1_leaves_67 (fun hP => ?_)
      obtain ⟨x58, t59, e60, hf⟩ := tw_bdE hf
      refine gw_aald C hP rfl e60 dX1_leaves_68 (fun hP => ?_)
      obtain ⟨x61, t62, e63, hf⟩ := tw_bdE hf
      refine gw_rgetN (ci := 3) (k := 0) (T := TX4) C hP rfl in_X4 (by decide) e63 q240 rfl dX1_leaves_69 (fun hP => ?_)
      refine lv_iload_n hx hb dX1_leaves_72 rfl (lv_at hl 6 rfl) ?_
      refine lv_dup2_11 hx hb dX1_leaves_73 rfl rfl ?_
      obtain ⟨x64, t65, e66, hf⟩ := tw_bdE hf
      refine gw_iald C hP e66 dX1_leaves_74 (fun hP => ?_)
      refine lv_iload hx hb dX1_leaves_75 (lv_at hl 7 rfl) ?_
      refine lv_isub hx hb dX1_leaves_77 ?_
      obtain ⟨x67, t68, e69, hf⟩ := tw_bdE hf
      refine gw_iast C hP hS e69 dX1_leaves_78 (fun H locs hP hS => ?_)
      exact gw_iretv (tw_rtE hf).2 rfl rfl C hr hP hS hlk dX1_leaves_79
  · have hf := tw_ifT hc hf
    exact gw_iretv (tw_rtE hf).2 rfl rfl C hr hP hS hlk dX1_leaves_5
def fx_X3_isPaused_J33  (w33_0 : Int32) : HM Int32 :=
  tw_rz w33_0
def fx_X3_isPaused (a0 : Nat) (a1 : Int32) : HM Int32 :=
  tw_bd (gw_gr 2 2 a0) fun x1 =>
  tw_bd (gw_lr 6 x1 a1) fun x4 =>
  tw_bd (gw_gi 3 4 x4) fun x7 =>
  tw_bd (gw_gr 2 0 a0) fun x10 =>
  tw_bd (gw_gr 1 0 x10) fun x13 =>
  tw_bd (gw_lr 4 x13 a1) fun x16 =>
  tw_bd (gw_gi 8 2 x16) fun x19 =>
  if ((x7 >>> (x19 &&& 31)) &&& (1 : Int32)) = (1 : Int32) then (fx_X3_isPaused_J33 (1 : Int32))
  else (fx_X3_isPaused_J33 (0 : Int32))
theorem hdX3_isPaused : yX3_isPaused.cls = "LosslessFabric$State" ∧ (yX3_isPaused.cls ≠ "java/lang/invoke/MethodHandle" ∧ yX3_isPaused.cls ≠ "java/lang/invoke/VarHandle" ∧ (parseMethodDescriptor yX3_isPaused.desc).map (fun d => d.parameters.length) = some 1) := by decide +kernel
set_option maxHeartbeats 4000000 in
theorem mx_X3_isPaused {l : Launch} {K : GK} (hA : gw_A K) (a0 : Nat) (a1 : Int32) (t0 tZ : Hp) (r : Int32) (hf : fx_X3_isPaused a0 a1 t0 = some (r, tZ)) : Met l yX3_isPaused (ws_ yX3_isPaused cX3_isPaused 2 (some (.boolean))) ({ frames := 2, cells := 0, slots := 0, locals := 12 }) (va_Pc [.ref a0, .int a1] (gw_W K t0)) (gw_Qi K r tZ) 0 0 K.2.2.2.1 := by
  refine Met.ofW (cc := cX3_isPaused) (maxL := 2) (ret := some (.boolean)) (by decide) rfl ?_
  intro p e s m args below meth c s₁ B hml hv
  obtain ⟨rfl, hP, hK, hX, hN, hL⟩ := hv
  have hx := B.exec
  have hb := B.bytes
  have hr := B.returns
  have hts := atoms_spec (ws := (ws_ yX3_isPaused cX3_isPaused 2 (some (.boolean)))) B.pre
  have hts : ∀ w ∈ lw_all, w.before _ s = true := fun w h => hts w (List.mem_cons_of_mem _ h)
  have hown : s.vm.findClass "LosslessFabric$State" = some m.cls := findClass_of_methodNamed B.named
  have hlk := B.notSynchronized
  have C : gw_C K "LosslessFabric$State" p s m _ c cX3_isPaused := ⟨hx, hb, hts, hown, hK, hA, hX, hN, hL⟩
  have hS : va_S K.2.2.2.1 s.heap s.heap [] := va_S.rf
  have hl := lv_entry ([.ref a0, .int a1]) (n := 2) (Nat.le_of_ble_eq_true rfl)
  rw [lg_entry_eq]
  generalize (lg_sl ([.ref a0, .int a1]) ++ List.replicate (2 - (lg_sl ([.ref a0, .int a1])).length) Slot.unset).toArray = ls at hl ⊢
  have hl : lv_has ls 2 [(0, .ref a0), (1, .int a1)] := hl
  unfold fx_X3_isPaused at hf
  refine lv_aload_n hx hb dX3_isPaused_0 rfl (lv_at hl 0 rfl) ?_
  obtain ⟨x1, t2, e3, hf⟩ := tw_bdE hf
  refine gw_rget (ci := 2) (k := 2) (T := TX3) C hP rfl in_X3 (by decide) e3 q354 rfl dX3_isPaused_1 (fun hP => ?_)
  refine lv_iload_n hx hb dX3_isPaused_4 rfl (lv_at hl 1 rfl) ?_
  obtain ⟨x4, t5, e6, hf⟩ := tw_bdE hf
  refine gw_aald C hP rfl e6 dX3_isPaused_5 (fun hP => ?_)
  obtain ⟨x7, t8, e9, hf⟩ := tw_bdE hf
  refine gw_igetN (ci := 3) (k := 4) (T := TX4) C hP rfl in_X4 (by decide) e9 q248 rfl dX3_isPaused_6 (fun hP => ?_)
  refine lv_aload_n hx hb dX3_isPaused_9 rfl (lv_at hl 0 rfl) ?_
  obtain ⟨x10, t11, e12, hf⟩ := tw_bdE hf
  refine gw_rget (ci := 2) (k := 0) (T := TX3) C hP rfl in_X3 (by decide) e12 q351 rfl dX3_isPaused_10 (fun hP => ?_)
  obtain ⟨x13, t14, e15, hf⟩ := tw_bdE hf
  refine gw_rgetN (ci := 1) (k := 0) (T := TX2) C hP rfl in_X2 (by decide) e15 q147 rfl dX3_isPaused_13 (fun hP => ?_)
  refine lv_iload_n hx hb dX3_isPaused_16 rfl (lv_at hl 1 rfl) ?_
  obtain ⟨x16, t17, e18, hf⟩ := tw_bdE hf
  refine gw_aald C hP rfl e18 dX3_isPaused_17 (fun hP => ?_)
  obtain ⟨x19, t20, e21, hf⟩ := tw_bdE hf
  refine gw_igetN (ci := 8) (k := 2) (T := TX9) C hP rfl in_X9 (by decide) e21 q734 rfl dX3_isPaused_18 (fun hP => ?_)
  refine lv_ishr hx hb dX3_isPaused_21 ?_
  refine lv_iconst (v := (1 : Int32)) hx hb dX3_isPaused_22 (by decide) ?_
  refine lv_iand hx hb dX3_isPaused_23 ?_
  refine lv_iconst (v := (1 : Int32)) hx hb dX3_isPaused_24 (by decide) ?_
  have k33 : ∀ (w33_0 : Int32) (t22 : Hp) (H : Heap) (locs : List Loc) (ls : Array Slot), gw_P K t22 H → va_S K.2.2.2.1 s.heap H locs → lv_has ls 2 [] → fx_X3_isPaused_J33 w33_0 t22 = some (r, tZ) → W p l e (headSpec (ws_ yX3_isPaused cX3_isPaused 2 (some (.boolean))) ({ frames := 2, cells := 0, slots := 0, locals := 12 })).room s m ([.ref a0, .int a1] : List Value).toArray below meth c H locs 0 0 (MQ below (gw_Qi K r tZ) ([.ref a0, .int a1] : List Value).toArray s 0 0 K.2.2.2.1) (F0 m 33 ls [.int w33_0]) := by
    intro w33_0 t22 H locs ls hP hS hl hf
    unfold fx_X3_isPaused_J33 at hf
    obtain ⟨h0, h1, h2⟩ := tw_rzE hf
    exact gw_iretz h0 h1 h2 rfl rfl C hr hP hS hlk dX3_isPaused_33
  refine lv_icmp_ne (tgt := 32) hx hb dX3_isPaused_25 (by decide) (fun hc => ?_) (fun hc => ?_)
  · have hf := tw_ifF hc hf
    refine lv_iconst (v := (0 : Int32)) hx hb dX3_isPaused_32 (by decide) ?_
    exact k33 _ _ _ _ _ hP hS (lv_sub hl [] rfl) hf
  · have hf := tw_ifT hc hf
    refine lv_iconst (v := (1 : Int32)) hx hb dX3_isPaused_28 (by decide) ?_
    refine lv_goto (tgt := 33) hx hb dX3_isPaused_29 (by decide) ?_
    exact k33 _ _ _ _ _ hP hS (lv_sub hl [] rfl) hf
def fx_X1_carries_L161 (a0 : Nat) (a2 : Int32) (a1 : Nat) (sf161 : Int32 → HM Unit) (v161_5 : Int32) : HM Unit :=
  tw_bd (gw_gr 0 4 a0) fun x24 =>
  tw_bd (gw_gi 1 3 x24) fun x27 =>
  if x27 ≤ v161_5 then (tw_rt ())
  else (tw_bd (gw_gr 0 6 a0) fun x30 =>
  tw_bd (gw_ld 0 x30 (((8 : Int32) * a2) + v161_5)) fun x33 =>
  tw_bd (gw_on 0 a0 (fx_X1_leaves a0 a1 a2 v161_5 x33)) fun _ =>
 
  sf161 (v161_5 + (1 : Int32)))
def fx_X1_carries_J158 (a0 : Nat) (a2 : Int32) (a1 : Nat)  : HM Unit :=
  tw_lp (fx_X1_carries_L161 a0 a2 a1) (fun _ _ => none) tw_fu (0 : Int32)
def fx_X1_carries_J155 (sf72 : Int32 → Int32 → HM Unit) (v87_3 : Int32) (v87_4 : Int32)  : HM Unit :=
  sf72 v87_3 v87_4
def fx_X1_carries_J149 (sf87 : Int32 → Int32 → Int32 → HM Unit) (v87_5 : Int32) (v149_3 : Int32) (v149_4 : Int32) : HM Unit :=
  sf87 v149_3 v149_4 (v87_5 + (1 : Int32))
def fx_X1_carries_L87 (a0 : Nat) (sf72 : Int32 → Int32 → HM Unit) (a2 : Int32) (sf87 : Int32 → Int32 → Int32 → HM Unit) (v87_3 : Int32) (v87_4 : Int32) (v87_5 : Int32) : HM Unit :=
  tw_bd (gw_gr 0 4 a0) fun x40 =>
  tw_bd (gw_gi 1 3 x40) fun x43 =>
  if x43 ≤ v87_5 then (fx_X1_carries_J155 sf72 v87_3 v87_4)
  else (if v87_3 ≤ 0 then (fx_X1_carries_J155 sf72 v87_3 v87_4)
  else (tw_bd (gw_gr 0 5 a0) fun x47 =>
  tw_bd (gw_ld 0 x47 (((8 : Int32) * a2) + v87_5)) fun x50 =>
  tw_bd (gw_gr 0 6 a0) fun x53 =>
  tw_bd (gw_ld 0 x53 (((8 : Int32) * a2) + v87_5)) fun x56 =>
  if x50 = x56 then (fx_X1_carries_J149 sf87 v87_5 v87_3 v87_4)
  else (tw_bd (gw_gr 0 6 a0) fun x60 =>
  tw_bd (gw_ld 0 x60 (((8 : Int32) * a2) + v87_5)) fun x63 =>
  tw_bd (gw_st x60 (((8 : Int32) * a2) + v87_5) (x63 + (1 : Int32))) fun _ =>
 
  fx_X1_carries_J149 sf87 v87_5 (v87_3 + (-1 : Int32)) (1 : Int32))))
def fx_X1_carries_L72 (a0 : Nat) (a2 : Int32) (a1 : Nat) (sf72 : Int32 → Int32 → HM Unit) (v72_3 : Int32) (v72_4 : Int32) : HM Unit :=
  if v72_4 = 0 then (fx_X1_carries_J158 a0 a2 a1)
  else (if v72_3 ≤ 0 then (fx_X1_carries_J158 a0 a2 a1)
  else (tw_lp (fx_X1_carries_L87 a0 sf72 a2) (fun _ _ _ _ => none) tw_fu v72_3 (0 : Int32) (0 : Int32)))
def fx_X1_carries_L38 (a0 : Nat) (a2 : Int32) (a1 : Nat) (w24_0 : Int32) (sf38 : Int32 → HM Unit) (v38_4 : Int32) : HM Unit :=
  tw_bd (gw_gr 0 4 a0) fun x15 =>
  tw_bd (gw_gi 1 3 x15) fun x18 =>
  if x18 ≤ v38_4 then (tw_lp (fx_X1_carries_L72 a0 a2 a1) (fun _ _ _ => none) tw_fu w24_0 (1 : Int32))
  else (tw_bd (gw_gr 0 6 a0) fun x69 =>
  tw_bd (gw_st x69 (((8 : Int32) * a2) + v38_4) (0 : Int32)) fun _ =>
 
  sf38 (v38_4 + (1 : Int32)))
def fx_X1_carries_J24 (a1 : Nat) (a2 : Int32) (a0 : Nat) (w24_0 : Int32) : HM Unit :=
  tw_bd (gw_gr 2 2 a1) fun x5 =>
  tw_bd (gw_lr 6 x5 a2) fun x8 =>
  tw_bd (gw_pi 3 9 x8 (0 : Int32)) fun _ =>
 
  tw_lp (fx_X1_carries_L38 a0 a2 a1 w24_0) (fun _ _ => none) tw_fu (0 : Int32)
def fx_X1_carries (a0 : Nat) (a1 : Nat) (a2 : Int32) : HM Unit :=
  tw_bd (gw_on 2 a1 (fx_X3_isPaused a1 a2)) fun x1 =>
  if x1 = 0 then (tw_bd (gw_gr 0 4 a0) fun x75 =>
  tw_bd (gw_gr 1 0 x75) fun x78 =>
  tw_bd (gw_lr 4 x78 a2) fun x81 =>
  tw_bd (gw_gi 8 1 x81) fun x84 =>
 
  fx_X1_carries_J24 a1 a2 a0 x84)
  else (fx_X1_carries_J24 a1 a2 a0 (0 : Int32))
theorem hdX1_carries : yX1_carries.cls = "LosslessFabric" ∧ (yX1_carries.cls ≠ "java/lang/invoke/MethodHandle" ∧ yX1_carries.cls ≠ "java/lang/invoke/VarHandle" ∧ (parseMethodDescriptor yX1_carries.desc).map (fun d => d.parameters.length) = some 2) := by decide +kernel
set_option maxHeartbeats 4000000 in
theorem mx_X1_carries {l : Launch} {K : GK} (hA : gw_A K) (a0 : Nat) (a1 : Nat) (a2 : Int32) (t0 tZ : Hp) (r : Unit) (hf : fx_X1_carries a0 a1 a2 t0 = some (r, tZ)) : Met l yX1_carries (ws_ yX1_carries cX1_carries 7 (none)) ({ frames := 4, cells := 0, slots := 0, locals := 61 }) (va_Pc [.ref a0, .ref a1, .int a2] (gw_W K t0)) (gw_Qv K tZ) 0 0 K.2.2.2.1 := by
  refine Met.ofW (cc := cX1_carries) (maxL := 7) (ret := none) (by decide) rfl ?_
  intro p e s m args below meth c s₁ B hml hv
  obtain ⟨rfl, hP, hK, hX, hN, hL⟩ := hv
  have hx := B.exec
  have hb := B.bytes
  have hr := B.returns
  have hts := atoms_spec (ws := (ws_ yX1_carries cX1_carries 7 (none))) B.pre
  have hts : ∀ w ∈ lw_all, w.before _ s = true := fun w h => hts w (List.mem_cons_of_mem _ h)
  have hown : s.vm.findClass "LosslessFabric" = some m.cls := findClass_of_methodNamed B.named
  have hlk := B.notSynchronized
  have C : gw_C K "LosslessFabric" p s m _ c cX1_carries := ⟨hx, hb, hts, hown, hK, hA, hX, hN, hL⟩
  have hS : va_S K.2.2.2.1 s.heap s.heap [] := va_S.rf
  have hl := lv_entry ([.ref a0, .ref a1, .int a2]) (n := 7) (Nat.le_of_ble_eq_true rfl)
  rw [lg_entry_eq]
  generalize (lg_sl ([.ref a0, .ref a1, .int a2]) ++ List.replicate (7 - (lg_sl ([.ref a0, .ref a1, .int a2])).length) Slot.unset).toArray = ls at hl ⊢
  have hl : lv_has ls 7 [(0, .ref a0), (1, .ref a1), (2, .int a2)] := hl
  unfold fx_X1_carries at hf
  refine lv_aload_n hx hb dX1_carries_0 rfl (lv_at hl 1 rfl) ?_
  refine lv_iload_n hx hb dX1_carries_1 rfl (lv_at hl 2 rfl) ?_
  obtain ⟨x1, t2, e3, hf⟩ := tw_bdE hf
  refine gw_cVi (As := [.int a2]) (rest := []) (ci := 2) (T := TX3) (N := 4) C hml hP hS rfl (gw_onE e3).1 (mx_X3_isPaused (l := l) (K := K) hA _ _ _ _ _ (gw_onE e3).2) (cwV 1 hts (lw_V q866 q867 q868 q103 q869) rfl rfl rfl hdX3_isPaused ⟨Nat.le_of_ble_eq_true rfl, Nat.le_of_ble_eq_true rfl⟩) rfl hl.1 rfl (Nat.le_of_ble_eq_true rfl) (Nat.zero_le _) (Nat.zero_le _) dX1_carries_2 (fun H locs hP hS => ?_)
  have k24 : ∀ (w24_0 : Int32) (t4 : Hp) (H : Heap) (locs : List Loc) (ls : Array Slot), gw_P K t4 H → va_S K.2.2.2.1 s.heap H locs → lv_has ls 7 [(0, .ref a0), (1, .ref a1), (2, .int a2)] → fx_X1_carries_J24 a1 a2 a0 w24_0 t4 = some (r, tZ) → W p l e (headSpec (ws_ yX1_carries cX1_carries 7 (none)) ({ frames := 4, cells := 0, slots := 0, locals := 61 })).room s m ([.ref a0, .ref a1, .int a2] : List Value).toArray below meth c H locs 0 0 (MQ below (gw_Qv K tZ) ([.ref a0, .ref a1, .int a2] : List Value).toArray s 0 0 K.2.2.2.1) (F0 m 24 ls [.int w24_0]) := by
    intro w24_0 t4 H locs ls hP hS hl hf
    unfold fx_X1_carries_J24 at hf
    refine lv_istore_n (lv' := [(3, .int w24_0), (0, .ref a0), (1, .ref a1), (2, .int a2)]) hx hb dX1_carries_24 rfl hl (by decide) rfl (fun ls hl => ?_)
    refine lv_aload_n hx hb dX1_carries_25 rfl (lv_at hl 2 rfl) ?_
    obtain ⟨x5, t6, e7, hf⟩ := tw_bdE hf
    refine gw_rgetN (ci := 2) (k := 2) (T := TX3) C hP rfl in_X3 (by decide) e7 q355 rfl dX1_carries_26 (fun hP => ?_)
    refine lv_iload_n hx hb dX1_carries_29 rfl (lv_at hl 3 rfl) ?_
    obtain ⟨x8, t9, e10, hf⟩ := tw_bdE hf
    refine gw_aald C hP rfl e10 dX1_carries_30 (fun hP => ?_)
    refine lv_iconst (v := (0 : Int32)) hx hb dX1_carries_31 (by decide) ?_
    obtain ⟨x11, t12, e13, hf⟩ := tw_bdE hf
    refine gw_vputN (ci := 3) (k := 9) (T := TX4) C hP hS rfl in_X4 tyX4 tyX4_ok nmX4 (by decide) e13 q259 rfl rfl (vp_nar_int _) rfl dX1_carries_32 (fun H locs hP hS => ?_)
    refine lv_iconst (v := (0 : Int32)) hx hb dX1_carries_35 (by decide) ?_
    refine lv_istore (lv' := [(4, .int (0 : Int32)), (3, .int w24_0), (0, .ref a0), (1, .ref a1), (2, .int a2)]) hx hb dX1_carries_36 hl (by decide) rfl (fun ls hl => ?_)
    have k38 : ∀ (n : Nat) (v38_4 : Int32) (t14 : Hp) (H : Heap) (locs : List Loc) (ls : Array Slot), gw_P K t14 H → va_S K.2.2.2.1 s.heap H locs → lv_has ls 7 [(0, .ref a0), (1, .ref a1), (2, .int a2), (3, .int w24_0), (4, .int v38_4)] → tw_lp (fx_X1_carries_L38 a0 a2 a1 w24_0) (fun _ _ => none) n v38_4 t14 = some (r, tZ) → W p l e (headSpec (ws_ yX1_carries cX1_carries 7 (none)) ({ frames := 4, cells := 0, slots := 0, locals := 61 })).room s m ([.ref a0, .ref a1, .int a2] : List Value).toArray below meth c H locs 0 0 (MQ below (gw_Qv K tZ) ([.ref a0, .ref a1, .int a2] : List Value).toArray s 0 0 K.2.2.2.1) (F0 m 38 ls []) := by
      intro n
      induction n with
      | zero => intro v38_4 t14 H locs ls hP hS hl hf; exact (tw_no hf).elim
      | succ n ih38 =>
        intro v38_4 t14 H locs ls hP hS hl hf
        obtain ⟨sf38, hs38⟩ : ∃ f, f = tw_lp (fx_X1_carries_L38 a0 a2 a1 w24_0) (fun _ _ => none) n := ⟨_, rfl⟩
        rw [← hs38] at ih38
        have hf : fx_X1_carries_L38 a0 a2 a1 w24_0 sf38 v38_4 t14 = some (r, tZ) := by rw [hs38]; exact hf
        clear hs38
        unfold fx_X1_carries_L38 at hf
        refine lv_iload hx hb dX1_carries_38 (lv_at hl 4 rfl) ?_
        refine lv_aload_n hx hb dX1_carries_40 rfl (lv_at hl 0 rfl) ?_
        obtain ⟨x15, t16, e17, hf⟩ := tw_bdE hf
        refine gw_rget (ci := 0) (k := 4) (T := TX1) C hP rfl in_X1 (by decide) e17 q394 rfl dX1_carries_41 (fun hP => ?_)
        obtain ⟨x18, t19, e20, hf⟩ := tw_bdE hf
        refine gw_igetN (ci := 1) (k := 3) (T := TX2) C hP rfl in_X2 (by decide) e20 q165 rfl dX1_carries_44 (fun hP => ?_)
        refine lv_icmp_ge (tgt := 69) hx hb dX1_carries_47 (by decide) (fun hc => ?_) (fun hc => ?_)
        · have hf := tw_ifT hc hf
          refine lv_iconst (v := (1 : Int32)) hx hb dX1_carries_69 (by decide) ?_
          refine lv_istore (lv' := [(4, .int (1 : Int32)), (0, .ref a0), (1, .ref a1), (2, .int a2), (3, .int w24_0)]) hx hb dX1_carries_70 hl (by decide) rfl (fun ls hl => ?_)
          have k72 : ∀ (n : Nat) (v72_3 : Int32) (v72_4 : Int32) (t21 : Hp) (H : Heap) (locs : List Loc) (ls : Array Slot), gw_P K t21 H → va_S K.2.2.2.1 s.heap H locs → lv_has ls 7 [(0, .ref a0), (1, .ref a1), (2, .int a2), (3, .int v72_3), (4, .int v72_4)] → tw_lp (fx_X1_carries_L72 a0 a2 a1) (fun _ _ _ => none) n v72_3 v72_4 t21 = some (r, tZ) → W p l e (headSpec (ws_ yX1_carries cX1_carries 7 (none)) ({ frames := 4, cells := 0, slots := 0, locals := 61 })).room s m ([.ref a0, .ref a1, .int a2] : List Value).toArray below meth c H locs 0 0 (MQ below (gw_Qv K tZ) ([.ref a0, .ref a1, .int a2] : List Value).toArray s 0 0 K.2.2.2.1) (F0 m 72 ls []) := by
            intro n
            induction n with
            | zero => intro v72_3 v72_4 t21 H locs ls hP hS hl hf; exact (tw_no hf).elim
            | succ n ih72 =>
              intro v72_3 v72_4 t21 H locs ls hP hS hl hf
              obtain ⟨sf72, hs72⟩ : ∃ f, f = tw_lp (fx_X1_carries_L72 a0 a2 a1) (fun _ _ _ => none) n := ⟨_, rfl⟩
              rw [← hs72] at ih72
              have hf : fx_X1_carries_L72 a0 a2 a1 sf72 v72_3 v72_4 t21 = some (r, tZ) := by rw [hs72]; exact hf
              clear hs72
              unfold fx_X1_carries_L72 at hf
              refine lv_iload hx hb dX1_carries_72 (lv_at hl 4 rfl) ?_
              have k158 : ∀  (t22 : Hp) (H : Heap) (locs : List Loc) (ls : Array Slot), gw_P K t22 H → va_S K.2.2.2.1 s.heap H locs → lv_has ls 7 [(0, .ref a0), (1, .ref a1), (2, .int a2)] → fx_X1_carries_J158 a0 a2 a1  t22 = some (r, tZ) → W p l e (headSpec (ws_ yX1_carries cX1_carries 7 (none)) ({ frames := 4, cells := 0, slots := 0, locals := 61 })).room s m ([.ref a0, .ref a1, .int a2] : List Value).toArray below meth c H locs 0 0 (MQ below (gw_Qv K tZ) ([.ref a0, .ref a1, .int a2] : List Value).toArray s 0 0 K.2.2.2.1) (F0 m 158 ls []) := by
                intro t22 H locs ls hP hS hl hf
                unfold fx_X1_carries_J158 at hf
                refine lv_iconst (v := (0 : Int32)) hx hb dX1_carries_158 (by decide) ?_
                refine lv_istore (lv' := [(5, .int (0 : Int32)), (0, .ref a0), (1, .ref a1), (2, .int a2)]) hx hb dX1_carries_159 hl (by decide) rfl (fun ls hl => ?_)
                have k161 : ∀ (n : Nat) (v161_5 : Int32) (t23 : Hp) (H : Heap) (locs : List Loc) (ls : Array Slot), gw_P K t23 H → va_S K.2.2.2.1 s.heap H locs → lv_has ls 7 [(0, .ref a0), (1, .ref a1), (2, .int a2), (5, .int v161_5)] → tw_lp (fx_X1_carries_L161 a0 a2 a1) (fun _ _ => none) n v161_5 t23 = some (r, tZ) → W p l e (headSpec (ws_ yX1_carries cX1_carries 7 (none)) ({ frames := 4, cells := 0, slots := 0, locals := 61 })).room s m ([.ref a0, .ref a1, .int a2] : List Value).toArray below meth c H locs 0 0 (MQ below (gw_Qv K tZ) ([.ref a0, .ref a1, .int a2] : List Value).toArray s 0 0 K.2.2.2.1) (F0 m 161 ls []) := by
                  intro n
                  induction n with
                  | zero => intro v161_5 t23 H locs ls hP hS hl hf; exact (tw_no hf).elim
                  | succ n ih161 =>
                    intro v161_5 t23 H locs ls hP hS hl hf
                    obtain ⟨sf161, hs161⟩ : ∃ f, f = tw_lp (fx_X1_carries_L161 a0 a2 a1) (fun _ _ => none) n := ⟨_, rfl⟩
                    rw [← hs161] at ih161
                    have hf : fx_X1_carries_L161 a0 a2 a1 sf161 v161_5 t23 = some (r, tZ) := by rw [hs161]; exact hf
                    clear hs161
                    unfold fx_X1_carries_L161 at hf
                    refine lv_iload hx hb dX1_carries_161 (lv_at hl 3 rfl) ?_
                    refine lv_aload_n hx hb dX1_carries_163 rfl (lv_at hl 0 rfl) ?_
                    obtain ⟨x24, t25, e26, hf⟩ := tw_bdE hf
                    refine gw_rget (ci := 0) (k := 4) (T := TX1) C hP rfl in_X1 (by decide) e26 q394 rfl dX1_carries_164 (fun hP => ?_)
                    obtain ⟨x27, t28, e29, hf⟩ := tw_bdE hf
                    refine gw_igetN (ci := 1) (k := 3) (T := TX2) C hP rfl in_X2 (by decide) e29 q165 rfl dX1_carries_167 (fun hP => ?_)
                    refine lv_icmp_ge (tgt := 199) hx hb dX1_carries_170 (by decide) (fun hc => ?_) (fun hc => ?_)
                    · have hf := tw_ifT hc hf
                      exact gw_iretv (tw_rtE hf).2 rfl rfl C hr hP hS hlk dX1_carries_199
                    · have hf := tw_ifF hc hf
                      refine lv_aload_n hx hb dX1_carries_173 rfl (lv_at hl 0 rfl) ?_
                      refine lv_aload_n hx hb dX1_carries_174 rfl (lv_at hl 1 rfl) ?_
                      refine lv_iload_n hx hb dX1_carries_175 rfl (lv_at hl 2 rfl) ?_
                      refine lv_iload hx hb dX1_carries_176 (lv_at hl 3 rfl) ?_
                      refine lv_aload_n hx hb dX1_carries_178 rfl (lv_at hl 0 rfl) ?_
                      obtain ⟨x30, t31, e32, hf⟩ := tw_bdE hf
                      refine gw_rget (ci := 0) (k := 6) (T := TX1) C hP rfl in_X1 (by decide) e32 q398 rfl dX1_carries_179 (fun hP => ?_)
                      refine lv_bipush (v := (8 : Int32)) hx hb dX1_carries_182 (by decide) ?_
                      refine lv_iload_n hx hb dX1_carries_184 rfl (lv_at hl 2 rfl) ?_
                      refine lv_imul hx hb dX1_carries_185 ?_
                      refine lv_iload hx hb dX1_carries_186 (lv_at hl 3 rfl) ?_
                      refine lv_iadd hx hb dX1_carries_188 ?_
                      obtain ⟨x33, t34, e35, hf⟩ := tw_bdE hf
                      refine gw_iald C hP e35 dX1_carries_189 (fun hP => ?_)
                      obtain ⟨x36, t37, e38, hf⟩ := tw_bdE hf
                      refine gw_cVv (As := [.ref a1, .int a2, .int v161_5, .int x33]) (rest := []) (ci := 0) (T := TX1) (N := 18) C hml hP hS rfl (gw_onE e38).1 (mx_X1_leaves (l := l) (K := K) hA _ _ _ _ _ _ _ _ (gw_onE e38).2) (cwV 4 hts (lw_V q870 q872 qs18 q101 q873) rfl rfl rfl hdX1_leaves ⟨Nat.le_of_ble_eq_true rfl, Nat.le_of_ble_eq_true rfl⟩) rfl hl.1 rfl (Nat.le_of_ble_eq_true rfl) (Nat.zero_le _) (Nat.zero_le _) dX1_carries_190 (fun H locs hP hS => ?_)
                      refine lv_iinc (v := (v161_5 + (1 : Int32))) (lv' := [(5, .int (v161_5 + (1 : Int32))), (0, .ref a0), (1, .ref a1), (2, .int a2)]) hx hb dX1_carries_193 hl (k := 3) rfl rfl (by decide) rfl (fun ls hl => ?_)
                      refine lv_goto (tgt := 161) hx hb dX1_carries_196 (by decide) ?_
                      exact ih161 _ _ _ _ _ hP hS (lv_sub hl [1, 2, 3, 0] rfl) hf
                exact k161 _ _ _ _ _ _ hP hS (lv_sub hl [1, 2, 3, 0] rfl) hf
              refine lv_if_eq (tgt := 158) hx hb dX1_carries_74 (by decide) (fun hc => ?_) (fun hc => ?_)
              · have hf := tw_ifT hc hf
                exact k158 _ _ _ _ hP hS (lv_sub hl [0, 1, 2] rfl) hf
              · have hf := tw_ifF hc hf
                refine lv_iload_n hx hb dX1_carries_77 rfl (lv_at hl 3 rfl) ?_
                refine lv_if_le (tgt := 158) hx hb dX1_carries_78 (by decide) (fun hc => ?_) (fun hc => ?_)
                · have hf := tw_ifT hc hf
                  exact k158 _ _ _ _ hP hS (lv_sub hl [0, 1, 2] rfl) hf
                · have hf := tw_ifF hc hf
                  refine lv_iconst (v := (0 : Int32)) hx hb dX1_carries_81 (by decide) ?_
                  refine lv_istore (lv' := [(4, .int (0 : Int32)), (0, .ref a0), (1, .ref a1), (2, .int a2), (3, .int v72_3)]) hx hb dX1_carries_82 hl (by decide) rfl (fun ls hl => ?_)
                  refine lv_iconst (v := (0 : Int32)) hx hb dX1_carries_84 (by decide) ?_
                  refine lv_istore (lv' := [(5, .int (0 : Int32)), (4, .int (0 : Int32)), (0, .ref a0), (1, .ref a1), (2, .int a2), (3, .int v72_3)]) hx hb dX1_carries_85 hl (by decide) rfl (fun ls hl => ?_)
                  have k87 : ∀ (n : Nat) (v87_3 : Int32) (v87_4 : Int32) (v87_5 : Int32) (t39 : Hp) (H : Heap) (locs : List Loc) (ls : Array Slot), gw_P K t39 H → va_S K.2.2.2.1 s.heap H locs → lv_has ls 7 [(0, .ref a0), (1, .ref a1), (2, .int a2), (3, .int v87_3), (4, .int v87_4), (5, .int v87_5)] → tw_lp (fx_X1_carries_L87 a0 sf72 a2) (fun _ _ _ _ => none) n v87_3 v87_4 v87_5 t39 = some (r, tZ) → W p l e (headSpec (ws_ yX1_carries cX1_carries 7 (none)) ({ frames := 4, cells := 0, slots := 0, locals := 61 })).room s m ([.ref a0, .ref a1, .int a2] : List Value).toArray below meth c H locs 0 0 (MQ below (gw_Qv K tZ) ([.ref a0, .ref a1, .int a2] : List Value).toArray s 0 0 K.2.2.2.1) (F0 m 87 ls []) := by
                    intro n
                    induction n with
                    | zero => intro v87_3 v87_4 v87_5 t39 H locs ls hP hS hl hf; exact (tw_no hf).elim
                    | succ n ih87 =>
                      intro v87_3 v87_4 v87_5 t39 H locs ls hP hS hl hf
                      obtain ⟨sf87, hs87⟩ : ∃ f, f = tw_lp (fx_X1_carries_L87 a0 sf72 a2) (fun _ _ _ _ => none) n := ⟨_, rfl⟩
                      rw [← hs87] at ih87
                      have hf : fx_X1_carries_L87 a0 sf72 a2 sf87 v87_3 v87_4 v87_5 t39 = some (r, tZ) := by rw [hs87]; exact hf
                      clear hs87
                      unfold fx_X1_carries_L87 at hf
                      refine lv_iload hx hb dX1_carries_87 (lv_at hl 5 rfl) ?_
                      refine lv_aload_n hx hb dX1_carries_89 rfl (lv_at hl 0 rfl) ?_
                      obtain ⟨x40, t41, e42, hf⟩ := tw_bdE hf
                      refine gw_rget (ci := 0) (k := 4) (T := TX1) C hP rfl in_X1 (by decide) e42 q394 rfl dX1_carries_90 (fun hP => ?_)
                      obtain ⟨x43, t44, e45, hf⟩ := tw_bdE hf
                      refine gw_igetN (ci := 1) (k := 3) (T := TX2) C hP rfl in_X2 (by decide) e45 q165 rfl dX1_carries_93 (fun hP => ?_)
                      have k155 : ∀  (t46 : Hp) (H : Heap) (locs : List Loc) (ls : Array Slot), gw_P K t46 H → va_S K.2.2.2.1 s.heap H locs → lv_has ls 7 [(0, .ref a0), (1, .ref a1), (2, .int a2), (3, .int v87_3), (4, .int v87_4)] → fx_X1_carries_J155 sf72 v87_3 v87_4  t46 = some (r, tZ) → W p l e (headSpec (ws_ yX1_carries cX1_carries 7 (none)) ({ frames := 4, cells := 0, slots := 0, locals := 61 })).room s m ([.ref a0, .ref a1, .int a2] : List Value).toArray below meth c H locs 0 0 (MQ below (gw_Qv K tZ) ([.ref a0, .ref a1, .int a2] : List Value).toArray s 0 0 K.2.2.2.1) (F0 m 155 ls []) := by
                        intro t46 H locs ls hP hS hl hf
                        unfold fx_X1_carries_J155 at hf
                        refine lv_goto (tgt := 72) hx hb dX1_carries_155 (by decide) ?_
                        exact ih72 _ _ _ _ _ _ hP hS (lv_sub hl [0, 1, 2, 3, 4] rfl) hf
                      refine lv_icmp_ge (tgt := 155) hx hb dX1_carries_96 (by decide) (fun hc => ?_) (fun hc => ?_)
                      · have hf := tw_ifT hc hf
                        exact k155 _ _ _ _ hP hS (lv_sub hl [0, 1, 2, 3, 4] rfl) hf
                      · have hf := tw_ifF hc hf
                        refine lv_iload_n hx hb dX1_carries_99 rfl (lv_at hl 3 rfl) ?_
                        refine lv_if_le (tgt := 155) hx hb dX1_carries_100 (by decide) (fun hc => ?_) (fun hc => ?_)
                        · have hf := tw_ifT hc hf
                          exact k155 _ _ _ _ hP hS (lv_sub hl [0, 1, 2, 3, 4] rfl) hf
                        · have hf := tw_ifF hc hf
                          refine lv_bipush (v := (8 : Int32)) hx hb dX1_carries_103 (by decide) ?_
                          refine lv_iload_n hx hb dX1_carries_105 rfl (lv_at hl 2 rfl) ?_
                          refine lv_imul hx hb dX1_carries_106 ?_
                          refine lv_iload hx hb dX1_carries_107 (lv_at hl 5 rfl) ?_
                          refine lv_iadd hx hb dX1_carries_109 ?_
                          refine lv_istore (lv' := [(6, .int (((8 : Int32) * a2) + v87_5)), (0, .ref a0), (1, .ref a1), (2, .int a2), (3, .int v87_3), (4, .int v87_4), (5, .int v87_5)]) hx hb dX1_carries_110 hl (by decide) rfl (fun ls hl => ?_)
                          refine lv_aload_n hx hb dX1_carries_112 rfl (lv_at hl 1 rfl) ?_
                          obtain ⟨x47, t48, e49, hf⟩ := tw_bdE hf
                          refine gw_rget (ci := 0) (k := 5) (T := TX1) C hP rfl in_X1 (by decide) e49 q397 rfl dX1_carries_113 (fun hP => ?_)
                          refine lv_iload hx hb dX1_carries_116 (lv_at hl 0 rfl) ?_
                          obtain ⟨x50, t51, e52, hf⟩ := tw_bdE hf
                          refine gw_iald C hP e52 dX1_carries_118 (fun hP => ?_)
                          refine lv_aload_n hx hb dX1_carries_119 rfl (lv_at hl 1 rfl) ?_
                          obtain ⟨x53, t54, e55, hf⟩ := tw_bdE hf
                          refine gw_rget (ci := 0) (k := 6) (T := TX1) C hP rfl in_X1 (by decide) e55 q398 rfl dX1_carries_120 (fun hP => ?_)
                          refine lv_iload hx hb dX1_carries_123 (lv_at hl 0 rfl) ?_
                          obtain ⟨x56, t57, e58, hf⟩ := tw_bdE hf
                          refine gw_iald C hP e58 dX1_carries_125 (fun hP => ?_)
                          have k149 : ∀ (v149_3 : Int32) (v149_4 : Int32) (t59 : Hp) (H : Heap) (locs : List Loc) (ls : Array Slot), gw_P K t59 H → va_S K.2.2.2.1 s.heap H locs → lv_has ls 7 [(0, .ref a0), (1, .ref a1), (2, .int a2), (3, .int v149_3), (4, .int v149_4), (5, .int v87_5)] → fx_X1_carries_J149 sf87 v87_5 v149_3 v149_4 t59 = some (r, tZ) → W p l e (headSpec (ws_ yX1_carries cX1_carries 7 (none)) ({ frames := 4, cells := 0, slots := 0, locals := 61 })).room s m ([.ref a0, .ref a1, .int a2] : List Value).toArray below meth c H locs 0 0 (MQ below (gw_Qv K tZ) ([.ref a0, .ref a1, .int a2] : List Value).toArray s 0 0 K.2.2.2.1) (F0 m 149 ls []) := by
                            intro v149_3 v149_4 t59 H locs ls hP hS hl hf
                            unfold fx_X1_carries_J149 at hf
                            refine lv_iinc (v := (v87_5 + (1 : Int32))) (lv' := [(5, .int (v87_5 + (1 : Int32))), (0, .ref a0), (1, .ref a1), (2, .int a2), (3, .int v149_3), (4, .int v149_4)]) hx hb dX1_carries_149 hl (k := 5) rfl rfl (by decide) rfl (fun ls hl => ?_)
                            refine lv_goto (tgt := 87) hx hb dX1_carries_152 (by decide) ?_
                            exact ih87 _ _ _ _ _ _ _ hP hS (lv_sub hl [1, 2, 3, 4, 5, 0] rfl) hf
                          refine lv_icmp_ne (tgt := 132) hx hb dX1_carries_126 (by decide) (fun hc => ?_) (fun hc => ?_)
                          · have hf := tw_ifF hc hf
                            refine lv_aload_n hx hb dX1_carries_132 rfl (lv_at hl 1 rfl) ?_
                            obtain ⟨x60, t61, e62, hf⟩ := tw_bdE hf
                            refine gw_rget (ci := 0) (k := 6) (T := TX1) C hP rfl in_X1 (by decide) e62 q398 rfl dX1_carries_133 (fun hP => ?_)
                            refine lv_iload hx hb dX1_carries_136 (lv_at hl 0 rfl) ?_
                            refine lv_dup2_11 hx hb dX1_carries_138 rfl rfl ?_
                            obtain ⟨x63, t64, e65, hf⟩ := tw_bdE hf
                            refine gw_iald C hP e65 dX1_carries_139 (fun hP => ?_)
                            refine lv_iconst (v := (1 : Int32)) hx hb dX1_carries_140 (by decide) ?_
                            refine lv_iadd hx hb dX1_carries_141 ?_
                            obtain ⟨x66, t67, e68, hf⟩ := tw_bdE hf
                            refine gw_iast C hP hS e68 dX1_carries_142 (fun H locs hP hS => ?_)
                            refine lv_iinc (v := (v87_3 + (-1 : Int32))) (lv' := [(3, .int (v87_3 + (-1 : Int32))), (6, .int (((8 : Int32) * a2) + v87_5)), (0, .ref a0), (1, .ref a1), (2, .int a2), (4, .int v87_4), (5, .int v87_5)]) hx hb dX1_carries_143 hl (k := 4) rfl rfl (by decide) rfl (fun ls hl => ?_)
                            refine lv_iconst (v := (1 : Int32)) hx hb dX1_carries_146 (by decide) ?_
                            refine lv_istore (lv' := [(4, .int (1 : Int32)), (3, .int (v87_3 + (-1 : Int32))), (6, .int (((8 : Int32) * a2) + v87_5)), (0, .ref a0), (1, .ref a1), (2, .int a2), (5, .int v87_5)]) hx hb dX1_carries_147 hl (by decide) rfl (fun ls hl => ?_)
                            exact k149 _ _ _ _ _ _ hP hS (lv_sub hl [3, 4, 5, 1, 0, 6] rfl) hf
                          · have hf := tw_ifT hc hf
                            refine lv_goto (tgt := 149) hx hb dX1_carries_129 (by decide) ?_
                            exact k149 _ _ _ _ _ _ hP hS (lv_sub hl [1, 2, 3, 4, 5, 6] rfl) hf
                  exact k87 _ _ _ _ _ _ _ _ hP hS (lv_sub hl [2, 3, 4, 5, 1, 0] rfl) hf
          exact k72 _ _ _ _ _ _ _ hP hS (lv_sub hl [1, 2, 3, 4, 0] rfl) hf
        · have hf := tw_ifF hc hf
          refine lv_aload_n hx hb dX1_carries_50 rfl (lv_at hl 0 rfl) ?_
          obtain ⟨x69, t70, e71, hf⟩ := tw_bdE hf
          refine gw_rget (ci := 0) (k := 6) (T := TX1) C hP rfl in_X1 (by decide) e71 q398 rfl dX1_carries_51 (fun hP => ?_)
          refine lv_bipush (v := (8 : Int32)) hx hb dX1_carries_54 (by decide) ?_
          refine lv_iload_n hx hb dX1_carries_56 rfl (lv_at hl 2 rfl) ?_
          refine lv_imul hx hb dX1_carries_57 ?_
          refine lv_iload hx hb dX1_carries_58 (lv_at hl 4 rfl) ?_
          refine lv_iadd hx hb dX1_carries_60 ?_
          refine lv_iconst (v := (0 : Int32)) hx hb dX1_carries_61 (by decide) ?_
          obtain ⟨x72, t73, e74, hf⟩ := tw_bdE hf
          refine gw_iast C hP hS e74 dX1_carries_62 (fun H locs hP hS => ?_)
          refine lv_iinc (v := (v38_4 + (1 : Int32))) (lv' := [(4, .int (v38_4 + (1 : Int32))), (0, .ref a0), (1, .ref a1), (2, .int a2), (3, .int w24_0)]) hx hb dX1_carries_63 hl (k := 4) rfl rfl (by decide) rfl (fun ls hl => ?_)
          refine lv_goto (tgt := 38) hx hb dX1_carries_66 (by decide) ?_
          exact ih38 _ _ _ _ _ hP hS (lv_sub hl [1, 2, 3, 4, 0] rfl) hf
    exact k38 _ _ _ _ _ _ hP hS (lv_sub hl [2, 3, 4, 1, 0] rfl) hf
  refine lv_if_eq (tgt := 12) hx hb dX1_carries_5 (by decide) (fun hc => ?_) (fun hc => ?_)
  · have hf := tw_ifT hc hf
    refine lv_aload_n hx hb dX1_carries_12 rfl (lv_at hl 0 rfl) ?_
    obtain ⟨x75, t76, e77, hf⟩ := tw_bdE hf
    refine gw_rget (ci := 0) (k := 4) (T := TX1) C hP rfl in_X1 (by decide) e77 q394 rfl dX1_carries_13 (fun hP => ?_)
    obtain ⟨x78, t79, e80, hf⟩ := tw_bdE hf
    refine gw_rgetN (ci := 1) (k := 0) (T := TX2) C hP rfl in_X2 (by decide) e80 q149 rfl dX1_carries_16 (fun hP => ?_)
    refine lv_iload_n hx hb dX1_carries_19 rfl (lv_at hl 2 rfl) ?_
    obtain ⟨x81, t82, e83, hf⟩ := tw_bdE hf
    refine gw_aald C hP rfl e83 dX1_carries_20 (fun hP => ?_)
    obtain ⟨x84, t85, e86, hf⟩ := tw_bdE hf
    refine gw_igetN (ci := 8) (k := 1) (T := TX9) C hP rfl in_X9 (by decide) e86 q732 rfl dX1_carries_21 (fun hP => ?_)
    exact k24 _ _ _ _ _ hP hS (lv_sub hl [0, 1, 2] rfl) hf
  · have hf := tw_ifF hc hf
    refine lv_iconst (v := (0 : Int32)) hx hb dX1_carries_8 (by decide) ?_
    refine lv_goto (tgt := 24) hx hb dX1_carries_9 (by decide) ?_
    exact k24 _ _ _ _ _ hP hS (lv_sub hl [0, 1, 2] rfl) hf
def fx_X11_init (a0 : Nat) (a1 : Nat) : HM Unit :=
   tw_bd (gw_pr 10 0 a0 a1) fun _ =>
  tw_rt ()
theorem hdX11_init : yX11_init.cls = "LosslessFabric$Notice" ∧ (yX11_init.cls ≠ "java/lang/invoke/MethodHandle" ∧ yX11_init.cls ≠ "java/lang/invoke/VarHandle" ∧ (parseMethodDescriptor yX11_init.desc).map (fun d => d.parameters.length) = some 1) := by decide +kernel
set_option maxHeartbeats 4000000 in
theorem mx_X11_init {l : Launch} {K : GK} (hA : gw_A K) (a0 : Nat) (a1 : Nat) (t0 tZ : Hp) (r : Unit) (hf : fx_X11_init a0 a1 t0 = some (r, tZ)) : Met l yX11_init (ws_ yX11_init cX11_init 2 (none)) ({ frames := 2, cells := 0, slots := 0, locals := 30 }) (va_Pc [.ref a0, .ref a1] (gw_W K t0)) (gw_Qv K tZ) 0 0 K.2.2.2.1 := by
  refine Met.ofW (cc := cX11_init) (maxL := 2) (ret := none) (by decide) rfl ?_
  intro p e s m args below meth c s₁ B hml hv
  obtain ⟨rfl, hP, hK, hX, hN, hL⟩ := hv
  have hx := B.exec
  have hb := B.bytes
  have hr := B.returns
  have hts := atoms_spec (ws := (ws_ yX11_init cX11_init 2 (none))) B.pre
  have hts : ∀ w ∈ lw_all, w.before _ s = true := fun w h => hts w (List.mem_cons_of_mem _ h)
  have hown : s.vm.findClass "LosslessFabric$Notice" = some m.cls := findClass_of_methodNamed B.named
  have hlk := B.notSynchronized
  have hin : meth.name = "<init>" := (name_of_methodNamed B.named B.method).1
  have C : gw_C K "LosslessFabric$Notice" p s m _ c cX11_init := ⟨hx, hb, hts, hown, hK, hA, hX, hN, hL⟩
  have hS : va_S K.2.2.2.1 s.heap s.heap [] := va_S.rf
  have hl := lv_entry ([.ref a0, .ref a1]) (n := 2) (Nat.le_of_ble_eq_true rfl)
  rw [lg_entry_eq]
  generalize (lg_sl ([.ref a0, .ref a1]) ++ List.replicate (2 - (lg_sl ([.ref a0, .ref a1])).length) Slot.unset).toArray = ls at hl ⊢
  have hl : lv_has ls 2 [(0, .ref a0), (1, .ref a1)] := hl
  unfold fx_X11_init at hf
  refine lv_aload_n hx hb dX11_init_0 rfl (lv_at hl 0 rfl) ?_
  refine W.objInit (rest := []) hx hb hown (hts _ q925) (hts _ q134) (hts _ q135) rfl (by rw [hml]; exact hl.1) rfl dX11_init_1 (Nat.le_of_ble_eq_true rfl) (Nat.le_of_ble_eq_true rfl) ?_
  refine W.eq (g2 := F0 m 4 ls []) rfl ?_
  refine lv_aload_n hx hb dX11_init_4 rfl (lv_at hl 0 rfl) ?_
  refine lv_aload_n hx hb dX11_init_5 rfl (lv_at hl 1 rfl) ?_
  obtain ⟨x1, t2, e3, hf⟩ := tw_bdE hf
  refine gw_vputF (ci := 10) (k := 0) (T := TX11) C hP hS rfl in_X11 tyX11 tyX11_ok nmX11 (by decide) e3 q926 rfl rfl hin rfl rfl rfl dX11_init_6 (fun H locs hP hS => ?_)
  exact gw_iretv (tw_rtE hf).2 rfl rfl C hr hP hS hlk dX11_init_9
def fx_X3_feedback (a0 : Nat) (a1 : Int32) : HM Int32 :=
  tw_bd (gw_gr 2 2 a0) fun x1 =>
  tw_bd (gw_lr 6 x1 a1) fun x4 =>
  tw_bd (gw_on 3 x4 (fx_X4_queue x4)) fun x7 =>
  tw_bd (gw_gr 2 0 a0) fun x10 =>
  tw_bd (gw_gi 1 5 x10) fun x13 =>
  tw_bd (gw_gr 2 0 a0) fun x16 =>
  tw_bd (gw_gi 1 6 x16) fun x19 =>
  tw_bd (gw_gr 2 2 a0) fun x22 =>
  tw_bd (gw_lr 6 x22 a1) fun x25 =>
  tw_bd (gw_gi 3 11 x25) fun x28 =>
  tw_rt ((x7 - x13) + (x19 * (x7 - x28)))
theorem hdX3_feedback : yX3_feedback.cls = "LosslessFabric$State" ∧ (yX3_feedback.cls ≠ "java/lang/invoke/MethodHandle" ∧ yX3_feedback.cls ≠ "java/lang/invoke/VarHandle" ∧ (parseMethodDescriptor yX3_feedback.desc).map (fun d => d.parameters.length) = some 1) := by decide +kernel
set_option maxHeartbeats 4000000 in
theorem mx_X3_feedback {l : Launch} {K : GK} (hA : gw_A K) (a0 : Nat) (a1 : Int32) (t0 tZ : Hp) (r : Int32) (hf : fx_X3_feedback a0 a1 t0 = some (r, tZ)) : Met l yX3_feedback (ws_ yX3_feedback cX3_feedback 3 (some (.int))) ({ frames := 3, cells := 0, slots := 0, locals := 37 }) (va_Pc [.ref a0, .int a1] (gw_W K t0)) (gw_Qi K r tZ) 0 0 K.2.2.2.1 := by
  refine Met.ofW (cc := cX3_feedback) (maxL := 3) (ret := some (.int)) (by decide) rfl ?_
  intro p e s m args below meth c s₁ B hml hv
  obtain ⟨rfl, hP, hK, hX, hN, hL⟩ := hv
  have hx := B.exec
  have hb := B.bytes
  have hr := B.returns
  have hts := atoms_spec (ws := (ws_ yX3_feedback cX3_feedback 3 (some (.int)))) B.pre
  have hts : ∀ w ∈ lw_all, w.before _ s = true := fun w h => hts w (List.mem_cons_of_mem _ h)
  have hown : s.vm.findClass "LosslessFabric$State" = some m.cls := findClass_of_methodNamed B.named
  have hlk := B.notSynchronized
  have C : gw_C K "LosslessFabric$State" p s m _ c cX3_feedback := ⟨hx, hb, hts, hown, hK, hA, hX, hN, hL⟩
  have hS : va_S K.2.2.2.1 s.heap s.heap [] := va_S.rf
  have hl := lv_entry ([.ref a0, .int a1]) (n := 3) (Nat.le_of_ble_eq_true rfl)
  rw [lg_entry_eq]
  generalize (lg_sl ([.ref a0, .int a1]) ++ List.replicate (3 - (lg_sl ([.ref a0, .int a1])).length) Slot.unset).toArray = ls at hl ⊢
  have hl : lv_has ls 3 [(0, .ref a0), (1, .int a1)] := hl
  unfold fx_X3_feedback at hf
  refine lv_aload_n hx hb dX3_feedback_0 rfl (lv_at hl 0 rfl) ?_
  obtain ⟨x1, t2, e3, hf⟩ := tw_bdE hf
  refine gw_rget (ci := 2) (k := 2) (T := TX3) C hP rfl in_X3 (by decide) e3 q354 rfl dX3_feedback_1 (fun hP => ?_)
  refine lv_iload_n hx hb dX3_feedback_4 rfl (lv_at hl 1 rfl) ?_
  obtain ⟨x4, t5, e6, hf⟩ := tw_bdE hf
  refine gw_aald C hP rfl e6 dX3_feedback_5 (fun hP => ?_)
  obtain ⟨x7, t8, e9, hf⟩ := tw_bdE hf
  refine gw_cVi (As := []) (rest := []) (ci := 3) (T := TX4) (N := 12) C hml hP hS rfl (gw_onE e9).1 (mx_X4_queue (l := l) (K := K) hA _ _ _ _ (gw_onE e9).2) (cwV 0 hts (lw_V q901 q884 q885 q104 q886) rfl rfl rfl hdX4_queue ⟨Nat.le_of_ble_eq_true rfl, Nat.le_of_ble_eq_true rfl⟩) rfl hl.1 rfl (Nat.le_of_ble_eq_true rfl) (Nat.zero_le _) (Nat.zero_le _) dX3_feedback_6 (fun H locs hP hS => ?_)
  refine lv_istore_n (lv' := [(2, .int x7), (0, .ref a0), (1, .int a1)]) hx hb dX3_feedback_9 rfl hl (by decide) rfl (fun ls hl => ?_)
  refine lv_iload_n hx hb dX3_feedback_10 rfl (lv_at hl 0 rfl) ?_
  refine lv_aload_n hx hb dX3_feedback_11 rfl (lv_at hl 1 rfl) ?_
  obtain ⟨x10, t11, e12, hf⟩ := tw_bdE hf
  refine gw_rget (ci := 2) (k := 0) (T := TX3) C hP rfl in_X3 (by decide) e12 q351 rfl dX3_feedback_12 (fun hP => ?_)
  obtain ⟨x13, t14, e15, hf⟩ := tw_bdE hf
  refine gw_igetN (ci := 1) (k := 5) (T := TX2) C hP rfl in_X2 (by decide) e15 q171 rfl dX3_feedback_15 (fun hP => ?_)
  refine lv_isub hx hb dX3_feedback_18 ?_
  refine lv_aload_n hx hb dX3_feedback_19 rfl (lv_at hl 1 rfl) ?_
  obtain ⟨x16, t17, e18, hf⟩ := tw_bdE hf
  refine gw_rget (ci := 2) (k := 0) (T := TX3) C hP rfl in_X3 (by decide) e18 q351 rfl dX3_feedback_20 (fun hP => ?_)
  obtain ⟨x19, t20, e21, hf⟩ := tw_bdE hf
  refine gw_igetN (ci := 1) (k := 6) (T := TX2) C hP rfl in_X2 (by decide) e21 q174 rfl dX3_feedback_23 (fun hP => ?_)
  refine lv_iload_n hx hb dX3_feedback_26 rfl (lv_at hl 0 rfl) ?_
  refine lv_aload_n hx hb dX3_feedback_27 rfl (lv_at hl 1 rfl) ?_
  obtain ⟨x22, t23, e24, hf⟩ := tw_bdE hf
  refine gw_rget (ci := 2) (k := 2) (T := TX3) C hP rfl in_X3 (by decide) e24 q354 rfl dX3_feedback_28 (fun hP => ?_)
  refine lv_iload_n hx hb dX3_feedback_31 rfl (lv_at hl 2 rfl) ?_
  obtain ⟨x25, t26, e27, hf⟩ := tw_bdE hf
  refine gw_aald C hP rfl e27 dX3_feedback_32 (fun hP => ?_)
  obtain ⟨x28, t29, e30, hf⟩ := tw_bdE hf
  refine gw_igetN (ci := 3) (k := 11) (T := TX4) C hP rfl in_X4 (by decide) e30 q263 rfl dX3_feedback_33 (fun hP => ?_)
  refine lv_isub hx hb dX3_feedback_36 ?_
  refine lv_imul hx hb dX3_feedback_37 ?_
  refine lv_iadd hx hb dX3_feedback_38 ?_
  exact gw_ireti (tw_rtE hf).1 (tw_rtE hf).2 rfl rfl C hr hP hS hlk dX3_feedback_39
def fx_X3_noticeOf_J46  (w46_0 : Int32) : HM Int32 :=
  tw_rt w46_0
def fx_X3_noticeOf (a0 : Nat) (a1 : Int32) : HM Int32 :=
  if 0 < a1 then (tw_bd (gw_gr 2 0 a0) fun x2 =>
  tw_bd (gw_gi 1 5 x2) fun x5 =>
  tw_bd (gw_gr 2 0 a0) fun x8 =>
  tw_bd (gw_gi 1 6 x8) fun x11 =>
  tw_bd (tw_nl ((x5 * ((1 : Int32) + ((2 : Int32) * x11))).toInt64)) fun _ =>
   
  fx_X3_noticeOf_J46 ((if (if (((64 : Int64) * (a1.toInt64)) / ((x5 * ((1 : Int32) + ((2 : Int32) * x11))).toInt64)) < (63 : Int64) then (((64 : Int64) * (a1.toInt64)) / ((x5 * ((1 : Int32) + ((2 : Int32) * x11))).toInt64)) else (63 : Int64)) < (1 : Int64) then (1 : Int64) else (if (((64 : Int64) * (a1.toInt64)) / ((x5 * ((1 : Int32) + ((2 : Int32) * x11))).toInt64)) < (63 : Int64) then (((64 : Int64) * (a1.toInt64)) / ((x5 * ((1 : Int32) + ((2 : Int32) * x11))).toInt64)) else (63 : Int64))).toInt32))
  else (fx_X3_noticeOf_J46 (0 : Int32))
theorem hdX3_noticeOf : yX3_noticeOf.cls = "LosslessFabric$State" ∧ (yX3_noticeOf.cls ≠ "java/lang/invoke/MethodHandle" ∧ yX3_noticeOf.cls ≠ "java/lang/invoke/VarHandle" ∧ (parseMethodDescriptor yX3_noticeOf.desc).map (fun d => d.parameters.length) = some 1) := by decide +kernel
set_option maxHeartbeats 4000000 in
theorem mx_X3_noticeOf {l : Launch} {K : GK} (hA : gw_A K) (a0 : Nat) (a1 : Int32) (t0 tZ : Hp) (r : Int32) (hf : fx_X3_noticeOf a0 a1 t0 = some (r, tZ)) : Met l yX3_noticeOf (ws_ yX3_noticeOf cX3_noticeOf 2 (some (.int))) ({ frames := 2, cells := 0, slots := 0, locals := 30 }) (va_Pc [.ref a0, .int a1] (gw_W K t0)) (gw_Qi K r tZ) 0 0 K.2.2.2.1 := by
  refine Met.ofW (cc := cX3_noticeOf) (maxL := 2) (ret := some (.int)) (by decide) rfl ?_
  intro p e s m args below meth c s₁ B hml hv
  obtain ⟨rfl, hP, hK, hX, hN, hL⟩ := hv
  have hx := B.exec
  have hb := B.bytes
  have hr := B.returns
  have hts := atoms_spec (ws := (ws_ yX3_noticeOf cX3_noticeOf 2 (some (.int)))) B.pre
  have hts : ∀ w ∈ lw_all, w.before _ s = true := fun w h => hts w (List.mem_cons_of_mem _ h)
  have hown : s.vm.findClass "LosslessFabric$State" = some m.cls := findClass_of_methodNamed B.named
  have hlk := B.notSynchronized
  have C : gw_C K "LosslessFabric$State" p s m _ c cX3_noticeOf := ⟨hx, hb, hts, hown, hK, hA, hX, hN, hL⟩
  have hS : va_S K.2.2.2.1 s.heap s.heap [] := va_S.rf
  have hl := lv_entry ([.ref a0, .int a1]) (n := 2) (Nat.le_of_ble_eq_true rfl)
  rw [lg_entry_eq]
  generalize (lg_sl ([.ref a0, .int a1]) ++ List.replicate (2 - (lg_sl ([.ref a0, .int a1])).length) Slot.unset).toArray = ls at hl ⊢
  have hl : lv_has ls 2 [(0, .ref a0), (1, .int a1)] := hl
  unfold fx_X3_noticeOf at hf
  refine lv_iload_n hx hb dX3_noticeOf_0 rfl (lv_at hl 1 rfl) ?_
  have k46 : ∀ (w46_0 : Int32) (t1 : Hp) (H : Heap) (locs : List Loc) (ls : Array Slot), gw_P K t1 H → va_S K.2.2.2.1 s.heap H locs → lv_has ls 2 [] → fx_X3_noticeOf_J46 w46_0 t1 = some (r, tZ) → W p l e (headSpec (ws_ yX3_noticeOf cX3_noticeOf 2 (some (.int))) ({ frames := 2, cells := 0, slots := 0, locals := 30 })).room s m ([.ref a0, .int a1] : List Value).toArray below meth c H locs 0 0 (MQ below (gw_Qi K r tZ) ([.ref a0, .int a1] : List Value).toArray s 0 0 K.2.2.2.1) (F0 m 46 ls [.int w46_0]) := by
    intro w46_0 t1 H locs ls hP hS hl hf
    unfold fx_X3_noticeOf_J46 at hf
    exact gw_ireti (tw_rtE hf).1 (tw_rtE hf).2 rfl rfl C hr hP hS hlk dX3_noticeOf_46
  refine lv_if_gt (tgt := 8) hx hb dX3_noticeOf_1 (by decide) (fun hc => ?_) (fun hc => ?_)
  · have hf := tw_ifT hc hf
    refine lv_lconst (v := (1 : Int64)) hx hb dX3_noticeOf_8 (by decide) ?_
    refine lv_ldc2 hx hb hown (hts _ q906) dX3_noticeOf_9 ?_
    refine lv_ldc2 hx hb hown (hts _ q907) dX3_noticeOf_12 ?_
    refine lv_iload_n hx hb dX3_noticeOf_15 rfl (lv_at hl 1 rfl) ?_
    refine lv_i2l hx hb dX3_noticeOf_16 rfl ?_
    refine lv_lmul hx hb dX3_noticeOf_17 ?_
    refine lv_aload_n hx hb dX3_noticeOf_18 rfl (lv_at hl 0 rfl) ?_
    obtain ⟨x2, t3, e4, hf⟩ := tw_bdE hf
    refine gw_rget (ci := 2) (k := 0) (T := TX3) C hP rfl in_X3 (by decide) e4 q351 rfl dX3_noticeOf_19 (fun hP => ?_)
    obtain ⟨x5, t6, e7, hf⟩ := tw_bdE hf
    refine gw_igetN (ci := 1) (k := 5) (T := TX2) C hP rfl in_X2 (by decide) e7 q171 rfl dX3_noticeOf_22 (fun hP => ?_)
    refine lv_iconst (v := (1 : Int32)) hx hb dX3_noticeOf_25 (by decide) ?_
    refine lv_iconst (v := (2 : Int32)) hx hb dX3_noticeOf_26 (by decide) ?_
    refine lv_aload_n hx hb dX3_noticeOf_27 rfl (lv_at hl 0 rfl) ?_
    obtain ⟨x8, t9, e10, hf⟩ := tw_bdE hf
    refine gw_rget (ci := 2) (k := 0) (T := TX3) C hP rfl in_X3 (by decide) e10 q351 rfl dX3_noticeOf_28 (fun hP => ?_)
    obtain ⟨x11, t12, e13, hf⟩ := tw_bdE hf
    refine gw_igetN (ci := 1) (k := 6) (T := TX2) C hP rfl in_X2 (by decide) e13 q174 rfl dX3_noticeOf_31 (fun hP => ?_)
    refine lv_imul hx hb dX3_noticeOf_34 ?_
    refine lv_iadd hx hb dX3_noticeOf_35 ?_
    refine lv_imul hx hb dX3_noticeOf_36 ?_
    refine lv_i2l hx hb dX3_noticeOf_37 rfl ?_
    obtain ⟨w14, t15, e16, hf⟩ := tw_bdE hf
    rw [← (tw_nlE e16).2] at hf
    refine lv_ldiv hx hb dX3_noticeOf_38 (tw_nlE e16).1 ?_
    refine va_mmin_long (rest := [.long (1 : Int64)]) hx hb (hml.trans hl.1.symm) hown (hts _ q908) (hts _ q909) (hts _ q110) (hts _ q910) (Nat.le_of_ble_eq_true rfl) (Nat.le_of_ble_eq_true rfl) (Nat.zero_le _) (Nat.zero_le _) dX3_noticeOf_39 ?_
    refine va_mmax_long (rest := []) hx hb (hml.trans hl.1.symm) hown (hts _ q911) (hts _ q912) (hts _ q110) (hts _ q913) (Nat.le_of_ble_eq_true rfl) (Nat.le_of_ble_eq_true rfl) (Nat.zero_le _) (Nat.zero_le _) dX3_noticeOf_42 ?_
    refine lv_l2i hx hb dX3_noticeOf_45 rfl ?_
    exact k46 _ _ _ _ _ hP hS (lv_sub hl [] rfl) hf
  · have hf := tw_ifF hc hf
    refine lv_iconst (v := (0 : Int32)) hx hb dX3_noticeOf_4 (by decide) ?_
    refine lv_goto (tgt := 46) hx hb dX3_noticeOf_5 (by decide) ?_
    exact k46 _ _ _ _ _ hP hS (lv_sub hl [] rfl) hf
def fx_X1_samples_J69 (sf13 : Int32 → Int32 → gM Unit) (v13_5 : Int32) (v69_4 : Int32) : gM Unit :=
  sf13 v69_4 (v13_5 + (1 : Int32))
def fx_X1_samples_L13 (a0 : Nat) (x4 : Nat) (a1 : Nat) (a2 : Int32) (sf13 : Int32 → Int32 → gM Unit) (v13_4 : Int32) (v13_5 : Int32) : gM Unit :=
  gw_b0 (gw_gr 0 4 a0) fun x8 =>
  gw_b0 (gw_gi 1 3 x8) fun x11 =>
  if x11 ≤ v13_5 then (if 0 ≤ v13_4 then (gw_b0 (gw_gi 3 10 x4) fun x14 =>
  gw_b0 (gw_gr 0 4 a0) fun x17 =>
  gw_b0 (gw_gi 1 4 x17) fun x20 =>
  gw_b0 (tw_nz x20) fun _ =>
  gw_b0 (gw_pi 3 10 x4 (x14 - x14 / x20 * x20)) fun _ =>
  gw_b0 (gw_gi 3 7 x4) fun x29 =>
  gw_b0 (gw_pi 3 7 x4 (x29 + (1 : Int32))) fun _ =>
  gw_b0 (gw_on 2 a1 (fx_X3_feedback a1 a2)) fun x35 =>
  gw_b0 (gw_on 2 a1 (fx_X3_noticeOf a1 x35)) fun x38 =>
  gw_b0 (gw_on 3 x4 (fx_X4_queue x4)) fun x41 =>
  gw_b0 (gw_pi 3 11 x4 x41) fun _ =>
  if x38 = 0 then (gw_rc ())
  else (gw_b0 (gw_gi 3 8 x4) fun x47 =>
  gw_b0 (gw_pi 3 8 x4 (x47 + (1 : Int32))) fun _ =>
  gw_b0 (gw_gr 0 8 a0) fun x53 =>
  gw_b0 (gw_gi 0 9 a0) fun x56 =>
  gw_bc (gw_nw 10 1 tyX11) fun x59 =>
  gw_bc (gw_n2 v13_4 x38) fun x62 =>
  gw_b0 (fx_X11_init x59 x62) fun _ =>
  gw_b0 (gw_sr 9 10 x53 x56 x59) fun _ =>
  gw_b0 (gw_gi 0 9 a0) fun x71 =>
  gw_b0 (gw_pi 0 9 a0 (x71 + (1 : Int32))) fun _ =>
  gw_rc ()))
  else (gw_rc ()))
  else (gw_b0 (gw_gi 3 10 x4) fun x77 =>
  gw_b0 (gw_gr 0 7 a0) fun x80 =>
  gw_b0 (gw_ld 0 x80 (((8 : Int32) * a2) + v13_5)) fun x83 =>
  gw_b0 (gw_pi 3 10 x4 (x77 + x83)) fun _ =>
  if 0 ≤ v13_4 then (fx_X1_samples_J69 sf13 v13_5 v13_4)
  else (gw_b0 (gw_gi 3 10 x4) fun x90 =>
  gw_b0 (gw_gr 0 4 a0) fun x93 =>
  gw_b0 (gw_gi 1 4 x93) fun x96 =>
  if x90 < x96 then (fx_X1_samples_J69 sf13 v13_5 v13_4)
  else (fx_X1_samples_J69 sf13 v13_5 v13_5)))
def fx_X1_samples (a0 : Nat) (a1 : Nat) (a2 : Int32) : gM Unit :=
  gw_b0 (gw_gr 2 2 a1) fun x1 =>
  gw_b0 (gw_lr 6 x1 a2) fun x4 =>
 
  tw_lp (fx_X1_samples_L13 a0 x4 a1 a2) (fun _ _ _ => none) tw_fu (-1 : Int32) (0 : Int32)
theorem hdX1_samples : yX1_samples.cls = "LosslessFabric" ∧ (yX1_samples.cls ≠ "java/lang/invoke/MethodHandle" ∧ yX1_samples.cls ≠ "java/lang/invoke/VarHandle" ∧ (parseMethodDescriptor yX1_samples.desc).map (fun d => d.parameters.length) = some 2) := by decide +kernel
set_option maxHeartbeats 4000000 in
theorem mx_X1_samples {l : Launch} {K : GK} (hA : gw_A K) (a0 : Nat) (a1 : Nat) (a2 : Int32) (t0 tZ : Hp) (r : Unit) (C0 S0 : Nat) (hf : fx_X1_samples a0 a1 a2 t0 = some (r, tZ, C0, S0)) : Met l yX1_samples (ws_ yX1_samples cX1_samples 7 (none)) ({ frames := 4, cells := C0, slots := S0, locals := 3200 }) (va_Pc [.ref a0, .ref a1, .int a2] (gw_W K t0)) (gw_Qv K tZ) C0 S0 K.2.2.2.1 := by
  refine Met.ofW (cc := cX1_samples) (maxL := 7) (ret := none) (by decide) rfl ?_
  intro p e s m args below meth c s₁ B hml hv
  obtain ⟨rfl, hP, hK, hX, hN, hL⟩ := hv
  have hx := B.exec
  have hb := B.bytes
  have hr := B.returns
  have hts := atoms_spec (ws := (ws_ yX1_samples cX1_samples 7 (none))) B.pre
  have hts : ∀ w ∈ lw_all, w.before _ s = true := fun w h => hts w (List.mem_cons_of_mem _ h)
  have hown : s.vm.findClass "LosslessFabric" = some m.cls := findClass_of_methodNamed B.named
  have hlk := B.notSynchronized
  have C : gw_C K "LosslessFabric" p s m _ c cX1_samples := ⟨hx, hb, hts, hown, hK, hA, hX, hN, hL⟩
  have hk : 0 + C0 = C0 := Nat.zero_add _
  have hn : 0 + S0 = S0 := Nat.zero_add _
  have hS : va_S K.2.2.2.1 s.heap s.heap [] := va_S.rf
  have hl := lv_entry ([.ref a0, .ref a1, .int a2]) (n := 7) (Nat.le_of_ble_eq_true rfl)
  rw [lg_entry_eq]
  generalize (lg_sl ([.ref a0, .ref a1, .int a2]) ++ List.replicate (7 - (lg_sl ([.ref a0, .ref a1, .int a2])).length) Slot.unset).toArray = ls at hl ⊢
  have hl : lv_has ls 7 [(0, .ref a0), (1, .ref a1), (2, .int a2)] := hl
  unfold fx_X1_samples at hf
  refine lv_aload_n hx hb dX1_samples_0 rfl (lv_at hl 1 rfl) ?_
  obtain ⟨x1, t2, e3, hf⟩ := gw_b0E hf
  refine gw_rgetN (ci := 2) (k := 2) (T := TX3) C hP rfl in_X3 (by decide) e3 q355 rfl dX1_samples_1 (fun hP => ?_)
  refine lv_iload_n hx hb dX1_samples_4 rfl (lv_at hl 2 rfl) ?_
  obtain ⟨x4, t5, e6, hf⟩ := gw_b0E hf
  refine gw_aald C hP rfl e6 dX1_samples_5 (fun hP => ?_)
  refine lv_astore_n (lv' := [(3, .ref x4), (0, .ref a0), (1, .ref a1), (2, .int a2)]) hx hb dX1_samples_6 rfl hl (by decide) rfl (fun ls hl => ?_)
  refine lv_iconst (v := (-1 : Int32)) hx hb dX1_samples_7 (by decide) ?_
  refine lv_istore (lv' := [(4, .int (-1 : Int32)), (3, .ref x4), (0, .ref a0), (1, .ref a1), (2, .int a2)]) hx hb dX1_samples_8 hl (by decide) rfl (fun ls hl => ?_)
  refine lv_iconst (v := (0 : Int32)) hx hb dX1_samples_10 (by decide) ?_
  refine lv_istore (lv' := [(5, .int (0 : Int32)), (4, .int (-1 : Int32)), (3, .ref x4), (0, .ref a0), (1, .ref a1), (2, .int a2)]) hx hb dX1_samples_11 hl (by decide) rfl (fun ls hl => ?_)
  have k13 : ∀ (n : Nat) (v13_4 : Int32) (v13_5 : Int32) (t7 : Hp) (k7 n7 C7 S7 : Nat) (H : Heap) (locs : List Loc) (ls : Array Slot), gw_P K t7 H → va_S K.2.2.2.1 s.heap H locs → k7 + C7 = C0 → n7 + S7 = S0 → lv_has ls 7 [(0, .ref a0), (1, .ref a1), (2, .int a2), (3, .ref x4), (4, .int v13_4), (5, .int v13_5)] → tw_lp (fx_X1_samples_L13 a0 x4 a1 a2) (fun _ _ _ => none) n v13_4 v13_5 t7 = some (r, tZ, C7, S7) → W p l e (headSpec (ws_ yX1_samples cX1_samples 7 (none)) ({ frames := 4, cells := C0, slots := S0, locals := 3200 })).room s m ([.ref a0, .ref a1, .int a2] : List Value).toArray below meth c H locs k7 n7 (MQ below (gw_Qv K tZ) ([.ref a0, .ref a1, .int a2] : List Value).toArray s C0 S0 K.2.2.2.1) (F0 m 13 ls []) := by
    intro n
    induction n with
    | zero => intro v13_4 v13_5 t7 k7 n7 C7 S7 H locs ls hP hS hk hn hl hf; exact (tw_no hf).elim
    | succ n ih13 =>
      intro v13_4 v13_5 t7 k7 n7 C7 S7 H locs ls hP hS hk hn hl hf
      obtain ⟨sf13, hs13⟩ : ∃ f, f = tw_lp (fx_X1_samples_L13 a0 x4 a1 a2) (fun _ _ _ => none) n := ⟨_, rfl⟩
      rw [← hs13] at ih13
      have hf : fx_X1_samples_L13 a0 x4 a1 a2 sf13 v13_4 v13_5 t7 = some (r, tZ, C7, S7) := by rw [hs13]; exact hf
      clear hs13
      unfold fx_X1_samples_L13 at hf
      refine lv_iload hx hb dX1_samples_13 (lv_at hl 5 rfl) ?_
      refine lv_aload_n hx hb dX1_samples_15 rfl (lv_at hl 0 rfl) ?_
      obtain ⟨x8, t9, e10, hf⟩ := gw_b0E hf
      refine gw_rget (ci := 0) (k := 4) (T := TX1) C hP rfl in_X1 (by decide) e10 q394 rfl dX1_samples_16 (fun hP => ?_)
      obtain ⟨x11, t12, e13, hf⟩ := gw_b0E hf
      refine gw_igetN (ci := 1) (k := 3) (T := TX2) C hP rfl in_X2 (by decide) e13 q165 rfl dX1_samples_19 (fun hP => ?_)
      refine lv_icmp_ge (tgt := 75) hx hb dX1_samples_22 (by decide) (fun hc => ?_) (fun hc => ?_)
      · have hf := tw_ifT hc hf
        refine lv_iload hx hb dX1_samples_75 (lv_at hl 4 rfl) ?_
        refine lv_if_ge (tgt := 81) hx hb dX1_samples_77 (by decide) (fun hc => ?_) (fun hc => ?_)
        · have hf := tw_ifT hc hf
          refine lv_aload_n hx hb dX1_samples_81 rfl (lv_at hl 3 rfl) ?_
          refine lv_dup hx hb dX1_samples_82 rfl ?_
          obtain ⟨x14, t15, e16, hf⟩ := gw_b0E hf
          refine gw_igetN (ci := 3) (k := 10) (T := TX4) C hP rfl in_X4 (by decide) e16 q261 rfl dX1_samples_83 (fun hP => ?_)
          refine lv_aload_n hx hb dX1_samples_86 rfl (lv_at hl 0 rfl) ?_
          obtain ⟨x17, t18, e19, hf⟩ := gw_b0E hf
          refine gw_rget (ci := 0) (k := 4) (T := TX1) C hP rfl in_X1 (by decide) e19 q394 rfl dX1_samples_87 (fun hP => ?_)
          obtain ⟨x20, t21, e22, hf⟩ := gw_b0E hf
          refine gw_igetN (ci := 1) (k := 4) (T := TX2) C hP rfl in_X2 (by decide) e22 q169 rfl dX1_samples_90 (fun hP => ?_)
          obtain ⟨w23, t24, e25, hf⟩ := gw_b0E hf
          rw [← (tw_nzE e25).2] at hf
          refine lv_irem hx hb dX1_samples_93 (tw_nzE e25).1 ?_
          obtain ⟨x26, t27, e28, hf⟩ := gw_b0E hf
          refine gw_vputN (ci := 3) (k := 10) (T := TX4) C hP hS rfl in_X4 tyX4 tyX4_ok nmX4 (by decide) e28 q261 rfl rfl (vp_nar_int _) rfl dX1_samples_94 (fun H locs hP hS => ?_)
          refine lv_aload_n hx hb dX1_samples_97 rfl (lv_at hl 3 rfl) ?_
          refine lv_dup hx hb dX1_samples_98 rfl ?_
          obtain ⟨x29, t30, e31, hf⟩ := gw_b0E hf
          refine gw_igetN (ci := 3) (k := 7) (T := TX4) C hP rfl in_X4 (by decide) e31 q255 rfl dX1_samples_99 (fun hP => ?_)
          refine lv_iconst (v := (1 : Int32)) hx hb dX1_samples_102 (by decide) ?_
          refine lv_iadd hx hb dX1_samples_103 ?_
          obtain ⟨x32, t33, e34, hf⟩ := gw_b0E hf
          refine gw_vputN (ci := 3) (k := 7) (T := TX4) C hP hS rfl in_X4 tyX4 tyX4_ok nmX4 (by decide) e34 q255 rfl rfl (vp_nar_int _) rfl dX1_samples_104 (fun H locs hP hS => ?_)
          refine lv_aload_n hx hb dX1_samples_107 rfl (lv_at hl 1 rfl) ?_
          refine lv_aload_n hx hb dX1_samples_108 rfl (lv_at hl 1 rfl) ?_
          refine lv_iload_n hx hb dX1_samples_109 rfl (lv_at hl 2 rfl) ?_
          obtain ⟨x35, t36, e37, hf⟩ := gw_b0E hf
          refine gw_cVi (As := [.int a2]) (rest := [.ref a1]) (ci := 2) (T := TX3) (N := 4) C hml hP hS rfl (gw_onE e37).1 (mx_X3_feedback (l := l) (K := K) hA _ _ _ _ _ (gw_onE e37).2) (cwV 1 hts (lw_V q897 q898 q899 q103 q900) rfl rfl rfl hdX3_feedback ⟨Nat.le_of_ble_eq_true rfl, Nat.le_of_ble_eq_true rfl⟩) rfl hl.1 rfl (Nat.le_of_ble_eq_true rfl) (Nat.le.intro hk) (Nat.le.intro hn) dX1_samples_110 (fun H locs hP hS => ?_)
          obtain ⟨x38, t39, e40, hf⟩ := gw_b0E hf
          refine gw_cVi (As := [.int x35]) (rest := []) (ci := 2) (T := TX3) (N := 4) C hml hP hS rfl (gw_onE e40).1 (mx_X3_noticeOf (l := l) (K := K) hA _ _ _ _ _ (gw_onE e40).2) (cwV 1 hts (lw_V q902 q903 q904 q103 q905) rfl rfl rfl hdX3_noticeOf ⟨Nat.le_of_ble_eq_true rfl, Nat.le_of_ble_eq_true rfl⟩) rfl hl.1 rfl (Nat.le_of_ble_eq_true rfl) (Nat.le.intro hk) (Nat.le.intro hn) dX1_samples_113 (fun H locs hP hS => ?_)
          refine lv_istore (lv' := [(5, .int x38), (0, .ref a0), (1, .ref a1), (2, .int a2), (3, .ref x4), (4, .int v13_4)]) hx hb dX1_samples_116 hl (by decide) rfl (fun ls hl => ?_)
          refine lv_aload_n hx hb dX1_samples_118 rfl (lv_at hl 4 rfl) ?_
          refine lv_aload_n hx hb dX1_samples_119 rfl (lv_at hl 4 rfl) ?_
          obtain ⟨x41, t42, e43, hf⟩ := gw_b0E hf
          refine gw_cVi (As := []) (rest := [.ref x4]) (ci := 3) (T := TX4) (N := 12) C hml hP hS rfl (gw_onE e43).1 (mx_X4_queue (l := l) (K := K) hA _ _ _ _ (gw_onE e43).2) (cwV 0 hts (lw_V q883 q884 q885 q104 q886) rfl rfl rfl hdX4_queue ⟨Nat.le_of_ble_eq_true rfl, Nat.le_of_ble_eq_true rfl⟩) rfl hl.1 rfl (Nat.le_of_ble_eq_true rfl) (Nat.le.intro hk) (Nat.le.intro hn) dX1_samples_120 (fun H locs hP hS => ?_)
          obtain ⟨x44, t45, e46, hf⟩ := gw_b0E hf
          refine gw_vputN (ci := 3) (k := 11) (T := TX4) C hP hS rfl in_X4 tyX4 tyX4_ok nmX4 (by decide) e46 q264 rfl rfl (vp_nar_int _) rfl dX1_samples_123 (fun H locs hP hS => ?_)
          refine lv_iload hx hb dX1_samples_126 (lv_at hl 0 rfl) ?_
          refine lv_if_ne (tgt := 132) hx hb dX1_samples_128 (by decide) (fun hc => ?_) (fun hc => ?_)
          · have hf := tw_ifF hc hf
            refine lv_aload_n hx hb dX1_samples_132 rfl (lv_at hl 4 rfl) ?_
            refine lv_dup hx hb dX1_samples_133 rfl ?_
            obtain ⟨x47, t48, e49, hf⟩ := gw_b0E hf
            refine gw_igetN (ci := 3) (k := 8) (T := TX4) C hP rfl in_X4 (by decide) e49 q257 rfl dX1_samples_134 (fun hP => ?_)
            refine lv_iconst (v := (1 : Int32)) hx hb dX1_samples_137 (by decide) ?_
            refine lv_iadd hx hb dX1_samples_138 ?_
            obtain ⟨x50, t51, e52, hf⟩ := gw_b0E hf
            refine gw_vputN (ci := 3) (k := 8) (T := TX4) C hP hS rfl in_X4 tyX4 tyX4_ok nmX4 (by decide) e52 q257 rfl rfl (vp_nar_int _) rfl dX1_samples_139 (fun H locs hP hS => ?_)
            refine lv_iload hx hb dX1_samples_142 (lv_at hl 5 rfl) ?_
            refine lv_istore (lv' := [(6, .int v13_4), (5, .int x38), (0, .ref a0), (1, .ref a1), (2, .int a2), (3, .ref x4), (4, .int v13_4)]) hx hb dX1_samples_144 hl (by decide) rfl (fun ls hl => ?_)
            refine lv_aload_n hx hb dX1_samples_146 rfl (lv_at hl 2 rfl) ?_
            obtain ⟨x53, t54, e55, hf⟩ := gw_b0E hf
            refine gw_rget (ci := 0) (k := 8) (T := TX1) C hP rfl in_X1 (by decide) e55 q400 rfl dX1_samples_147 (fun hP => ?_)
            refine lv_aload_n hx hb dX1_samples_150 rfl (lv_at hl 2 rfl) ?_
            obtain ⟨x56, t57, e58, hf⟩ := gw_b0E hf
            refine gw_iget (ci := 0) (k := 9) (T := TX1) C hP rfl in_X1 (by decide) e58 q401 rfl dX1_samples_151 (fun hP => ?_)
            obtain ⟨x59, t60, c60, s60, C60, S60, e61, hf, hk, hn⟩ := gw_bcE hf hk hn
            refine gw_new (T := TX11) C hP hS rfl in_X11 tyX11_ok e61 q218 q914 q120 (Nat.le.intro hk) (Nat.le.intro hn) dX1_samples_154 (fun H hP hS => ?_)
            refine lv_dup hx hb dX1_samples_157 rfl ?_
            refine lv_iload hx hb dX1_samples_158 (lv_at hl 0 rfl) ?_
            refine lv_iload hx hb dX1_samples_160 (lv_at hl 1 rfl) ?_
            obtain ⟨x62, t63, c63, s63, C63, S63, e64, hf, hk, hn⟩ := gw_bcE hf hk hn
            refine gw_mk1 (rest := [.ref x59, .ref x59, .int x56, .ref x53]) C (hml.trans hl.1.symm) B.named hP hS e64 (show 6 + 3072 ≤ _ from Nat.le_of_ble_eq_true rfl) (Nat.le.intro hk) (Nat.le.intro hn) dX1_samples_162 (fun H hP hS => ?_)
            obtain ⟨x65, t66, e67, hf⟩ := gw_b0E hf
            refine gw_cIv (As := [.ref x62]) (rest := [.ref x59, .int x56, .ref x53]) C hml hP hS (mx_X11_init (l := l) (K := K) hA _ _ _ _ _ e67) (cwI 1 hts (lw_meth q924) rfl rfl rfl (hts _ q120) (hts _ q922) (hts _ q923) rfl hdX11_init.2 ⟨Nat.le_of_ble_eq_true rfl, Nat.le_of_ble_eq_true rfl⟩) rfl hl.1 rfl (Nat.le_of_ble_eq_true rfl) (Nat.le.intro hk) (Nat.le.intro hn) dX1_samples_167 (fun H locs hP hS => ?_)
            obtain ⟨x68, t69, e70, hf⟩ := gw_b0E hf
            refine gw_aast (r := (RX11, TX11, 1)) C hP hS rfl rfl e70 dX1_samples_170 (fun H locs hP hS => ?_)
            refine lv_aload_n hx hb dX1_samples_171 rfl (lv_at hl 2 rfl) ?_
            refine lv_dup hx hb dX1_samples_172 rfl ?_
            obtain ⟨x71, t72, e73, hf⟩ := gw_b0E hf
            refine gw_iget (ci := 0) (k := 9) (T := TX1) C hP rfl in_X1 (by decide) e73 q401 rfl dX1_samples_173 (fun hP => ?_)
            refine lv_iconst (v := (1 : Int32)) hx hb dX1_samples_176 (by decide) ?_
            refine lv_iadd hx hb dX1_samples_177 ?_
            obtain ⟨x74, t75, e76, hf⟩ := gw_b0E hf
            refine gw_vput (ci := 0) (k := 9) (T := TX1) C hP hS rfl in_X1 tyX1 tyX1_ok nmX1 (by decide) e76 q401 rfl rfl (vp_nar_int _) rfl dX1_samples_178 (fun H locs hP hS => ?_)
            obtain ⟨h1, h2, h3, h4⟩ := gw_rcE hf hk hn
            exact gw_iretv h2 h3 h4 C hr hP hS hlk dX1_samples_181
          · have hf := tw_ifT hc hf
            obtain ⟨h1, h2, h3, h4⟩ := gw_rcE hf hk hn
            exact gw_iretv h2 h3 h4 C hr hP hS hlk dX1_samples_131
        · have hf := tw_ifF hc hf
          obtain ⟨h1, h2, h3, h4⟩ := gw_rcE hf hk hn
          exact gw_iretv h2 h3 h4 C hr hP hS hlk dX1_samples_80
      · have hf := tw_ifF hc hf
        refine lv_aload_n hx hb dX1_samples_25 rfl (lv_at hl 3 rfl) ?_
        refine lv_dup hx hb dX1_samples_26 rfl ?_
        obtain ⟨x77, t78, e79, hf⟩ := gw_b0E hf
        refine gw_igetN (ci := 3) (k := 10) (T := TX4) C hP rfl in_X4 (by decide) e79 q261 rfl dX1_samples_27 (fun hP => ?_)
        refine lv_aload_n hx hb dX1_samples_30 rfl (lv_at hl 0 rfl) ?_
        obtain ⟨x80, t81, e82, hf⟩ := gw_b0E hf
        refine gw_rget (ci := 0) (k := 7) (T := TX1) C hP rfl in_X1 (by decide) e82 q399 rfl dX1_samples_31 (fun hP => ?_)
        refine lv_bipush (v := (8 : Int32)) hx hb dX1_samples_34 (by decide) ?_
        refine lv_iload_n hx hb dX1_samples_36 rfl (lv_at hl 2 rfl) ?_
        refine lv_imul hx hb dX1_samples_37 ?_
        refine lv_iload hx hb dX1_samples_38 (lv_at hl 5 rfl) ?_
        refine lv_iadd hx hb dX1_samples_40 ?_
        obtain ⟨x83, t84, e85, hf⟩ := gw_b0E hf
        refine gw_iald C hP e85 dX1_samples_41 (fun hP => ?_)
        refine lv_iadd hx hb dX1_samples_42 ?_
        obtain ⟨x86, t87, e88, hf⟩ := gw_b0E hf
        refine gw_vputN (ci := 3) (k := 10) (T := TX4) C hP hS rfl in_X4 tyX4 tyX4_ok nmX4 (by decide) e88 q261 rfl rfl (vp_nar_int _) rfl dX1_samples_43 (fun H locs hP hS => ?_)
        refine lv_iload hx hb dX1_samples_46 (lv_at hl 4 rfl) ?_
        have k69 : ∀ (v69_4 : Int32) (t89 : Hp) (k89 n89 C89 S89 : Nat) (H : Heap) (locs : List Loc) (ls : Array Slot), gw_P K t89 H → va_S K.2.2.2.1 s.heap H locs → k89 + C89 = C0 → n89 + S89 = S0 → lv_has ls 7 [(0, .ref a0), (1, .ref a1), (2, .int a2), (3, .ref x4), (4, .int v69_4), (5, .int v13_5)] → fx_X1_samples_J69 sf13 v13_5 v69_4 t89 = some (r, tZ, C89, S89) → W p l e (headSpec (ws_ yX1_samples cX1_samples 7 (none)) ({ frames := 4, cells := C0, slots := S0, locals := 3200 })).room s m ([.ref a0, .ref a1, .int a2] : List Value).toArray below meth c H locs k89 n89 (MQ below (gw_Qv K tZ) ([.ref a0, .ref a1, .int a2] : List Value).toArray s C0 S0 K.2.2.2.1) (F0 m 69 ls []) := by
          intro v69_4 t89 k89 n89 C89 S89 H locs ls hP hS hk hn hl hf
          unfold fx_X1_samples_J69 at hf
          refine lv_iinc (v := (v13_5 + (1 : Int32))) (lv' := [(5, .int (v13_5 + (1 : Int32))), (0, .ref a0), (1, .ref a1), (2, .int a2), (3, .ref x4), (4, .int v69_4)]) hx hb dX1_samples_69 hl (k := 5) rfl rfl (by decide) rfl (fun ls hl => ?_)
          refine lv_goto (tgt := 13) hx hb dX1_samples_72 (by decide) ?_
          exact ih13 _ _ _ _ _ _ _ _ _ _ hP hS hk hn (lv_sub hl [1, 2, 3, 4, 5, 0] rfl) hf
        refine lv_if_ge (tgt := 69) hx hb dX1_samples_48 (by decide) (fun hc => ?_) (fun hc => ?_)
        · have hf := tw_ifT hc hf
          exact k69 _ _ _ _ _ _ _ _ _ hP hS hk hn (lv_sub hl [0, 1, 2, 3, 4, 5] rfl) hf
        · have hf := tw_ifF hc hf
          refine lv_aload_n hx hb dX1_samples_51 rfl (lv_at hl 3 rfl) ?_
          obtain ⟨x90, t91, e92, hf⟩ := gw_b0E hf
          refine gw_igetN (ci := 3) (k := 10) (T := TX4) C hP rfl in_X4 (by decide) e92 q261 rfl dX1_samples_52 (fun hP => ?_)
          refine lv_aload_n hx hb dX1_samples_55 rfl (lv_at hl 0 rfl) ?_
          obtain ⟨x93, t94, e95, hf⟩ := gw_b0E hf
          refine gw_rget (ci := 0) (k := 4) (T := TX1) C hP rfl in_X1 (by decide) e95 q394 rfl dX1_samples_56 (fun hP => ?_)
          obtain ⟨x96, t97, e98, hf⟩ := gw_b0E hf
          refine gw_igetN (ci := 1) (k := 4) (T := TX2) C hP rfl in_X2 (by decide) e98 q169 rfl dX1_samples_59 (fun hP => ?_)
          refine lv_icmp_lt (tgt := 69) hx hb dX1_samples_62 (by decide) (fun hc => ?_) (fun hc => ?_)
          · have hf := tw_ifT hc hf
            exact k69 _ _ _ _ _ _ _ _ _ hP hS hk hn (lv_sub hl [0, 1, 2, 3, 4, 5] rfl) hf
          · have hf := tw_ifF hc hf
            refine lv_iload hx hb dX1_samples_65 (lv_at hl 5 rfl) ?_
            refine lv_istore (lv' := [(4, .int v13_5), (0, .ref a0), (1, .ref a1), (2, .int a2), (3, .ref x4), (5, .int v13_5)]) hx hb dX1_samples_67 hl (by decide) rfl (fun ls hl => ?_)
            exact k69 _ _ _ _ _ _ _ _ _ hP hS hk hn (lv_sub hl [1, 2, 3, 4, 0, 5] rfl) hf
  exact k13 _ _ _ _ _ _ _ _ _ _ _ hP hS hk hn (lv_sub hl [3, 4, 5, 2, 1, 0] rfl) hf
def fx_X3_ready_J67  (w67_0 : Int32) : HM Int32 :=
  tw_rt w67_0
def fx_X3_ready (a0 : Nat) (a1 : Int32) (a2 : Int32) : HM Int32 :=
  tw_bd (gw_gr 2 0 a0) fun x1 =>
  tw_bd (gw_gr 1 1 x1) fun x4 =>
  tw_bd (gw_lr 5 x4 a2) fun x7 =>
  tw_bd (gw_on 9 x7 (fx_X10_at x7 a1)) fun x10 =>
  if 0 ≤ x10 then (if x10 = 0 then (tw_bd (gw_gr 2 3 a0) fun x41 =>
  tw_bd (gw_lr 7 x41 a2) fun x44 =>
  tw_bd (gw_gi 4 6 x44) fun x47 =>
  tw_bd (tw_nz (16 : Int32)) fun _ =>
 
  fx_X3_ready_J67 (x47 / (16 : Int32)))
  else (tw_bd (gw_gr 2 2 a0) fun x14 =>
  tw_bd (gw_gr 2 0 a0) fun x17 =>
  tw_bd (gw_gr 1 1 x17) fun x20 =>
  tw_bd (gw_lr 5 x20 a2) fun x23 =>
  tw_bd (gw_gr 9 2 x23) fun x26 =>
  tw_bd (gw_ld 0 x26 (x10 - (1 : Int32))) fun x29 =>
  tw_bd (gw_lr 6 x14 x29) fun x32 =>
  tw_bd (gw_gr 3 0 x32) fun x35 =>
  tw_bd (gw_ld 0 x35 a2) fun x38 =>
 
  fx_X3_ready_J67 x38))
  else (fx_X3_ready_J67 (0 : Int32))
theorem hdX3_ready : yX3_ready.cls = "LosslessFabric$State" ∧ (yX3_ready.cls ≠ "java/lang/invoke/MethodHandle" ∧ yX3_ready.cls ≠ "java/lang/invoke/VarHandle" ∧ (parseMethodDescriptor yX3_ready.desc).map (fun d => d.parameters.length) = some 2) := by decide +kernel
set_option maxHeartbeats 4000000 in
theorem mx_X3_ready {l : Launch} {K : GK} (hA : gw_A K) (a0 : Nat) (a1 : Int32) (a2 : Int32) (t0 tZ : Hp) (r : Int32) (hf : fx_X3_ready a0 a1 a2 t0 = some (r, tZ)) : Met l yX3_ready (ws_ yX3_ready cX3_ready 4 (some (.int))) ({ frames := 3, cells := 0, slots := 0, locals := 34 }) (va_Pc [.ref a0, .int a1, .int a2] (gw_W K t0)) (gw_Qi K r tZ) 0 0 K.2.2.2.1 := by
  refine Met.ofW (cc := cX3_ready) (maxL := 4) (ret := some (.int)) (by decide) rfl ?_
  intro p e s m args below meth c s₁ B hml hv
  obtain ⟨rfl, hP, hK, hX, hN, hL⟩ := hv
  have hx := B.exec
  have hb := B.bytes
  have hr := B.returns
  have hts := atoms_spec (ws := (ws_ yX3_ready cX3_ready 4 (some (.int)))) B.pre
  have hts : ∀ w ∈ lw_all, w.before _ s = true := fun w h => hts w (List.mem_cons_of_mem _ h)
  have hown : s.vm.findClass "LosslessFabric$State" = some m.cls := findClass_of_methodNamed B.named
  have hlk := B.notSynchronized
  have C : gw_C K "LosslessFabric$State" p s m _ c cX3_ready := ⟨hx, hb, hts, hown, hK, hA, hX, hN, hL⟩
  have hS : va_S K.2.2.2.1 s.heap s.heap [] := va_S.rf
  have hl := lv_entry ([.ref a0, .int a1, .int a2]) (n := 4) (Nat.le_of_ble_eq_true rfl)
  rw [lg_entry_eq]
  generalize (lg_sl ([.ref a0, .int a1, .int a2]) ++ List.replicate (4 - (lg_sl ([.ref a0, .int a1, .int a2])).length) Slot.unset).toArray = ls at hl ⊢
  have hl : lv_has ls 4 [(0, .ref a0), (1, .int a1), (2, .int a2)] := hl
  unfold fx_X3_ready at hf
  refine lv_aload_n hx hb dX3_ready_0 rfl (lv_at hl 0 rfl) ?_
  obtain ⟨x1, t2, e3, hf⟩ := tw_bdE hf
  refine gw_rget (ci := 2) (k := 0) (T := TX3) C hP rfl in_X3 (by decide) e3 q351 rfl dX3_ready_1 (fun hP => ?_)
  obtain ⟨x4, t5, e6, hf⟩ := tw_bdE hf
  refine gw_rgetN (ci := 1) (k := 1) (T := TX2) C hP rfl in_X2 (by decide) e6 q153 rfl dX3_ready_4 (fun hP => ?_)
  refine lv_iload_n hx hb dX3_ready_7 rfl (lv_at hl 2 rfl) ?_
  obtain ⟨x7, t8, e9, hf⟩ := tw_bdE hf
  refine gw_aald C hP rfl e9 dX3_ready_8 (fun hP => ?_)
  refine lv_iload_n hx hb dX3_ready_9 rfl (lv_at hl 1 rfl) ?_
  obtain ⟨x10, t11, e12, hf⟩ := tw_bdE hf
  refine gw_cVi (As := [.int a1]) (rest := []) (ci := 9) (T := TX10) (N := 5) C hml hP hS rfl (gw_onE e12).1 (mx_X10_at (l := l) (K := K) hA _ _ _ _ _ (gw_onE e12).2) (cwV 1 hts (lw_V q861 q797 q798 q118 q799) rfl rfl rfl hdX10_at ⟨Nat.le_of_ble_eq_true rfl, Nat.le_of_ble_eq_true rfl⟩) rfl hl.1 rfl (Nat.le_of_ble_eq_true rfl) (Nat.zero_le _) (Nat.zero_le _) dX3_ready_10 (fun H locs hP hS => ?_)
  refine lv_istore_n (lv' := [(3, .int x10), (0, .ref a0), (1, .int a1), (2, .int a2)]) hx hb dX3_ready_13 rfl hl (by decide) rfl (fun ls hl => ?_)
  refine lv_iload_n hx hb dX3_ready_14 rfl (lv_at hl 0 rfl) ?_
  have k67 : ∀ (w67_0 : Int32) (t13 : Hp) (H : Heap) (locs : List Loc) (ls : Array Slot), gw_P K t13 H → va_S K.2.2.2.1 s.heap H locs → lv_has ls 4 [] → fx_X3_ready_J67 w67_0 t13 = some (r, tZ) → W p l e (headSpec (ws_ yX3_ready cX3_ready 4 (some (.int))) ({ frames := 3, cells := 0, slots := 0, locals := 34 })).room s m ([.ref a0, .int a1, .int a2] : List Value).toArray below meth c H locs 0 0 (MQ below (gw_Qi K r tZ) ([.ref a0, .int a1, .int a2] : List Value).toArray s 0 0 K.2.2.2.1) (F0 m 67 ls [.int w67_0]) := by
    intro w67_0 t13 H locs ls hP hS hl hf
    unfold fx_X3_ready_J67 at hf
    exact gw_ireti (tw_rtE hf).1 (tw_rtE hf).2 rfl rfl C hr hP hS hlk dX3_ready_67
  refine lv_if_ge (tgt := 22) hx hb dX3_ready_15 (by decide) (fun hc => ?_) (fun hc => ?_)
  · have hf := tw_ifT hc hf
    refine lv_iload_n hx hb dX3_ready_22 rfl (lv_at hl 0 rfl) ?_
    refine lv_if_ne (tgt := 41) hx hb dX3_ready_23 (by decide) (fun hc => ?_) (fun hc => ?_)
    · have hf := tw_ifF hc hf
      refine lv_aload_n hx hb dX3_ready_41 rfl (lv_at hl 1 rfl) ?_
      obtain ⟨x14, t15, e16, hf⟩ := tw_bdE hf
      refine gw_rget (ci := 2) (k := 2) (T := TX3) C hP rfl in_X3 (by decide) e16 q354 rfl dX3_ready_42 (fun hP => ?_)
      refine lv_aload_n hx hb dX3_ready_45 rfl (lv_at hl 1 rfl) ?_
      obtain ⟨x17, t18, e19, hf⟩ := tw_bdE hf
      refine gw_rget (ci := 2) (k := 0) (T := TX3) C hP rfl in_X3 (by decide) e19 q351 rfl dX3_ready_46 (fun hP => ?_)
      obtain ⟨x20, t21, e22, hf⟩ := tw_bdE hf
      refine gw_rgetN (ci := 1) (k := 1) (T := TX2) C hP rfl in_X2 (by decide) e22 q153 rfl dX3_ready_49 (fun hP => ?_)
      refine lv_iload_n hx hb dX3_ready_52 rfl (lv_at hl 3 rfl) ?_
      obtain ⟨x23, t24, e25, hf⟩ := tw_bdE hf
      refine gw_aald C hP rfl e25 dX3_ready_53 (fun hP => ?_)
      obtain ⟨x26, t27, e28, hf⟩ := tw_bdE hf
      refine gw_rgetN (ci := 9) (k := 2) (T := TX10) C hP rfl in_X10 (by decide) e28 q777 rfl dX3_ready_54 (fun hP => ?_)
      refine lv_iload_n hx hb dX3_ready_57 rfl (lv_at hl 0 rfl) ?_
      refine lv_iconst (v := (1 : Int32)) hx hb dX3_ready_58 (by decide) ?_
      refine lv_isub hx hb dX3_ready_59 ?_
      obtain ⟨x29, t30, e31, hf⟩ := tw_bdE hf
      refine gw_iald C hP e31 dX3_ready_60 (fun hP => ?_)
      obtain ⟨x32, t33, e34, hf⟩ := tw_bdE hf
      refine gw_aald C hP rfl e34 dX3_ready_61 (fun hP => ?_)
      obtain ⟨x35, t36, e37, hf⟩ := tw_bdE hf
      refine gw_rgetN (ci := 3) (k := 0) (T := TX4) C hP rfl in_X4 (by decide) e37 q239 rfl dX3_ready_62 (fun hP => ?_)
      refine lv_iload_n hx hb dX3_ready_65 rfl (lv_at hl 3 rfl) ?_
      obtain ⟨x38, t39, e40, hf⟩ := tw_bdE hf
      refine gw_iald C hP e40 dX3_ready_66 (fun hP => ?_)
      exact k67 _ _ _ _ _ hP hS (lv_sub hl [] rfl) hf
    · have hf := tw_ifT hc hf
      refine lv_aload_n hx hb dX3_ready_26 rfl (lv_at hl 1 rfl) ?_
      obtain ⟨x41, t42, e43, hf⟩ := tw_bdE hf
      refine gw_rget (ci := 2) (k := 3) (T := TX3) C hP rfl in_X3 (by decide) e43 q356 rfl dX3_ready_27 (fun hP => ?_)
      refine lv_iload_n hx hb dX3_ready_30 rfl (lv_at hl 3 rfl) ?_
      obtain ⟨x44, t45, e46, hf⟩ := tw_bdE hf
      refine gw_aald C hP rfl e46 dX3_ready_31 (fun hP => ?_)
      obtain ⟨x47, t48, e49, hf⟩ := tw_bdE hf
      refine gw_igetN (ci := 4) (k := 6) (T := TX5) C hP rfl in_X5 (by decide) e49 q313 rfl dX3_ready_32 (fun hP => ?_)
      refine lv_bipush (v := (16 : Int32)) hx hb dX3_ready_35 (by decide) ?_
      obtain ⟨w50, t51, e52, hf⟩ := tw_bdE hf
      rw [← (tw_nzE e52).2] at hf
      refine lv_idiv hx hb dX3_ready_37 (tw_nzE e52).1 ?_
      refine lv_goto (tgt := 67) hx hb dX3_ready_38 (by decide) ?_
      exact k67 _ _ _ _ _ hP hS (lv_sub hl [] rfl) hf
  · have hf := tw_ifF hc hf
    refine lv_iconst (v := (0 : Int32)) hx hb dX3_ready_18 (by decide) ?_
    refine lv_goto (tgt := 67) hx hb dX3_ready_19 (by decide) ?_
    exact k67 _ _ _ _ _ hP hS (lv_sub hl [] rfl) hf