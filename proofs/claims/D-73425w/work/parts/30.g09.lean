def fx_X1_keep (a0 : Nat) : HM Int32 :=
  tw_bd (gw_gr 0 12 a0) fun x1 =>
  tw_bd (gw_gr 0 11 a0) fun x4 =>
  tw_bd (gw_on 2 x1 (fx_X3_like x1 x4)) fun x7 =>
  tw_bd (gw_pz 0 16 a0 (1 : Int32)) fun _ =>
  tw_bd (gw_gr 0 11 a0) fun x13 =>
  tw_bd (gw_gi 2 1 x13) fun x16 =>
  tw_rt x16
theorem hdX1_keep : yX1_keep.cls = "LosslessFabric" ∧ (yX1_keep.cls ≠ "java/lang/invoke/MethodHandle" ∧ yX1_keep.cls ≠ "java/lang/invoke/VarHandle" ∧ (parseMethodDescriptor yX1_keep.desc).map (fun d => d.parameters.length) = some 0) := by decide +kernel
set_option maxHeartbeats 4000000 in
theorem mx_X1_keep {l : Launch} {K : GK} (hA : gw_A K) (a0 : Nat) (t0 tZ : Hp) (r : Int32) (hf : fx_X1_keep a0 t0 = some (r, tZ)) : Met l yX1_keep (ws_ yX1_keep cX1_keep 1 (some (.int))) ({ frames := 4, cells := 0, slots := 0, locals := 103 }) (va_Pc [.ref a0] (gw_W K t0)) (gw_Qi K r tZ) 0 0 K.2.2.2.1 := by
  refine Met.ofW (cc := cX1_keep) (maxL := 1) (ret := some (.int)) (by decide) rfl ?_
  intro p e s m args below meth c s₁ B hml hv
  obtain ⟨rfl, hP, hK, hX, hN, hL⟩ := hv
  have hx := B.exec
  have hb := B.bytes
  have hr := B.returns
  have hts := atoms_spec (ws := (ws_ yX1_keep cX1_keep 1 (some (.int)))) B.pre
  have hts : ∀ w ∈ lw_all, w.before _ s = true := fun w h => hts w (List.mem_cons_of_mem _ h)
  have hown : s.vm.findClass "LosslessFabric" = some m.cls := findClass_of_methodNamed B.named
  have hlk := B.notSynchronized
  have C : gw_C K "LosslessFabric" p s m _ c cX1_keep := ⟨hx, hb, hts, hown, hK, hA, hX, hN, hL⟩
  have hS : va_S K.2.2.2.1 s.heap s.heap [] := va_S.rf
  have hl := lv_entry ([.ref a0]) (n := 1) (Nat.le_of_ble_eq_true rfl)
  rw [lg_entry_eq]
  generalize (lg_sl ([.ref a0]) ++ List.replicate (1 - (lg_sl ([.ref a0])).length) Slot.unset).toArray = ls at hl ⊢
  have hl : lv_has ls 1 [(0, .ref a0)] := hl
  unfold fx_X1_keep at hf
  refine lv_aload_n hx hb dX1_keep_0 rfl (lv_at hl 0 rfl) ?_
  obtain ⟨x1, t2, e3, hf⟩ := tw_bdE hf
  refine gw_rget (ci := 0) (k := 12) (T := TX1) C hP rfl in_X1 (by decide) e3 q405 rfl dX1_keep_1 (fun hP => ?_)
  refine lv_aload_n hx hb dX1_keep_4 rfl (lv_at hl 0 rfl) ?_
  obtain ⟨x4, t5, e6, hf⟩ := tw_bdE hf
  refine gw_rget (ci := 0) (k := 11) (T := TX1) C hP rfl in_X1 (by decide) e6 q404 rfl dX1_keep_5 (fun hP => ?_)
  obtain ⟨x7, t8, e9, hf⟩ := tw_bdE hf
  refine gw_cVr (As := [.ref x4]) (rest := []) (ci := 2) (T := TX3) (N := 4) C hml hP hS rfl (gw_onE e9).1 (mx_X3_like (l := l) (K := K) hA _ _ _ _ _ (gw_onE e9).2) (cwV 1 hts (lw_V q819 q820 q821 q103 q822) rfl rfl rfl hdX3_like ⟨Nat.le_of_ble_eq_true rfl, Nat.le_of_ble_eq_true rfl⟩) rfl hl.1 rfl (Nat.le_of_ble_eq_true rfl) (Nat.zero_le _) (Nat.zero_le _) dX1_keep_8 (fun H locs hP hS => ?_)
  refine lv_pop hx hb dX1_keep_11 rfl ?_
  refine lv_aload_n hx hb dX1_keep_12 rfl (lv_at hl 0 rfl) ?_
  refine lv_iconst (v := (1 : Int32)) hx hb dX1_keep_13 (by decide) ?_
  obtain ⟨x10, t11, e12, hf⟩ := tw_bdE hf
  refine gw_vput (ci := 0) (k := 16) (T := TX1) C hP hS rfl in_X1 tyX1 tyX1_ok nmX1 (by decide) (gw_pzE e12).2 q409 rfl rfl (gw_zn (gw_pzE e12).1) (gw_zf (gw_pzE e12).1) dX1_keep_14 (fun H locs hP hS => ?_)
  refine lv_aload_n hx hb dX1_keep_17 rfl (lv_at hl 0 rfl) ?_
  obtain ⟨x13, t14, e15, hf⟩ := tw_bdE hf
  refine gw_rget (ci := 0) (k := 11) (T := TX1) C hP rfl in_X1 (by decide) e15 q404 rfl dX1_keep_18 (fun hP => ?_)
  obtain ⟨x16, t17, e18, hf⟩ := tw_bdE hf
  refine gw_igetN (ci := 2) (k := 1) (T := TX3) C hP rfl in_X3 (by decide) e18 q353 rfl dX1_keep_21 (fun hP => ?_)
  exact gw_ireti (tw_rtE hf).1 (tw_rtE hf).2 rfl rfl C hr hP hS hlk dX1_keep_24
def fx_X3_isEmpty_L2 (a0 : Nat) (sf2 : Int32 → HM Int32) (v2_1 : Int32) : HM Int32 :=
  tw_bd (gw_gr 2 0 a0) fun x2 =>
  tw_bd (gw_gi 1 2 x2) fun x5 =>
  if x5 ≤ v2_1 then (tw_rz (1 : Int32))
  else (tw_bd (gw_gr 2 2 a0) fun x8 =>
  tw_bd (gw_lr 6 x8 v2_1) fun x11 =>
  tw_bd (gw_on 3 x11 (fx_X4_queue x11)) fun x14 =>
  if x14 ≤ 0 then (sf2 (v2_1 + (1 : Int32)))
  else (tw_rz (0 : Int32)))
def fx_X3_isEmpty (a0 : Nat) : HM Int32 :=
  tw_lp (fx_X3_isEmpty_L2 a0) (fun _ _ => none) tw_fu (0 : Int32)
theorem hdX3_isEmpty : yX3_isEmpty.cls = "LosslessFabric$State" ∧ (yX3_isEmpty.cls ≠ "java/lang/invoke/MethodHandle" ∧ yX3_isEmpty.cls ≠ "java/lang/invoke/VarHandle" ∧ (parseMethodDescriptor yX3_isEmpty.desc).map (fun d => d.parameters.length) = some 0) := by decide +kernel
set_option maxHeartbeats 4000000 in
theorem mx_X3_isEmpty {l : Launch} {K : GK} (hA : gw_A K) (a0 : Nat) (t0 tZ : Hp) (r : Int32) (hf : fx_X3_isEmpty a0 t0 = some (r, tZ)) : Met l yX3_isEmpty (ws_ yX3_isEmpty cX3_isEmpty 2 (some (.boolean))) ({ frames := 3, cells := 0, slots := 0, locals := 37 }) (va_Pc [.ref a0] (gw_W K t0)) (gw_Qi K r tZ) 0 0 K.2.2.2.1 := by
  refine Met.ofW (cc := cX3_isEmpty) (maxL := 2) (ret := some (.boolean)) (by decide) rfl ?_
  intro p e s m args below meth c s₁ B hml hv
  obtain ⟨rfl, hP, hK, hX, hN, hL⟩ := hv
  have hx := B.exec
  have hb := B.bytes
  have hr := B.returns
  have hts := atoms_spec (ws := (ws_ yX3_isEmpty cX3_isEmpty 2 (some (.boolean)))) B.pre
  have hts : ∀ w ∈ lw_all, w.before _ s = true := fun w h => hts w (List.mem_cons_of_mem _ h)
  have hown : s.vm.findClass "LosslessFabric$State" = some m.cls := findClass_of_methodNamed B.named
  have hlk := B.notSynchronized
  have C : gw_C K "LosslessFabric$State" p s m _ c cX3_isEmpty := ⟨hx, hb, hts, hown, hK, hA, hX, hN, hL⟩
  have hS : va_S K.2.2.2.1 s.heap s.heap [] := va_S.rf
  have hl := lv_entry ([.ref a0]) (n := 2) (Nat.le_of_ble_eq_true rfl)
  rw [lg_entry_eq]
  generalize (lg_sl ([.ref a0]) ++ List.replicate (2 - (lg_sl ([.ref a0])).length) Slot.unset).toArray = ls at hl ⊢
  have hl : lv_has ls 2 [(0, .ref a0)] := hl
  unfold fx_X3_isEmpty at hf
  refine lv_iconst (v := (0 : Int32)) hx hb dX3_isEmpty_0 (by decide) ?_
  refine lv_istore_n (lv' := [(1, .int (0 : Int32)), (0, .ref a0)]) hx hb dX3_isEmpty_1 rfl hl (by decide) rfl (fun ls hl => ?_)
  have k2 : ∀ (n : Nat) (v2_1 : Int32) (t1 : Hp) (H : Heap) (locs : List Loc) (ls : Array Slot), gw_P K t1 H → va_S K.2.2.2.1 s.heap H locs → lv_has ls 2 [(0, .ref a0), (1, .int v2_1)] → tw_lp (fx_X3_isEmpty_L2 a0) (fun _ _ => none) n v2_1 t1 = some (r, tZ) → W p l e (headSpec (ws_ yX3_isEmpty cX3_isEmpty 2 (some (.boolean))) ({ frames := 3, cells := 0, slots := 0, locals := 37 })).room s m ([.ref a0] : List Value).toArray below meth c H locs 0 0 (MQ below (gw_Qi K r tZ) ([.ref a0] : List Value).toArray s 0 0 K.2.2.2.1) (F0 m 2 ls []) := by
    intro n
    induction n with
    | zero => intro v2_1 t1 H locs ls hP hS hl hf; exact (tw_no hf).elim
    | succ n ih2 =>
      intro v2_1 t1 H locs ls hP hS hl hf
      obtain ⟨sf2, hs2⟩ : ∃ f, f = tw_lp (fx_X3_isEmpty_L2 a0) (fun _ _ => none) n := ⟨_, rfl⟩
      rw [← hs2] at ih2
      have hf : fx_X3_isEmpty_L2 a0 sf2 v2_1 t1 = some (r, tZ) := by rw [hs2]; exact hf
      clear hs2
      unfold fx_X3_isEmpty_L2 at hf
      refine lv_iload_n hx hb dX3_isEmpty_2 rfl (lv_at hl 1 rfl) ?_
      refine lv_aload_n hx hb dX3_isEmpty_3 rfl (lv_at hl 0 rfl) ?_
      obtain ⟨x2, t3, e4, hf⟩ := tw_bdE hf
      refine gw_rget (ci := 2) (k := 0) (T := TX3) C hP rfl in_X3 (by decide) e4 q351 rfl dX3_isEmpty_4 (fun hP => ?_)
      obtain ⟨x5, t6, e7, hf⟩ := tw_bdE hf
      refine gw_igetN (ci := 1) (k := 2) (T := TX2) C hP rfl in_X2 (by decide) e7 q157 rfl dX3_isEmpty_7 (fun hP => ?_)
      refine lv_icmp_ge (tgt := 33) hx hb dX3_isEmpty_10 (by decide) (fun hc => ?_) (fun hc => ?_)
      · have hf := tw_ifT hc hf
        refine lv_iconst (v := (1 : Int32)) hx hb dX3_isEmpty_33 (by decide) ?_
        obtain ⟨h0, h1, h2⟩ := tw_rzE hf
        exact gw_iretz h0 h1 h2 rfl rfl C hr hP hS hlk dX3_isEmpty_34
      · have hf := tw_ifF hc hf
        refine lv_aload_n hx hb dX3_isEmpty_13 rfl (lv_at hl 0 rfl) ?_
        obtain ⟨x8, t9, e10, hf⟩ := tw_bdE hf
        refine gw_rget (ci := 2) (k := 2) (T := TX3) C hP rfl in_X3 (by decide) e10 q354 rfl dX3_isEmpty_14 (fun hP => ?_)
        refine lv_iload_n hx hb dX3_isEmpty_17 rfl (lv_at hl 1 rfl) ?_
        obtain ⟨x11, t12, e13, hf⟩ := tw_bdE hf
        refine gw_aald C hP rfl e13 dX3_isEmpty_18 (fun hP => ?_)
        obtain ⟨x14, t15, e16, hf⟩ := tw_bdE hf
        refine gw_cVi (As := []) (rest := []) (ci := 3) (T := TX4) (N := 12) C hml hP hS rfl (gw_onE e16).1 (mx_X4_queue (l := l) (K := K) hA _ _ _ _ (gw_onE e16).2) (cwV 0 hts (lw_V q901 q884 q885 q104 q886) rfl rfl rfl hdX4_queue ⟨Nat.le_of_ble_eq_true rfl, Nat.le_of_ble_eq_true rfl⟩) rfl hl.1 rfl (Nat.le_of_ble_eq_true rfl) (Nat.zero_le _) (Nat.zero_le _) dX3_isEmpty_19 (fun H locs hP hS => ?_)
        refine lv_if_le (tgt := 27) hx hb dX3_isEmpty_22 (by decide) (fun hc => ?_) (fun hc => ?_)
        · have hf := tw_ifT hc hf
          refine lv_iinc (v := (v2_1 + (1 : Int32))) (lv' := [(1, .int (v2_1 + (1 : Int32))), (0, .ref a0)]) hx hb dX3_isEmpty_27 hl (k := 1) rfl rfl (by decide) rfl (fun ls hl => ?_)
          refine lv_goto (tgt := 2) hx hb dX3_isEmpty_30 (by decide) ?_
          exact ih2 _ _ _ _ _ hP hS (lv_sub hl [1, 0] rfl) hf
        · have hf := tw_ifF hc hf
          refine lv_iconst (v := (0 : Int32)) hx hb dX3_isEmpty_25 (by decide) ?_
          obtain ⟨h0, h1, h2⟩ := tw_rzE hf
          exact gw_iretz h0 h1 h2 rfl rfl C hr hP hS hlk dX3_isEmpty_26
  exact k2 _ _ _ _ _ _ hP hS (lv_sub hl [1, 0] rfl) hf
def fx_X1_lambda_quiet_5 (a0 : Nat) : HM Int32 :=
  tw_bd (gw_on 2 a0 (fx_X3_isEmpty a0)) fun x1 =>
  tw_rz x1
theorem hdX1_lambda_quiet_5 : (yX1_lambda_quiet_5.cls ≠ "java/lang/invoke/MethodHandle" ∧ yX1_lambda_quiet_5.cls ≠ "java/lang/invoke/VarHandle" ∧ (parseMethodDescriptor yX1_lambda_quiet_5.desc).map (fun d => d.parameters.length) = some 1) := by decide +kernel
set_option maxHeartbeats 4000000 in
theorem mx_X1_lambda_quiet_5 {l : Launch} {K : GK} (hA : gw_A K) (a0 : Nat) (t0 tZ : Hp) (r : Int32) (hf : fx_X1_lambda_quiet_5 a0 t0 = some (r, tZ)) : Met l yX1_lambda_quiet_5 (ws_ yX1_lambda_quiet_5 cX1_lambda_quiet_5 1 (some (.boolean))) ({ frames := 4, cells := 0, slots := 0, locals := 58 }) (va_Pc [.ref a0] (gw_W K t0)) (gw_Qi K r tZ) 0 0 K.2.2.2.1 := by
  refine Met.ofW (cc := cX1_lambda_quiet_5) (maxL := 1) (ret := some (.boolean)) (by decide) rfl ?_
  intro p e s m args below meth c s₁ B hml hv
  obtain ⟨rfl, hP, hK, hX, hN, hL⟩ := hv
  have hx := B.exec
  have hb := B.bytes
  have hr := B.returns
  have hts := atoms_spec (ws := (ws_ yX1_lambda_quiet_5 cX1_lambda_quiet_5 1 (some (.boolean)))) B.pre
  have hts : ∀ w ∈ lw_all, w.before _ s = true := fun w h => hts w (List.mem_cons_of_mem _ h)
  have hown : s.vm.findClass "LosslessFabric" = some m.cls := findClass_of_methodNamed B.named
  have hlk := B.notSynchronized
  have C : gw_C K "LosslessFabric" p s m _ c cX1_lambda_quiet_5 := ⟨hx, hb, hts, hown, hK, hA, hX, hN, hL⟩
  have hS : va_S K.2.2.2.1 s.heap s.heap [] := va_S.rf
  have hl := lv_entry ([.ref a0]) (n := 1) (Nat.le_of_ble_eq_true rfl)
  rw [lg_entry_eq]
  generalize (lg_sl ([.ref a0]) ++ List.replicate (1 - (lg_sl ([.ref a0])).length) Slot.unset).toArray = ls at hl ⊢
  have hl : lv_has ls 1 [(0, .ref a0)] := hl
  unfold fx_X1_lambda_quiet_5 at hf
  refine lv_aload_n hx hb dX1_lambda_quiet_5_0 rfl (lv_at hl 0 rfl) ?_
  obtain ⟨x1, t2, e3, hf⟩ := tw_bdE hf
  refine gw_cVi (As := []) (rest := []) (ci := 2) (T := TX3) (N := 4) C hml hP hS rfl (gw_onE e3).1 (mx_X3_isEmpty (l := l) (K := K) hA _ _ _ _ (gw_onE e3).2) (cwV 0 hts (lw_V q1227 q1228 q1229 q103 q1230) rfl rfl rfl hdX3_isEmpty ⟨Nat.le_of_ble_eq_true rfl, Nat.le_of_ble_eq_true rfl⟩) rfl hl.1 rfl (Nat.le_of_ble_eq_true rfl) (Nat.zero_le _) (Nat.zero_le _) dX1_lambda_quiet_5_1 (fun H locs hP hS => ?_)
  obtain ⟨h0, h1, h2⟩ := tw_rzE hf
  exact gw_iretz h0 h1 h2 rfl rfl C hr hP hS hlk dX1_lambda_quiet_5_4
def fx_X1_lambda_stalls_4_J16  (w16_0 : Int32) : gM Int32 :=
  gw_rz w16_0
def fx_X1_lambda_stalls_4 (a0 : Nat) (a1 : Nat) : gM Int32 :=
  gw_bc (gw_on 0 a0 (fx_X1_paused a0 a1)) fun x1 =>
  gw_b0 (gw_on 11 x1 (fx_X12_inAny x1)) fun x4 =>
  if x4 = 0 then (fx_X1_lambda_stalls_4_J16 (0 : Int32))
  else (fx_X1_lambda_stalls_4_J16 (1 : Int32))
theorem hdX1_lambda_stalls_4 : yX1_lambda_stalls_4.cls = "LosslessFabric" ∧ (yX1_lambda_stalls_4.cls ≠ "java/lang/invoke/MethodHandle" ∧ yX1_lambda_stalls_4.cls ≠ "java/lang/invoke/VarHandle" ∧ (parseMethodDescriptor yX1_lambda_stalls_4.desc).map (fun d => d.parameters.length) = some 1) := by decide +kernel
set_option maxHeartbeats 4000000 in
theorem mx_X1_lambda_stalls_4 {l : Launch} {K : GK} (hA : gw_A K) (a0 : Nat) (a1 : Nat) (t0 tZ : Hp) (r : Int32) (C0 S0 : Nat) (hf : fx_X1_lambda_stalls_4 a0 a1 t0 = some (r, tZ, C0, S0)) : Met l yX1_lambda_stalls_4 (ws_ yX1_lambda_stalls_4 cX1_lambda_stalls_4 2 (some (.boolean))) ({ frames := 11, cells := C0, slots := S0, locals := 3221 }) (va_Pc [.ref a0, .ref a1] (gw_W K t0)) (gw_Qi K r tZ) C0 S0 K.2.2.2.1 := by
  refine Met.ofW (cc := cX1_lambda_stalls_4) (maxL := 2) (ret := some (.boolean)) (by decide) rfl ?_
  intro p e s m args below meth c s₁ B hml hv
  obtain ⟨rfl, hP, hK, hX, hN, hL⟩ := hv
  have hx := B.exec
  have hb := B.bytes
  have hr := B.returns
  have hts := atoms_spec (ws := (ws_ yX1_lambda_stalls_4 cX1_lambda_stalls_4 2 (some (.boolean)))) B.pre
  have hts : ∀ w ∈ lw_all, w.before _ s = true := fun w h => hts w (List.mem_cons_of_mem _ h)
  have hown : s.vm.findClass "LosslessFabric" = some m.cls := findClass_of_methodNamed B.named
  have hlk := B.notSynchronized
  have C : gw_C K "LosslessFabric" p s m _ c cX1_lambda_stalls_4 := ⟨hx, hb, hts, hown, hK, hA, hX, hN, hL⟩
  have hk : 0 + C0 = C0 := Nat.zero_add _
  have hn : 0 + S0 = S0 := Nat.zero_add _
  have hS : va_S K.2.2.2.1 s.heap s.heap [] := va_S.rf
  have hl := lv_entry ([.ref a0, .ref a1]) (n := 2) (Nat.le_of_ble_eq_true rfl)
  rw [lg_entry_eq]
  generalize (lg_sl ([.ref a0, .ref a1]) ++ List.replicate (2 - (lg_sl ([.ref a0, .ref a1])).length) Slot.unset).toArray = ls at hl ⊢
  have hl : lv_has ls 2 [(0, .ref a0), (1, .ref a1)] := hl
  unfold fx_X1_lambda_stalls_4 at hf
  refine lv_aload_n hx hb dX1_lambda_stalls_4_0 rfl (lv_at hl 0 rfl) ?_
  refine lv_aload_n hx hb dX1_lambda_stalls_4_1 rfl (lv_at hl 1 rfl) ?_
  obtain ⟨x1, t2, c2, s2, C2, S2, e3, hf, hk, hn⟩ := gw_bcE hf hk hn
  refine gw_cVr (As := [.ref a1]) (rest := []) (ci := 0) (T := TX1) (N := 18) C hml hP hS rfl (gw_onE e3).1 (mx_X1_paused (l := l) (K := K) hA _ _ _ _ _ _ _ (gw_onE e3).2) (cwV 1 hts (lw_V q1042 q1044 qs24 q101 q1045) rfl rfl rfl hdX1_paused ⟨Nat.le_of_ble_eq_true rfl, Nat.le_of_ble_eq_true rfl⟩) rfl hl.1 rfl (Nat.le_of_ble_eq_true rfl) (Nat.le.intro hk) (Nat.le.intro hn) dX1_lambda_stalls_4_2 (fun H locs hP hS => ?_)
  obtain ⟨x4, t5, e6, hf⟩ := gw_b0E hf
  refine gw_cVi (As := []) (rest := []) (ci := 11) (T := TX12) (N := 5) C hml hP hS rfl (gw_onE e6).1 (mx_X12_inAny (l := l) (K := K) hA _ _ _ _ (gw_onE e6).2) (cwV 0 hts (lw_V q1118 q1077 q1078 q125 q1079) rfl rfl rfl hdX12_inAny ⟨Nat.le_of_ble_eq_true rfl, Nat.le_of_ble_eq_true rfl⟩) rfl hl.1 rfl (Nat.le_of_ble_eq_true rfl) (Nat.le.intro hk) (Nat.le.intro hn) dX1_lambda_stalls_4_5 (fun H locs hP hS => ?_)
  have k16 : ∀ (w16_0 : Int32) (t7 : Hp) (k7 n7 C7 S7 : Nat) (H : Heap) (locs : List Loc) (ls : Array Slot), gw_P K t7 H → va_S K.2.2.2.1 s.heap H locs → k7 + C7 = C0 → n7 + S7 = S0 → lv_has ls 2 [] → fx_X1_lambda_stalls_4_J16 w16_0 t7 = some (r, tZ, C7, S7) → W p l e (headSpec (ws_ yX1_lambda_stalls_4 cX1_lambda_stalls_4 2 (some (.boolean))) ({ frames := 11, cells := C0, slots := S0, locals := 3221 })).room s m ([.ref a0, .ref a1] : List Value).toArray below meth c H locs k7 n7 (MQ below (gw_Qi K r tZ) ([.ref a0, .ref a1] : List Value).toArray s C0 S0 K.2.2.2.1) (F0 m 16 ls [.int w16_0]) := by
    intro w16_0 t7 k7 n7 C7 S7 H locs ls hP hS hk hn hl hf
    unfold fx_X1_lambda_stalls_4_J16 at hf
    obtain ⟨h0, h1, h2, h3, h4⟩ := gw_rzE hf hk hn
    exact gw_iretz h0 h1 h2 h3 h4 C hr hP hS hlk dX1_lambda_stalls_4_16
  refine lv_if_eq (tgt := 15) hx hb dX1_lambda_stalls_4_8 (by decide) (fun hc => ?_) (fun hc => ?_)
  · have hf := tw_ifT hc hf
    refine lv_iconst (v := (0 : Int32)) hx hb dX1_lambda_stalls_4_15 (by decide) ?_
    exact k16 _ _ _ _ _ _ _ _ _ hP hS hk hn (lv_sub hl [] rfl) hf
  · have hf := tw_ifF hc hf
    refine lv_iconst (v := (1 : Int32)) hx hb dX1_lambda_stalls_4_11 (by decide) ?_
    refine lv_goto (tgt := 16) hx hb dX1_lambda_stalls_4_12 (by decide) ?_
    exact k16 _ _ _ _ _ _ _ _ _ hP hS hk hn (lv_sub hl [] rfl) hf
def fx_X1_leastSize_J20   : gM Int32 :=
  gw_rc (-1 : Int32)
def fx_X1_leastSize_J154  (w154_0 : Int32) : gM Int32 :=
  gw_rc w154_0
def fx_X1_leastSize_J122 (sf51 : Int32 → Int32 → gM Int32) (v51_5 : Int32) (v122_4 : Int32) : gM Int32 :=
  sf51 v122_4 (v51_5 + (1 : Int32))
def fx_X1_leastSize_L71 (a0 : Nat) (sf51 : Int32 → Int32 → gM Int32) (v51_5 : Int32) (v51_4 : Int32) (x17 : Nat) (a1 : Int32) (sf71 : Int32 → Int32 → gM Int32) (v71_6 : Int32) (v71_7 : Int32) : gM Int32 :=
  gw_b0 (gw_gr 0 4 a0) fun x47 =>
  gw_b0 (gw_gi 1 3 x47) fun x50 =>
  if x50 ≤ v71_7 then (if v71_6 ≤ 0 then (fx_X1_leastSize_J122 sf51 v51_5 v51_4)
  else (gw_b0 (gw_on 3 x17 (fx_X4_queue x17)) fun x54 =>
  
  fx_X1_leastSize_J122 sf51 v51_5 (if v51_4 < x54 then x54 else v51_4)))
  else (gw_b0 (gw_gr 0 7 a0) fun x57 =>
  gw_b0 (gw_ld 0 x57 (((8 : Int32) * a1) + v71_7)) fun x60 =>
 
  sf71 (v71_6 + x60) (v71_7 + (1 : Int32)))
def fx_X1_leastSize_L51 (a2 : Int32) (x17 : Nat) (a0 : Nat) (a1 : Int32) (sf51 : Int32 → Int32 → gM Int32) (v51_4 : Int32) (v51_5 : Int32) : gM Int32 :=
  if a2 ≤ v51_5 then (gw_b0 (gw_gi 3 5 x17) fun x24 =>
  gw_b0 (gw_gr 0 11 a0) fun x27 =>
  gw_b0 (gw_gr 2 2 x27) fun x30 =>
  gw_b0 (gw_lr 6 x30 a1) fun x33 =>
  gw_b0 (gw_gi 3 5 x33) fun x36 =>
  if x24 ≤ x36 then (fx_X1_leastSize_J154 v51_4)
  else (fx_X1_leastSize_J154 (-2 : Int32)))
  else (gw_b0 (gw_gr 0 13 a0) fun x40 =>
  gw_bc (gw_on 0 a0 (fx_X1_ticks a0 x40)) fun _ =>
 
  tw_lp (fx_X1_leastSize_L71 a0 sf51 v51_5 v51_4 x17 a1) (fun _ _ _ => none) tw_fu (0 : Int32) (0 : Int32))
def fx_X1_leastSize (a0 : Nat) (a1 : Int32) (a2 : Int32) : gM Int32 :=
  gw_bc (gw_on 0 a0 (fx_X1_isLink a0 a1)) fun x1 =>
  if x1 = 0 then (fx_X1_leastSize_J20)
  else (gw_b0 (fx_X1_isIn (a2.toInt64) (1 : Int64) (100 : Int64)) fun x5 =>
  if x5 = 0 then (fx_X1_leastSize_J20)
  else (gw_bc (gw_on 0 a0 (fx_X1_tried a0 (0 : Int32))) fun x8 =>
  gw_b0 (gw_gr 0 13 a0) fun x11 =>
  gw_b0 (gw_gr 2 2 x11) fun x14 =>
  gw_b0 (gw_lr 6 x14 a1) fun x17 =>
  gw_b0 (gw_pi 3 3 x17 (1999 : Int32)) fun _ =>
 
  tw_lp (fx_X1_leastSize_L51 a2 x17 a0 a1) (fun _ _ _ => none) tw_fu (1 : Int32) (0 : Int32)))
theorem hdX1_leastSize : yX1_leastSize.cls = "LosslessFabric" ∧ (yX1_leastSize.cls ≠ "java/lang/invoke/MethodHandle" ∧ yX1_leastSize.cls ≠ "java/lang/invoke/VarHandle" ∧ (parseMethodDescriptor yX1_leastSize.desc).map (fun d => d.parameters.length) = some 2) := by decide +kernel
set_option maxHeartbeats 4000000 in
theorem mx_X1_leastSize {l : Launch} {K : GK} (hA : gw_A K) (a0 : Nat) (a1 : Int32) (a2 : Int32) (t0 tZ : Hp) (r : Int32) (C0 S0 : Nat) (hf : fx_X1_leastSize a0 a1 a2 t0 = some (r, tZ, C0, S0)) : Met l yX1_leastSize (ws_ yX1_leastSize cX1_leastSize 8 (some (.int))) ({ frames := 8, cells := C0, slots := S0, locals := 3271 }) (va_Pc [.ref a0, .int a1, .int a2] (gw_W K t0)) (gw_Qi K r tZ) C0 S0 K.2.2.2.1 := by
  refine Met.ofW (cc := cX1_leastSize) (maxL := 8) (ret := some (.int)) (by decide) rfl ?_
  intro p e s m args below meth c s₁ B hml hv
  obtain ⟨rfl, hP, hK, hX, hN, hL⟩ := hv
  have hx := B.exec
  have hb := B.bytes
  have hr := B.returns
  have hts := atoms_spec (ws := (ws_ yX1_leastSize cX1_leastSize 8 (some (.int)))) B.pre
  have hts : ∀ w ∈ lw_all, w.before _ s = true := fun w h => hts w (List.mem_cons_of_mem _ h)
  have hown : s.vm.findClass "LosslessFabric" = some m.cls := findClass_of_methodNamed B.named
  have hlk := B.notSynchronized
  have C : gw_C K "LosslessFabric" p s m _ c cX1_leastSize := ⟨hx, hb, hts, hown, hK, hA, hX, hN, hL⟩
  have hk : 0 + C0 = C0 := Nat.zero_add _
  have hn : 0 + S0 = S0 := Nat.zero_add _
  have hS : va_S K.2.2.2.1 s.heap s.heap [] := va_S.rf
  have hl := lv_entry ([.ref a0, .int a1, .int a2]) (n := 8) (Nat.le_of_ble_eq_true rfl)
  rw [lg_entry_eq]
  generalize (lg_sl ([.ref a0, .int a1, .int a2]) ++ List.replicate (8 - (lg_sl ([.ref a0, .int a1, .int a2])).length) Slot.unset).toArray = ls at hl ⊢
  have hl : lv_has ls 8 [(0, .ref a0), (1, .int a1), (2, .int a2)] := hl
  unfold fx_X1_leastSize at hf
  refine lv_aload_n hx hb dX1_leastSize_0 rfl (lv_at hl 0 rfl) ?_
  refine lv_iload_n hx hb dX1_leastSize_1 rfl (lv_at hl 1 rfl) ?_
  obtain ⟨x1, t2, c2, s2, C2, S2, e3, hf, hk, hn⟩ := gw_bcE hf hk hn
  refine gw_cVi (As := [.int a1]) (rest := []) (ci := 0) (T := TX1) (N := 18) C hml hP hS rfl (gw_onE e3).1 (mx_X1_isLink (l := l) (K := K) hA _ _ _ _ _ _ _ (gw_onE e3).2) (cwV 1 hts (lw_V q968 q970 qs22 q101 q971) rfl rfl rfl hdX1_isLink ⟨Nat.le_of_ble_eq_true rfl, Nat.le_of_ble_eq_true rfl⟩) rfl hl.1 rfl (Nat.le_of_ble_eq_true rfl) (Nat.le.intro hk) (Nat.le.intro hn) dX1_leastSize_2 (fun H locs hP hS => ?_)
  have k20 : ∀  (t4 : Hp) (k4 n4 C4 S4 : Nat) (H : Heap) (locs : List Loc) (ls : Array Slot), gw_P K t4 H → va_S K.2.2.2.1 s.heap H locs → k4 + C4 = C0 → n4 + S4 = S0 → lv_has ls 8 [] → fx_X1_leastSize_J20  t4 = some (r, tZ, C4, S4) → W p l e (headSpec (ws_ yX1_leastSize cX1_leastSize 8 (some (.int))) ({ frames := 8, cells := C0, slots := S0, locals := 3271 })).room s m ([.ref a0, .int a1, .int a2] : List Value).toArray below meth c H locs k4 n4 (MQ below (gw_Qi K r tZ) ([.ref a0, .int a1, .int a2] : List Value).toArray s C0 S0 K.2.2.2.1) (F0 m 20 ls []) := by
    intro t4 k4 n4 C4 S4 H locs ls hP hS hk hn hl hf
    unfold fx_X1_leastSize_J20 at hf
    refine lv_iconst (v := (-1 : Int32)) hx hb dX1_leastSize_20 (by decide) ?_
    obtain ⟨h1, h2, h3, h4⟩ := gw_rcE hf hk hn
    exact gw_ireti h1 h2 h3 h4 C hr hP hS hlk dX1_leastSize_21
  refine lv_if_eq (tgt := 20) hx hb dX1_leastSize_5 (by decide) (fun hc => ?_) (fun hc => ?_)
  · have hf := tw_ifT hc hf
    exact k20 _ _ _ _ _ _ _ _ hP hS hk hn (lv_sub hl [] rfl) hf
  · have hf := tw_ifF hc hf
    refine lv_iload_n hx hb dX1_leastSize_8 rfl (lv_at hl 2 rfl) ?_
    refine lv_i2l hx hb dX1_leastSize_9 rfl ?_
    refine lv_lconst (v := (1 : Int64)) hx hb dX1_leastSize_10 (by decide) ?_
    refine lv_ldc2 hx hb hown (hts _ q1244) dX1_leastSize_11 ?_
    obtain ⟨x5, t6, e7, hf⟩ := gw_b0E hf
    refine gw_cSi (As := [.long (a2.toInt64), .long (1 : Int64), .long (100 : Int64)]) (rest := []) C hml hP hS (mx_X1_isIn (l := l) (K := K) hA _ _ _ _ _ _ e7) (va_cwS 3 hts (lw_S q457 q458 q101 q459) rfl rfl rfl hdX1_isIn ⟨Nat.le_of_ble_eq_true rfl, Nat.le_of_ble_eq_true rfl⟩) rfl hl.1 rfl (Nat.le_of_ble_eq_true rfl) (Nat.le.intro hk) (Nat.le.intro hn) dX1_leastSize_14 (fun H locs hP hS => ?_)
    refine lv_if_ne (tgt := 22) hx hb dX1_leastSize_17 (by decide) (fun hc => ?_) (fun hc => ?_)
    · have hf := tw_ifF hc hf
      refine lv_aload_n hx hb dX1_leastSize_22 rfl (lv_at hl 0 rfl) ?_
      refine lv_iconst (v := (0 : Int32)) hx hb dX1_leastSize_23 (by decide) ?_
      obtain ⟨x8, t9, c9, s9, C9, S9, e10, hf, hk, hn⟩ := gw_bcE hf hk hn
      refine gw_cVr (As := [.int (0 : Int32)]) (rest := []) (ci := 0) (T := TX1) (N := 18) C hml hP hS rfl (gw_onE e10).1 (mx_X1_tried (l := l) (K := K) hA _ _ _ _ _ _ _ (gw_onE e10).2) (cwV 1 hts (lw_V q1202 q1204 qs34 q101 q1205) rfl rfl rfl hdX1_tried ⟨Nat.le_of_ble_eq_true rfl, Nat.le_of_ble_eq_true rfl⟩) rfl hl.1 rfl (Nat.le_of_ble_eq_true rfl) (Nat.le.intro hk) (Nat.le.intro hn) dX1_leastSize_24 (fun H locs hP hS => ?_)
      refine lv_pop hx hb dX1_leastSize_27 rfl ?_
      refine lv_aload_n hx hb dX1_leastSize_28 rfl (lv_at hl 0 rfl) ?_
      obtain ⟨x11, t12, e13, hf⟩ := gw_b0E hf
      refine gw_rget (ci := 0) (k := 13) (T := TX1) C hP rfl in_X1 (by decide) e13 q406 rfl dX1_leastSize_29 (fun hP => ?_)
      obtain ⟨x14, t15, e16, hf⟩ := gw_b0E hf
      refine gw_rgetN (ci := 2) (k := 2) (T := TX3) C hP rfl in_X3 (by decide) e16 q355 rfl dX1_leastSize_32 (fun hP => ?_)
      refine lv_iload_n hx hb dX1_leastSize_35 rfl (lv_at hl 1 rfl) ?_
      obtain ⟨x17, t18, e19, hf⟩ := gw_b0E hf
      refine gw_aald C hP rfl e19 dX1_leastSize_36 (fun hP => ?_)
      refine lv_astore_n (lv' := [(3, .ref x17), (0, .ref a0), (1, .int a1), (2, .int a2)]) hx hb dX1_leastSize_37 rfl hl (by decide) rfl (fun ls hl => ?_)
      refine lv_aload_n hx hb dX1_leastSize_38 rfl (lv_at hl 0 rfl) ?_
      refine lv_sipush (v := (1999 : Int32)) hx hb dX1_leastSize_39 (by decide) ?_
      obtain ⟨x20, t21, e22, hf⟩ := gw_b0E hf
      refine gw_vputN (ci := 3) (k := 3) (T := TX4) C hP hS rfl in_X4 tyX4 tyX4_ok nmX4 (by decide) e22 q246 rfl rfl (vp_nar_int _) rfl dX1_leastSize_42 (fun H locs hP hS => ?_)
      refine lv_iconst (v := (1 : Int32)) hx hb dX1_leastSize_45 (by decide) ?_
      refine lv_istore (lv' := [(4, .int (1 : Int32)), (3, .ref x17), (0, .ref a0), (1, .int a1), (2, .int a2)]) hx hb dX1_leastSize_46 hl (by decide) rfl (fun ls hl => ?_)
      refine lv_iconst (v := (0 : Int32)) hx hb dX1_leastSize_48 (by decide) ?_
      refine lv_istore (lv' := [(5, .int (0 : Int32)), (4, .int (1 : Int32)), (3, .ref x17), (0, .ref a0), (1, .int a1), (2, .int a2)]) hx hb dX1_leastSize_49 hl (by decide) rfl (fun ls hl => ?_)
      have k51 : ∀ (n : Nat) (v51_4 : Int32) (v51_5 : Int32) (t23 : Hp) (k23 n23 C23 S23 : Nat) (H : Heap) (locs : List Loc) (ls : Array Slot), gw_P K t23 H → va_S K.2.2.2.1 s.heap H locs → k23 + C23 = C0 → n23 + S23 = S0 → lv_has ls 8 [(0, .ref a0), (1, .int a1), (2, .int a2), (3, .ref x17), (4, .int v51_4), (5, .int v51_5)] → tw_lp (fx_X1_leastSize_L51 a2 x17 a0 a1) (fun _ _ _ => none) n v51_4 v51_5 t23 = some (r, tZ, C23, S23) → W p l e (headSpec (ws_ yX1_leastSize cX1_leastSize 8 (some (.int))) ({ frames := 8, cells := C0, slots := S0, locals := 3271 })).room s m ([.ref a0, .int a1, .int a2] : List Value).toArray below meth c H locs k23 n23 (MQ below (gw_Qi K r tZ) ([.ref a0, .int a1, .int a2] : List Value).toArray s C0 S0 K.2.2.2.1) (F0 m 51 ls []) := by
        intro n
        induction n with
        | zero => intro v51_4 v51_5 t23 k23 n23 C23 S23 H locs ls hP hS hk hn hl hf; exact (tw_no hf).elim
        | succ n ih51 =>
          intro v51_4 v51_5 t23 k23 n23 C23 S23 H locs ls hP hS hk hn hl hf
          obtain ⟨sf51, hs51⟩ : ∃ f, f = tw_lp (fx_X1_leastSize_L51 a2 x17 a0 a1) (fun _ _ _ => none) n := ⟨_, rfl⟩
          rw [← hs51] at ih51
          have hf : fx_X1_leastSize_L51 a2 x17 a0 a1 sf51 v51_4 v51_5 t23 = some (r, tZ, C23, S23) := by rw [hs51]; exact hf
          clear hs51
          unfold fx_X1_leastSize_L51 at hf
          refine lv_iload hx hb dX1_leastSize_51 (lv_at hl 5 rfl) ?_
          refine lv_iload_n hx hb dX1_leastSize_53 rfl (lv_at hl 2 rfl) ?_
          refine lv_icmp_ge (tgt := 128) hx hb dX1_leastSize_54 (by decide) (fun hc => ?_) (fun hc => ?_)
          · have hf := tw_ifT hc hf
            refine lv_aload_n hx hb dX1_leastSize_128 rfl (lv_at hl 3 rfl) ?_
            obtain ⟨x24, t25, e26, hf⟩ := gw_b0E hf
            refine gw_igetN (ci := 3) (k := 5) (T := TX4) C hP rfl in_X4 (by decide) e26 q251 rfl dX1_leastSize_129 (fun hP => ?_)
            refine lv_aload_n hx hb dX1_leastSize_132 rfl (lv_at hl 0 rfl) ?_
            obtain ⟨x27, t28, e29, hf⟩ := gw_b0E hf
            refine gw_rget (ci := 0) (k := 11) (T := TX1) C hP rfl in_X1 (by decide) e29 q404 rfl dX1_leastSize_133 (fun hP => ?_)
            obtain ⟨x30, t31, e32, hf⟩ := gw_b0E hf
            refine gw_rgetN (ci := 2) (k := 2) (T := TX3) C hP rfl in_X3 (by decide) e32 q355 rfl dX1_leastSize_136 (fun hP => ?_)
            refine lv_iload_n hx hb dX1_leastSize_139 rfl (lv_at hl 1 rfl) ?_
            obtain ⟨x33, t34, e35, hf⟩ := gw_b0E hf
            refine gw_aald C hP rfl e35 dX1_leastSize_140 (fun hP => ?_)
            obtain ⟨x36, t37, e38, hf⟩ := gw_b0E hf
            refine gw_igetN (ci := 3) (k := 5) (T := TX4) C hP rfl in_X4 (by decide) e38 q251 rfl dX1_leastSize_141 (fun hP => ?_)
            have k154 : ∀ (w154_0 : Int32) (t39 : Hp) (k39 n39 C39 S39 : Nat) (H : Heap) (locs : List Loc) (ls : Array Slot), gw_P K t39 H → va_S K.2.2.2.1 s.heap H locs → k39 + C39 = C0 → n39 + S39 = S0 → lv_has ls 8 [] → fx_X1_leastSize_J154 w154_0 t39 = some (r, tZ, C39, S39) → W p l e (headSpec (ws_ yX1_leastSize cX1_leastSize 8 (some (.int))) ({ frames := 8, cells := C0, slots := S0, locals := 3271 })).room s m ([.ref a0, .int a1, .int a2] : List Value).toArray below meth c H locs k39 n39 (MQ below (gw_Qi K r tZ) ([.ref a0, .int a1, .int a2] : List Value).toArray s C0 S0 K.2.2.2.1) (F0 m 154 ls [.int w154_0]) := by
              intro w154_0 t39 k39 n39 C39 S39 H locs ls hP hS hk hn hl hf
              unfold fx_X1_leastSize_J154 at hf
              obtain ⟨h1, h2, h3, h4⟩ := gw_rcE hf hk hn
              exact gw_ireti h1 h2 h3 h4 C hr hP hS hlk dX1_leastSize_154
            refine lv_icmp_le (tgt := 152) hx hb dX1_leastSize_144 (by decide) (fun hc => ?_) (fun hc => ?_)
            · have hf := tw_ifT hc hf
              refine lv_iload hx hb dX1_leastSize_152 (lv_at hl 4 rfl) ?_
              exact k154 _ _ _ _ _ _ _ _ _ hP hS hk hn (lv_sub hl [] rfl) hf
            · have hf := tw_ifF hc hf
              refine lv_bipush (v := (-2 : Int32)) hx hb dX1_leastSize_147 (by decide) ?_
              refine lv_goto (tgt := 154) hx hb dX1_leastSize_149 (by decide) ?_
              exact k154 _ _ _ _ _ _ _ _ _ hP hS hk hn (lv_sub hl [] rfl) hf
          · have hf := tw_ifF hc hf
            refine lv_aload_n hx hb dX1_leastSize_57 rfl (lv_at hl 0 rfl) ?_
            refine lv_aload_n hx hb dX1_leastSize_58 rfl (lv_at hl 0 rfl) ?_
            obtain ⟨x40, t41, e42, hf⟩ := gw_b0E hf
            refine gw_rget (ci := 0) (k := 13) (T := TX1) C hP rfl in_X1 (by decide) e42 q406 rfl dX1_leastSize_59 (fun hP => ?_)
            obtain ⟨x43, t44, c44, s44, C44, S44, e45, hf, hk, hn⟩ := gw_bcE hf hk hn
            refine gw_cVv (As := [.ref x40]) (rest := []) (ci := 0) (T := TX1) (N := 18) C hml hP hS rfl (gw_onE e45).1 (mx_X1_ticks (l := l) (K := K) hA _ _ _ _ _ _ _ (gw_onE e45).2) (cwV 1 hts (lw_V q852 q854 qs16 q101 q855) rfl rfl rfl hdX1_ticks ⟨Nat.le_of_ble_eq_true rfl, Nat.le_of_ble_eq_true rfl⟩) rfl hl.1 rfl (Nat.le_of_ble_eq_true rfl) (Nat.le.intro hk) (Nat.le.intro hn) dX1_leastSize_62 (fun H locs hP hS => ?_)
            refine lv_iconst (v := (0 : Int32)) hx hb dX1_leastSize_65 (by decide) ?_
            refine lv_istore (lv' := [(6, .int (0 : Int32)), (0, .ref a0), (1, .int a1), (2, .int a2), (3, .ref x17), (4, .int v51_4), (5, .int v51_5)]) hx hb dX1_leastSize_66 hl (by decide) rfl (fun ls hl => ?_)
            refine lv_iconst (v := (0 : Int32)) hx hb dX1_leastSize_68 (by decide) ?_
            refine lv_istore (lv' := [(7, .int (0 : Int32)), (6, .int (0 : Int32)), (0, .ref a0), (1, .int a1), (2, .int a2), (3, .ref x17), (4, .int v51_4), (5, .int v51_5)]) hx hb dX1_leastSize_69 hl (by decide) rfl (fun ls hl => ?_)
            have k71 : ∀ (n : Nat) (v71_6 : Int32) (v71_7 : Int32) (t46 : Hp) (k46 n46 C46 S46 : Nat) (H : Heap) (locs : List Loc) (ls : Array Slot), gw_P K t46 H → va_S K.2.2.2.1 s.heap H locs → k46 + C46 = C0 → n46 + S46 = S0 → lv_has ls 8 [(0, .ref a0), (1, .int a1), (2, .int a2), (3, .ref x17), (4, .int v51_4), (5, .int v51_5), (6, .int v71_6), (7, .int v71_7)] → tw_lp (fx_X1_leastSize_L71 a0 sf51 v51_5 v51_4 x17 a1) (fun _ _ _ => none) n v71_6 v71_7 t46 = some (r, tZ, C46, S46) → W p l e (headSpec (ws_ yX1_leastSize cX1_leastSize 8 (some (.int))) ({ frames := 8, cells := C0, slots := S0, locals := 3271 })).room s m ([.ref a0, .int a1, .int a2] : List Value).toArray below meth c H locs k46 n46 (MQ below (gw_Qi K r tZ) ([.ref a0, .int a1, .int a2] : List Value).toArray s C0 S0 K.2.2.2.1) (F0 m 71 ls []) := by
              intro n
              induction n with
              | zero => intro v71_6 v71_7 t46 k46 n46 C46 S46 H locs ls hP hS hk hn hl hf; exact (tw_no hf).elim
              | succ n ih71 =>
                intro v71_6 v71_7 t46 k46 n46 C46 S46 H locs ls hP hS hk hn hl hf
                obtain ⟨sf71, hs71⟩ : ∃ f, f = tw_lp (fx_X1_leastSize_L71 a0 sf51 v51_5 v51_4 x17 a1) (fun _ _ _ => none) n := ⟨_, rfl⟩
                rw [← hs71] at ih71
                have hf : fx_X1_leastSize_L71 a0 sf51 v51_5 v51_4 x17 a1 sf71 v71_6 v71_7 t46 = some (r, tZ, C46, S46) := by rw [hs71]; exact hf
                clear hs71
                unfold fx_X1_leastSize_L71 at hf
                refine lv_iload hx hb dX1_leastSize_71 (lv_at hl 7 rfl) ?_
                refine lv_aload_n hx hb dX1_leastSize_73 rfl (lv_at hl 0 rfl) ?_
                obtain ⟨x47, t48, e49, hf⟩ := gw_b0E hf
                refine gw_rget (ci := 0) (k := 4) (T := TX1) C hP rfl in_X1 (by decide) e49 q394 rfl dX1_leastSize_74 (fun hP => ?_)
                obtain ⟨x50, t51, e52, hf⟩ := gw_b0E hf
                refine gw_igetN (ci := 1) (k := 3) (T := TX2) C hP rfl in_X2 (by decide) e52 q165 rfl dX1_leastSize_77 (fun hP => ?_)
                refine lv_icmp_ge (tgt := 106) hx hb dX1_leastSize_80 (by decide) (fun hc => ?_) (fun hc => ?_)
                · have hf := tw_ifT hc hf
                  refine lv_iload hx hb dX1_leastSize_106 (lv_at hl 6 rfl) ?_
                  have k122 : ∀ (v122_4 : Int32) (t53 : Hp) (k53 n53 C53 S53 : Nat) (H : Heap) (locs : List Loc) (ls : Array Slot), gw_P K t53 H → va_S K.2.2.2.1 s.heap H locs → k53 + C53 = C0 → n53 + S53 = S0 → lv_has ls 8 [(0, .ref a0), (1, .int a1), (2, .int a2), (3, .ref x17), (4, .int v122_4), (5, .int v51_5)] → fx_X1_leastSize_J122 sf51 v51_5 v122_4 t53 = some (r, tZ, C53, S53) → W p l e (headSpec (ws_ yX1_leastSize cX1_leastSize 8 (some (.int))) ({ frames := 8, cells := C0, slots := S0, locals := 3271 })).room s m ([.ref a0, .int a1, .int a2] : List Value).toArray below meth c H locs k53 n53 (MQ below (gw_Qi K r tZ) ([.ref a0, .int a1, .int a2] : List Value).toArray s C0 S0 K.2.2.2.1) (F0 m 122 ls []) := by
                    intro v122_4 t53 k53 n53 C53 S53 H locs ls hP hS hk hn hl hf
                    unfold fx_X1_leastSize_J122 at hf
                    refine lv_iinc (v := (v51_5 + (1 : Int32))) (lv' := [(5, .int (v51_5 + (1 : Int32))), (0, .ref a0), (1, .int a1), (2, .int a2), (3, .ref x17), (4, .int v122_4)]) hx hb dX1_leastSize_122 hl (k := 5) rfl rfl (by decide) rfl (fun ls hl => ?_)
                    refine lv_goto (tgt := 51) hx hb dX1_leastSize_125 (by decide) ?_
                    exact ih51 _ _ _ _ _ _ _ _ _ _ hP hS hk hn (lv_sub hl [1, 2, 3, 4, 5, 0] rfl) hf
                  refine lv_if_le (tgt := 122) hx hb dX1_leastSize_108 (by decide) (fun hc => ?_) (fun hc => ?_)
                  · have hf := tw_ifT hc hf
                    exact k122 _ _ _ _ _ _ _ _ _ hP hS hk hn (lv_sub hl [0, 1, 2, 3, 4, 5] rfl) hf
                  · have hf := tw_ifF hc hf
                    refine lv_iload hx hb dX1_leastSize_111 (lv_at hl 4 rfl) ?_
                    refine lv_aload_n hx hb dX1_leastSize_113 rfl (lv_at hl 3 rfl) ?_
                    obtain ⟨x54, t55, e56, hf⟩ := gw_b0E hf
                    refine gw_cVi (As := []) (rest := [.int v51_4]) (ci := 3) (T := TX4) (N := 12) C hml hP hS rfl (gw_onE e56).1 (mx_X4_queue (l := l) (K := K) hA _ _ _ _ (gw_onE e56).2) (cwV 0 hts (lw_V q883 q884 q885 q104 q886) rfl rfl rfl hdX4_queue ⟨Nat.le_of_ble_eq_true rfl, Nat.le_of_ble_eq_true rfl⟩) rfl hl.1 rfl (Nat.le_of_ble_eq_true rfl) (Nat.le.intro hk) (Nat.le.intro hn) dX1_leastSize_114 (fun H locs hP hS => ?_)
                    refine va_mmax (rest := []) hx hb (hml.trans hl.1.symm) hown (hts _ q887) (hts _ q521) (hts _ q110) (hts _ q522) (Nat.le_of_ble_eq_true rfl) (Nat.le_of_ble_eq_true rfl) (Nat.le.intro hk) (Nat.le.intro hn) dX1_leastSize_117 ?_
                    refine lv_istore (lv' := [(4, .int (if v51_4 < x54 then x54 else v51_4)), (0, .ref a0), (1, .int a1), (2, .int a2), (3, .ref x17), (5, .int v51_5), (6, .int v71_6), (7, .int v71_7)]) hx hb dX1_leastSize_120 hl (by decide) rfl (fun ls hl => ?_)
                    exact k122 _ _ _ _ _ _ _ _ _ hP hS hk hn (lv_sub hl [1, 2, 3, 4, 0, 5] rfl) hf
                · have hf := tw_ifF hc hf
                  refine lv_iload hx hb dX1_leastSize_83 (lv_at hl 6 rfl) ?_
                  refine lv_aload_n hx hb dX1_leastSize_85 rfl (lv_at hl 0 rfl) ?_
                  obtain ⟨x57, t58, e59, hf⟩ := gw_b0E hf
                  refine gw_rget (ci := 0) (k := 7) (T := TX1) C hP rfl in_X1 (by decide) e59 q399 rfl dX1_leastSize_86 (fun hP => ?_)
                  refine lv_bipush (v := (8 : Int32)) hx hb dX1_leastSize_89 (by decide) ?_
                  refine lv_iload_n hx hb dX1_leastSize_91 rfl (lv_at hl 1 rfl) ?_
                  refine lv_imul hx hb dX1_leastSize_92 ?_
                  refine lv_iload hx hb dX1_leastSize_93 (lv_at hl 7 rfl) ?_
                  refine lv_iadd hx hb dX1_leastSize_95 ?_
                  obtain ⟨x60, t61, e62, hf⟩ := gw_b0E hf
                  refine gw_iald C hP e62 dX1_leastSize_96 (fun hP => ?_)
                  refine lv_iadd hx hb dX1_leastSize_97 ?_
                  refine lv_istore (lv' := [(6, .int (v71_6 + x60)), (0, .ref a0), (1, .int a1), (2, .int a2), (3, .ref x17), (4, .int v51_4), (5, .int v51_5), (7, .int v71_7)]) hx hb dX1_leastSize_98 hl (by decide) rfl (fun ls hl => ?_)
                  refine lv_iinc (v := (v71_7 + (1 : Int32))) (lv' := [(7, .int (v71_7 + (1 : Int32))), (6, .int (v71_6 + x60)), (0, .ref a0), (1, .int a1), (2, .int a2), (3, .ref x17), (4, .int v51_4), (5, .int v51_5)]) hx hb dX1_leastSize_100 hl (k := 7) rfl rfl (by decide) rfl (fun ls hl => ?_)
                  refine lv_goto (tgt := 71) hx hb dX1_leastSize_103 (by decide) ?_
                  exact ih71 _ _ _ _ _ _ _ _ _ _ hP hS hk hn (lv_sub hl [2, 3, 4, 5, 6, 7, 1, 0] rfl) hf
            exact k71 _ _ _ _ _ _ _ _ _ _ _ hP hS hk hn (lv_sub hl [2, 3, 4, 5, 6, 7, 1, 0] rfl) hf
      exact k51 _ _ _ _ _ _ _ _ _ _ _ hP hS hk hn (lv_sub hl [3, 4, 5, 2, 1, 0] rfl) hf
    · have hf := tw_ifT hc hf
      exact k20 _ _ _ _ _ _ _ _ hP hS hk hn (lv_sub hl [] rfl) hf
def fx_X2_flow_L2 (a0 : Nat) (a1 : Int32) (sf2 : Int32 → HM Int32) (v2_2 : Int32) : HM Int32 :=
  tw_bd (gw_gi 1 3 a0) fun x2 =>
  if x2 ≤ v2_2 then (tw_rt (-1 : Int32))
  else (tw_bd (gw_gr 1 1 a0) fun x5 =>
  tw_bd (gw_lr 5 x5 v2_2) fun x8 =>
  tw_bd (gw_gi 9 0 x8) fun x11 =>
  if x11 = a1 then (tw_rt v2_2)
  else (sf2 (v2_2 + (1 : Int32))))
def fx_X2_flow (a0 : Nat) (a1 : Int32) : HM Int32 :=
  tw_lp (fx_X2_flow_L2 a0 a1) (fun _ _ => none) tw_fu (0 : Int32)
theorem hdX2_flow : yX2_flow.cls = "LosslessFabric$Told" ∧ (yX2_flow.cls ≠ "java/lang/invoke/MethodHandle" ∧ yX2_flow.cls ≠ "java/lang/invoke/VarHandle" ∧ (parseMethodDescriptor yX2_flow.desc).map (fun d => d.parameters.length) = some 1) := by decide +kernel
set_option maxHeartbeats 4000000 in
theorem mx_X2_flow {l : Launch} {K : GK} (hA : gw_A K) (a0 : Nat) (a1 : Int32) (t0 tZ : Hp) (r : Int32) (hf : fx_X2_flow a0 a1 t0 = some (r, tZ)) : Met l yX2_flow (ws_ yX2_flow cX2_flow 3 (some (.int))) ({ frames := 2, cells := 0, slots := 0, locals := 12 }) (va_Pc [.ref a0, .int a1] (gw_W K t0)) (gw_Qi K r tZ) 0 0 K.2.2.2.1 := by
  refine Met.ofW (cc := cX2_flow) (maxL := 3) (ret := some (.int)) (by decide) rfl ?_
  intro p e s m args below meth c s₁ B hml hv
  obtain ⟨rfl, hP, hK, hX, hN, hL⟩ := hv
  have hx := B.exec
  have hb := B.bytes
  have hr := B.returns
  have hts := atoms_spec (ws := (ws_ yX2_flow cX2_flow 3 (some (.int)))) B.pre
  have hts : ∀ w ∈ lw_all, w.before _ s = true := fun w h => hts w (List.mem_cons_of_mem _ h)
  have hown : s.vm.findClass "LosslessFabric$Told" = some m.cls := findClass_of_methodNamed B.named
  have hlk := B.notSynchronized
  have C : gw_C K "LosslessFabric$Told" p s m _ c cX2_flow := ⟨hx, hb, hts, hown, hK, hA, hX, hN, hL⟩
  have hS : va_S K.2.2.2.1 s.heap s.heap [] := va_S.rf
  have hl := lv_entry ([.ref a0, .int a1]) (n := 3) (Nat.le_of_ble_eq_true rfl)
  rw [lg_entry_eq]
  generalize (lg_sl ([.ref a0, .int a1]) ++ List.replicate (3 - (lg_sl ([.ref a0, .int a1])).length) Slot.unset).toArray = ls at hl ⊢
  have hl : lv_has ls 3 [(0, .ref a0), (1, .int a1)] := hl
  unfold fx_X2_flow at hf
  refine lv_iconst (v := (0 : Int32)) hx hb dX2_flow_0 (by decide) ?_
  refine lv_istore_n (lv' := [(2, .int (0 : Int32)), (0, .ref a0), (1, .int a1)]) hx hb dX2_flow_1 rfl hl (by decide) rfl (fun ls hl => ?_)
  have k2 : ∀ (n : Nat) (v2_2 : Int32) (t1 : Hp) (H : Heap) (locs : List Loc) (ls : Array Slot), gw_P K t1 H → va_S K.2.2.2.1 s.heap H locs → lv_has ls 3 [(0, .ref a0), (1, .int a1), (2, .int v2_2)] → tw_lp (fx_X2_flow_L2 a0 a1) (fun _ _ => none) n v2_2 t1 = some (r, tZ) → W p l e (headSpec (ws_ yX2_flow cX2_flow 3 (some (.int))) ({ frames := 2, cells := 0, slots := 0, locals := 12 })).room s m ([.ref a0, .int a1] : List Value).toArray below meth c H locs 0 0 (MQ below (gw_Qi K r tZ) ([.ref a0, .int a1] : List Value).toArray s 0 0 K.2.2.2.1) (F0 m 2 ls []) := by
    intro n
    induction n with
    | zero => intro v2_2 t1 H locs ls hP hS hl hf; exact (tw_no hf).elim
    | succ n ih2 =>
      intro v2_2 t1 H locs ls hP hS hl hf
      obtain ⟨sf2, hs2⟩ : ∃ f, f = tw_lp (fx_X2_flow_L2 a0 a1) (fun _ _ => none) n := ⟨_, rfl⟩
      rw [← hs2] at ih2
      have hf : fx_X2_flow_L2 a0 a1 sf2 v2_2 t1 = some (r, tZ) := by rw [hs2]; exact hf
      clear hs2
      unfold fx_X2_flow_L2 at hf
      refine lv_iload_n hx hb dX2_flow_2 rfl (lv_at hl 2 rfl) ?_
      refine lv_aload_n hx hb dX2_flow_3 rfl (lv_at hl 0 rfl) ?_
      obtain ⟨x2, t3, e4, hf⟩ := tw_bdE hf
      refine gw_iget (ci := 1) (k := 3) (T := TX2) C hP rfl in_X2 (by decide) e4 q164 rfl dX2_flow_4 (fun hP => ?_)
      refine lv_icmp_ge (tgt := 31) hx hb dX2_flow_7 (by decide) (fun hc => ?_) (fun hc => ?_)
      · have hf := tw_ifT hc hf
        refine lv_iconst (v := (-1 : Int32)) hx hb dX2_flow_31 (by decide) ?_
        exact gw_ireti (tw_rtE hf).1 (tw_rtE hf).2 rfl rfl C hr hP hS hlk dX2_flow_32
      · have hf := tw_ifF hc hf
        refine lv_aload_n hx hb dX2_flow_10 rfl (lv_at hl 0 rfl) ?_
        obtain ⟨x5, t6, e7, hf⟩ := tw_bdE hf
        refine gw_rget (ci := 1) (k := 1) (T := TX2) C hP rfl in_X2 (by decide) e7 q151 rfl dX2_flow_11 (fun hP => ?_)
        refine lv_iload_n hx hb dX2_flow_14 rfl (lv_at hl 2 rfl) ?_
        obtain ⟨x8, t9, e10, hf⟩ := tw_bdE hf
        refine gw_aald C hP rfl e10 dX2_flow_15 (fun hP => ?_)
        obtain ⟨x11, t12, e13, hf⟩ := tw_bdE hf
        refine gw_igetN (ci := 9) (k := 0) (T := TX10) C hP rfl in_X10 (by decide) e13 q773 rfl dX2_flow_16 (fun hP => ?_)
        refine lv_iload_n hx hb dX2_flow_19 rfl (lv_at hl 1 rfl) ?_
        refine lv_icmp_ne (tgt := 25) hx hb dX2_flow_20 (by decide) (fun hc => ?_) (fun hc => ?_)
        · have hf := tw_ifF hc hf
          refine lv_iinc (v := (v2_2 + (1 : Int32))) (lv' := [(2, .int (v2_2 + (1 : Int32))), (0, .ref a0), (1, .int a1)]) hx hb dX2_flow_25 hl (k := 2) rfl rfl (by decide) rfl (fun ls hl => ?_)
          refine lv_goto (tgt := 2) hx hb dX2_flow_28 (by decide) ?_
          exact ih2 _ _ _ _ _ hP hS (lv_sub hl [1, 2, 0] rfl) hf
        · have hf := tw_ifT hc hf
          refine lv_iload_n hx hb dX2_flow_23 rfl (lv_at hl 2 rfl) ?_
          exact gw_ireti (tw_rtE hf).1 (tw_rtE hf).2 rfl rfl C hr hP hS hlk dX2_flow_24
  exact k2 _ _ _ _ _ _ hP hS (lv_sub hl [1, 2, 0] rfl) hf
def fx_X2_link_L2 (a0 : Nat) (a1 : Int32) (sf2 : Int32 → HM Int32) (v2_2 : Int32) : HM Int32 :=
  tw_bd (gw_gi 1 2 a0) fun x2 =>
  if x2 ≤ v2_2 then (tw_rt (-1 : Int32))
  else (tw_bd (gw_gr 1 0 a0) fun x5 =>
  tw_bd (gw_lr 4 x5 v2_2) fun x8 =>
  tw_bd (gw_gi 8 0 x8) fun x11 =>
  if x11 = a1 then (tw_rt v2_2)
  else (sf2 (v2_2 + (1 : Int32))))
def fx_X2_link (a0 : Nat) (a1 : Int32) : HM Int32 :=
  tw_lp (fx_X2_link_L2 a0 a1) (fun _ _ => none) tw_fu (0 : Int32)
theorem hdX2_link : yX2_link.cls = "LosslessFabric$Told" ∧ (yX2_link.cls ≠ "java/lang/invoke/MethodHandle" ∧ yX2_link.cls ≠ "java/lang/invoke/VarHandle" ∧ (parseMethodDescriptor yX2_link.desc).map (fun d => d.parameters.length) = some 1) := by decide +kernel
set_option maxHeartbeats 4000000 in
theorem mx_X2_link {l : Launch} {K : GK} (hA : gw_A K) (a0 : Nat) (a1 : Int32) (t0 tZ : Hp) (r : Int32) (hf : fx_X2_link a0 a1 t0 = some (r, tZ)) : Met l yX2_link (ws_ yX2_link cX2_link 3 (some (.int))) ({ frames := 2, cells := 0, slots := 0, locals := 12 }) (va_Pc [.ref a0, .int a1] (gw_W K t0)) (gw_Qi K r tZ) 0 0 K.2.2.2.1 := by
  refine Met.ofW (cc := cX2_link) (maxL := 3) (ret := some (.int)) (by decide) rfl ?_
  intro p e s m args below meth c s₁ B hml hv
  obtain ⟨rfl, hP, hK, hX, hN, hL⟩ := hv
  have hx := B.exec
  have hb := B.bytes
  have hr := B.returns
  have hts := atoms_spec (ws := (ws_ yX2_link cX2_link 3 (some (.int)))) B.pre
  have hts : ∀ w ∈ lw_all, w.before _ s = true := fun w h => hts w (List.mem_cons_of_mem _ h)
  have hown : s.vm.findClass "LosslessFabric$Told" = some m.cls := findClass_of_methodNamed B.named
  have hlk := B.notSynchronized
  have C : gw_C K "LosslessFabric$Told" p s m _ c cX2_link := ⟨hx, hb, hts, hown, hK, hA, hX, hN, hL⟩
  have hS : va_S K.2.2.2.1 s.heap s.heap [] := va_S.rf
  have hl := lv_entry ([.ref a0, .int a1]) (n := 3) (Nat.le_of_ble_eq_true rfl)
  rw [lg_entry_eq]
  generalize (lg_sl ([.ref a0, .int a1]) ++ List.replicate (3 - (lg_sl ([.ref a0, .int a1])).length) Slot.unset).toArray = ls at hl ⊢
  have hl : lv_has ls 3 [(0, .ref a0), (1, .int a1)] := hl
  unfold fx_X2_link at hf
  refine lv_iconst (v := (0 : Int32)) hx hb dX2_link_0 (by decide) ?_
  refine lv_istore_n (lv' := [(2, .int (0 : Int32)), (0, .ref a0), (1, .int a1)]) hx hb dX2_link_1 rfl hl (by decide) rfl (fun ls hl => ?_)
  have k2 : ∀ (n : Nat) (v2_2 : Int32) (t1 : Hp) (H : Heap) (locs : List Loc) (ls : Array Slot), gw_P K t1 H → va_S K.2.2.2.1 s.heap H locs → lv_has ls 3 [(0, .ref a0), (1, .int a1), (2, .int v2_2)] → tw_lp (fx_X2_link_L2 a0 a1) (fun _ _ => none) n v2_2 t1 = some (r, tZ) → W p l e (headSpec (ws_ yX2_link cX2_link 3 (some (.int))) ({ frames := 2, cells := 0, slots := 0, locals := 12 })).room s m ([.ref a0, .int a1] : List Value).toArray below meth c H locs 0 0 (MQ below (gw_Qi K r tZ) ([.ref a0, .int a1] : List Value).toArray s 0 0 K.2.2.2.1) (F0 m 2 ls []) := by
    intro n
    induction n with
    | zero => intro v2_2 t1 H locs ls hP hS hl hf; exact (tw_no hf).elim
    | succ n ih2 =>
      intro v2_2 t1 H locs ls hP hS hl hf
      obtain ⟨sf2, hs2⟩ : ∃ f, f = tw_lp (fx_X2_link_L2 a0 a1) (fun _ _ => none) n := ⟨_, rfl⟩
      rw [← hs2] at ih2
      have hf : fx_X2_link_L2 a0 a1 sf2 v2_2 t1 = some (r, tZ) := by rw [hs2]; exact hf
      clear hs2
      unfold fx_X2_link_L2 at hf
      refine lv_iload_n hx hb dX2_link_2 rfl (lv_at hl 2 rfl) ?_
      refine lv_aload_n hx hb dX2_link_3 rfl (lv_at hl 0 rfl) ?_
      obtain ⟨x2, t3, e4, hf⟩ := tw_bdE hf
      refine gw_iget (ci := 1) (k := 2) (T := TX2) C hP rfl in_X2 (by decide) e4 q156 rfl dX2_link_4 (fun hP => ?_)
      refine lv_icmp_ge (tgt := 31) hx hb dX2_link_7 (by decide) (fun hc => ?_) (fun hc => ?_)
      · have hf := tw_ifT hc hf
        refine lv_iconst (v := (-1 : Int32)) hx hb dX2_link_31 (by decide) ?_
        exact gw_ireti (tw_rtE hf).1 (tw_rtE hf).2 rfl rfl C hr hP hS hlk dX2_link_32
      · have hf := tw_ifF hc hf
        refine lv_aload_n hx hb dX2_link_10 rfl (lv_at hl 0 rfl) ?_
        obtain ⟨x5, t6, e7, hf⟩ := tw_bdE hf
        refine gw_rget (ci := 1) (k := 0) (T := TX2) C hP rfl in_X2 (by decide) e7 q146 rfl dX2_link_11 (fun hP => ?_)
        refine lv_iload_n hx hb dX2_link_14 rfl (lv_at hl 2 rfl) ?_
        obtain ⟨x8, t9, e10, hf⟩ := tw_bdE hf
        refine gw_aald C hP rfl e10 dX2_link_15 (fun hP => ?_)
        obtain ⟨x11, t12, e13, hf⟩ := tw_bdE hf
        refine gw_igetN (ci := 8) (k := 0) (T := TX9) C hP rfl in_X9 (by decide) e13 q729 rfl dX2_link_16 (fun hP => ?_)
        refine lv_iload_n hx hb dX2_link_19 rfl (lv_at hl 1 rfl) ?_
        refine lv_icmp_ne (tgt := 25) hx hb dX2_link_20 (by decide) (fun hc => ?_) (fun hc => ?_)
        · have hf := tw_ifF hc hf
          refine lv_iinc (v := (v2_2 + (1 : Int32))) (lv' := [(2, .int (v2_2 + (1 : Int32))), (0, .ref a0), (1, .int a1)]) hx hb dX2_link_25 hl (k := 2) rfl rfl (by decide) rfl (fun ls hl => ?_)
          refine lv_goto (tgt := 2) hx hb dX2_link_28 (by decide) ?_
          exact ih2 _ _ _ _ _ hP hS (lv_sub hl [1, 2, 0] rfl) hf
        · have hf := tw_ifT hc hf
          refine lv_iload_n hx hb dX2_link_23 rfl (lv_at hl 2 rfl) ?_
          exact gw_ireti (tw_rtE hf).1 (tw_rtE hf).2 rfl rfl C hr hP hS hlk dX2_link_24
  exact k2 _ _ _ _ _ _ hP hS (lv_sub hl [1, 2, 0] rfl) hf
def fx_X1_named_J32  (w32_0 : Int32) : HM Int32 :=
  tw_rt w32_0
def fx_X1_named (a0 : Nat) (a1 : Int32) (a2 : Int32) : HM Int32 :=
  if a1 = 0 then (tw_bd (gw_gr 0 4 a0) fun x8 =>
  tw_bd (gw_on 1 x8 (fx_X2_link x8 a2)) fun x11 =>
 
  fx_X1_named_J32 x11)
  else (if a1 = (1 : Int32) then (tw_bd (gw_gr 0 4 a0) fun x2 =>
  tw_bd (gw_on 1 x2 (fx_X2_flow x2 a2)) fun x5 =>
 
  fx_X1_named_J32 x5)
  else (fx_X1_named_J32 (-1 : Int32)))
theorem hdX1_named : yX1_named.cls = "LosslessFabric" ∧ (yX1_named.cls ≠ "java/lang/invoke/MethodHandle" ∧ yX1_named.cls ≠ "java/lang/invoke/VarHandle" ∧ (parseMethodDescriptor yX1_named.desc).map (fun d => d.parameters.length) = some 2) := by decide +kernel
set_option maxHeartbeats 4000000 in
theorem mx_X1_named {l : Launch} {K : GK} (hA : gw_A K) (a0 : Nat) (a1 : Int32) (a2 : Int32) (t0 tZ : Hp) (r : Int32) (hf : fx_X1_named a0 a1 a2 t0 = some (r, tZ)) : Met l yX1_named (ws_ yX1_named cX1_named 3 (some (.int))) ({ frames := 3, cells := 0, slots := 0, locals := 34 }) (va_Pc [.ref a0, .int a1, .int a2] (gw_W K t0)) (gw_Qi K r tZ) 0 0 K.2.2.2.1 := by
  refine Met.ofW (cc := cX1_named) (maxL := 3) (ret := some (.int)) (by decide) rfl ?_
  intro p e s m args below meth c s₁ B hml hv
  obtain ⟨rfl, hP, hK, hX, hN, hL⟩ := hv
  have hx := B.exec
  have hb := B.bytes
  have hr := B.returns
  have hts := atoms_spec (ws := (ws_ yX1_named cX1_named 3 (some (.int)))) B.pre
  have hts : ∀ w ∈ lw_all, w.before _ s = true := fun w h => hts w (List.mem_cons_of_mem _ h)
  have hown : s.vm.findClass "LosslessFabric" = some m.cls := findClass_of_methodNamed B.named
  have hlk := B.notSynchronized
  have C : gw_C K "LosslessFabric" p s m _ c cX1_named := ⟨hx, hb, hts, hown, hK, hA, hX, hN, hL⟩
  have hS : va_S K.2.2.2.1 s.heap s.heap [] := va_S.rf
  have hl := lv_entry ([.ref a0, .int a1, .int a2]) (n := 3) (Nat.le_of_ble_eq_true rfl)
  rw [lg_entry_eq]
  generalize (lg_sl ([.ref a0, .int a1, .int a2]) ++ List.replicate (3 - (lg_sl ([.ref a0, .int a1, .int a2])).length) Slot.unset).toArray = ls at hl ⊢
  have hl : lv_has ls 3 [(0, .ref a0), (1, .int a1), (2, .int a2)] := hl
  unfold fx_X1_named at hf
  refine lv_iload_n hx hb dX1_named_0 rfl (lv_at hl 1 rfl) ?_
  have k32 : ∀ (w32_0 : Int32) (t1 : Hp) (H : Heap) (locs : List Loc) (ls : Array Slot), gw_P K t1 H → va_S K.2.2.2.1 s.heap H locs → lv_has ls 3 [] → fx_X1_named_J32 w32_0 t1 = some (r, tZ) → W p l e (headSpec (ws_ yX1_named cX1_named 3 (some (.int))) ({ frames := 3, cells := 0, slots := 0, locals := 34 })).room s m ([.ref a0, .int a1, .int a2] : List Value).toArray below meth c H locs 0 0 (MQ below (gw_Qi K r tZ) ([.ref a0, .int a1, .int a2] : List Value).toArray s 0 0 K.2.2.2.1) (F0 m 32 ls [.int w32_0]) := by
    intro w32_0 t1 H locs ls hP hS hl hf
    unfold fx_X1_named_J32 at hf
    exact gw_ireti (tw_rtE hf).1 (tw_rtE hf).2 rfl rfl C hr hP hS hlk dX1_named_32
  refine lv_if_ne (tgt := 15) hx hb dX1_named_1 (by decide) (fun hc => ?_) (fun hc => ?_)
  · have hf := tw_ifF hc hf
    refine lv_iload_n hx hb dX1_named_15 rfl (lv_at hl 1 rfl) ?_
    refine lv_iconst (v := (1 : Int32)) hx hb dX1_named_16 (by decide) ?_
    refine lv_icmp_ne (tgt := 31) hx hb dX1_named_17 (by decide) (fun hc => ?_) (fun hc => ?_)
    · have hf := tw_ifF hc hf
      refine lv_iconst (v := (-1 : Int32)) hx hb dX1_named_31 (by decide) ?_
      exact k32 _ _ _ _ _ hP hS (lv_sub hl [] rfl) hf
    · have hf := tw_ifT hc hf
      refine lv_aload_n hx hb dX1_named_20 rfl (lv_at hl 0 rfl) ?_
      obtain ⟨x2, t3, e4, hf⟩ := tw_bdE hf
      refine gw_rget (ci := 0) (k := 4) (T := TX1) C hP rfl in_X1 (by decide) e4 q394 rfl dX1_named_21 (fun hP => ?_)
      refine lv_iload_n hx hb dX1_named_24 rfl (lv_at hl 2 rfl) ?_
      obtain ⟨x5, t6, e7, hf⟩ := tw_bdE hf
      refine gw_cVi (As := [.int a2]) (rest := []) (ci := 1) (T := TX2) (N := 13) C hml hP hS rfl (gw_onE e7).1 (mx_X2_flow (l := l) (K := K) hA _ _ _ _ _ (gw_onE e7).2) (cwV 1 hts (lw_V q814 q760 q761 q102 q762) rfl rfl rfl hdX2_flow ⟨Nat.le_of_ble_eq_true rfl, Nat.le_of_ble_eq_true rfl⟩) rfl hl.1 rfl (Nat.le_of_ble_eq_true rfl) (Nat.zero_le _) (Nat.zero_le _) dX1_named_25 (fun H locs hP hS => ?_)
      refine lv_goto (tgt := 32) hx hb dX1_named_28 (by decide) ?_
      exact k32 _ _ _ _ _ hP hS (lv_sub hl [] rfl) hf
  · have hf := tw_ifT hc hf
    refine lv_aload_n hx hb dX1_named_4 rfl (lv_at hl 0 rfl) ?_
    obtain ⟨x8, t9, e10, hf⟩ := tw_bdE hf
    refine gw_rget (ci := 0) (k := 4) (T := TX1) C hP rfl in_X1 (by decide) e10 q394 rfl dX1_named_5 (fun hP => ?_)
    refine lv_iload_n hx hb dX1_named_8 rfl (lv_at hl 2 rfl) ?_
    obtain ⟨x11, t12, e13, hf⟩ := tw_bdE hf
    refine gw_cVi (As := [.int a2]) (rest := []) (ci := 1) (T := TX2) (N := 13) C hml hP hS rfl (gw_onE e13).1 (mx_X2_link (l := l) (K := K) hA _ _ _ _ _ (gw_onE e13).2) (cwV 1 hts (lw_V q813 q715 q716 q102 q717) rfl rfl rfl hdX2_link ⟨Nat.le_of_ble_eq_true rfl, Nat.le_of_ble_eq_true rfl⟩) rfl hl.1 rfl (Nat.le_of_ble_eq_true rfl) (Nat.zero_le _) (Nat.zero_le _) dX1_named_9 (fun H locs hP hS => ?_)
    refine lv_goto (tgt := 32) hx hb dX1_named_12 (by decide) ?_
    exact k32 _ _ _ _ _ hP hS (lv_sub hl [] rfl) hf
def fx_X1_notice_J27  (w27_0 : Int32) : gM Int32 :=
  gw_rc w27_0
def fx_X1_notice (a0 : Nat) (a1 : Int32) : gM Int32 :=
  gw_bc (gw_on 0 a0 (fx_X1_isLink a0 a1)) fun x1 =>
  if x1 = 0 then (fx_X1_notice_J27 (-1 : Int32))
  else (gw_b0 (gw_gr 0 11 a0) fun x5 =>
  gw_b0 (gw_gr 0 11 a0) fun x8 =>
  gw_b0 (gw_on 2 x8 (fx_X3_feedback x8 a1)) fun x11 =>
  gw_b0 (gw_on 2 x5 (fx_X3_noticeOf x5 x11)) fun x14 =>
 
  fx_X1_notice_J27 x14)
theorem hdX1_notice : yX1_notice.cls = "LosslessFabric" ∧ (yX1_notice.cls ≠ "java/lang/invoke/MethodHandle" ∧ yX1_notice.cls ≠ "java/lang/invoke/VarHandle" ∧ (parseMethodDescriptor yX1_notice.desc).map (fun d => d.parameters.length) = some 1) := by decide +kernel
set_option maxHeartbeats 4000000 in
theorem mx_X1_notice {l : Launch} {K : GK} (hA : gw_A K) (a0 : Nat) (a1 : Int32) (t0 tZ : Hp) (r : Int32) (C0 S0 : Nat) (hf : fx_X1_notice a0 a1 t0 = some (r, tZ, C0, S0)) : Met l yX1_notice (ws_ yX1_notice cX1_notice 2 (some (.int))) ({ frames := 4, cells := C0, slots := S0, locals := 60 }) (va_Pc [.ref a0, .int a1] (gw_W K t0)) (gw_Qi K r tZ) C0 S0 K.2.2.2.1 := by
  refine Met.ofW (cc := cX1_notice) (maxL := 2) (ret := some (.int)) (by decide) rfl ?_
  intro p e s m args below meth c s₁ B hml hv
  obtain ⟨rfl, hP, hK, hX, hN, hL⟩ := hv
  have hx := B.exec
  have hb := B.bytes
  have hr := B.returns
  have hts := atoms_spec (ws := (ws_ yX1_notice cX1_notice 2 (some (.int)))) B.pre
  have hts : ∀ w ∈ lw_all, w.before _ s = true := fun w h => hts w (List.mem_cons_of_mem _ h)
  have hown : s.vm.findClass "LosslessFabric" = some m.cls := findClass_of_methodNamed B.named
  have hlk := B.notSynchronized
  have C : gw_C K "LosslessFabric" p s m _ c cX1_notice := ⟨hx, hb, hts, hown, hK, hA, hX, hN, hL⟩
  have hk : 0 + C0 = C0 := Nat.zero_add _
  have hn : 0 + S0 = S0 := Nat.zero_add _
  have hS : va_S K.2.2.2.1 s.heap s.heap [] := va_S.rf
  have hl := lv_entry ([.ref a0, .int a1]) (n := 2) (Nat.le_of_ble_eq_true rfl)
  rw [lg_entry_eq]
  generalize (lg_sl ([.ref a0, .int a1]) ++ List.replicate (2 - (lg_sl ([.ref a0, .int a1])).length) Slot.unset).toArray = ls at hl ⊢
  have hl : lv_has ls 2 [(0, .ref a0), (1, .int a1)] := hl
  unfold fx_X1_notice at hf
  refine lv_aload_n hx hb dX1_notice_0 rfl (lv_at hl 0 rfl) ?_
  refine lv_iload_n hx hb dX1_notice_1 rfl (lv_at hl 1 rfl) ?_
  obtain ⟨x1, t2, c2, s2, C2, S2, e3, hf, hk, hn⟩ := gw_bcE hf hk hn
  refine gw_cVi (As := [.int a1]) (rest := []) (ci := 0) (T := TX1) (N := 18) C hml hP hS rfl (gw_onE e3).1 (mx_X1_isLink (l := l) (K := K) hA _ _ _ _ _ _ _ (gw_onE e3).2) (cwV 1 hts (lw_V q968 q970 qs22 q101 q971) rfl rfl rfl hdX1_isLink ⟨Nat.le_of_ble_eq_true rfl, Nat.le_of_ble_eq_true rfl⟩) rfl hl.1 rfl (Nat.le_of_ble_eq_true rfl) (Nat.le.intro hk) (Nat.le.intro hn) dX1_notice_2 (fun H locs hP hS => ?_)
  have k27 : ∀ (w27_0 : Int32) (t4 : Hp) (k4 n4 C4 S4 : Nat) (H : Heap) (locs : List Loc) (ls : Array Slot), gw_P K t4 H → va_S K.2.2.2.1 s.heap H locs → k4 + C4 = C0 → n4 + S4 = S0 → lv_has ls 2 [] → fx_X1_notice_J27 w27_0 t4 = some (r, tZ, C4, S4) → W p l e (headSpec (ws_ yX1_notice cX1_notice 2 (some (.int))) ({ frames := 4, cells := C0, slots := S0, locals := 60 })).room s m ([.ref a0, .int a1] : List Value).toArray below meth c H locs k4 n4 (MQ below (gw_Qi K r tZ) ([.ref a0, .int a1] : List Value).toArray s C0 S0 K.2.2.2.1) (F0 m 27 ls [.int w27_0]) := by
    intro w27_0 t4 k4 n4 C4 S4 H locs ls hP hS hk hn hl hf
    unfold fx_X1_notice_J27 at hf
    obtain ⟨h1, h2, h3, h4⟩ := gw_rcE hf hk hn
    exact gw_ireti h1 h2 h3 h4 C hr hP hS hlk dX1_notice_27
  refine lv_if_eq (tgt := 26) hx hb dX1_notice_5 (by decide) (fun hc => ?_) (fun hc => ?_)
  · have hf := tw_ifT hc hf
    refine lv_iconst (v := (-1 : Int32)) hx hb dX1_notice_26 (by decide) ?_
    exact k27 _ _ _ _ _ _ _ _ _ hP hS hk hn (lv_sub hl [] rfl) hf
  · have hf := tw_ifF hc hf
    refine lv_aload_n hx hb dX1_notice_8 rfl (lv_at hl 0 rfl) ?_
    obtain ⟨x5, t6, e7, hf⟩ := gw_b0E hf
    refine gw_rget (ci := 0) (k := 11) (T := TX1) C hP rfl in_X1 (by decide) e7 q404 rfl dX1_notice_9 (fun hP => ?_)
    refine lv_aload_n hx hb dX1_notice_12 rfl (lv_at hl 0 rfl) ?_
    obtain ⟨x8, t9, e10, hf⟩ := gw_b0E hf
    refine gw_rget (ci := 0) (k := 11) (T := TX1) C hP rfl in_X1 (by decide) e10 q404 rfl dX1_notice_13 (fun hP => ?_)
    refine lv_iload_n hx hb dX1_notice_16 rfl (lv_at hl 1 rfl) ?_
    obtain ⟨x11, t12, e13, hf⟩ := gw_b0E hf
    refine gw_cVi (As := [.int a1]) (rest := [.ref x5]) (ci := 2) (T := TX3) (N := 4) C hml hP hS rfl (gw_onE e13).1 (mx_X3_feedback (l := l) (K := K) hA _ _ _ _ _ (gw_onE e13).2) (cwV 1 hts (lw_V q897 q898 q899 q103 q900) rfl rfl rfl hdX3_feedback ⟨Nat.le_of_ble_eq_true rfl, Nat.le_of_ble_eq_true rfl⟩) rfl hl.1 rfl (Nat.le_of_ble_eq_true rfl) (Nat.le.intro hk) (Nat.le.intro hn) dX1_notice_17 (fun H locs hP hS => ?_)
    obtain ⟨x14, t15, e16, hf⟩ := gw_b0E hf
    refine gw_cVi (As := [.int x11]) (rest := []) (ci := 2) (T := TX3) (N := 4) C hml hP hS rfl (gw_onE e16).1 (mx_X3_noticeOf (l := l) (K := K) hA _ _ _ _ _ (gw_onE e16).2) (cwV 1 hts (lw_V q902 q903 q904 q103 q905) rfl rfl rfl hdX3_noticeOf ⟨Nat.le_of_ble_eq_true rfl, Nat.le_of_ble_eq_true rfl⟩) rfl hl.1 rfl (Nat.le_of_ble_eq_true rfl) (Nat.le.intro hk) (Nat.le.intro hn) dX1_notice_20 (fun H locs hP hS => ?_)
    refine lv_goto (tgt := 27) hx hb dX1_notice_23 (by decide) ?_
    exact k27 _ _ _ _ _ _ _ _ _ hP hS hk hn (lv_sub hl [] rfl) hf
def fx_X1_onWay (a0 : Nat) (a1 : Int32) : gM Int32 :=
  gw_bc (gw_on 0 a0 (fx_X1_isFlow a0 a1)) fun x1 =>
  if x1 = 0 then (gw_rc (-1 : Int32))
  else (gw_b0 (gw_gr 0 11 a0) fun x4 =>
  gw_b0 (gw_gr 2 3 x4) fun x7 =>
  gw_b0 (gw_lr 7 x7 a1) fun x10 =>
  gw_b0 (gw_gi 4 2 x10) fun x13 =>
  gw_b0 (gw_gi 4 3 x10) fun x16 =>
  gw_b0 (gw_gi 4 5 x10) fun x19 =>
  gw_rc ((x13 - x16) - x19))
theorem hdX1_onWay : yX1_onWay.cls = "LosslessFabric" ∧ (yX1_onWay.cls ≠ "java/lang/invoke/MethodHandle" ∧ yX1_onWay.cls ≠ "java/lang/invoke/VarHandle" ∧ (parseMethodDescriptor yX1_onWay.desc).map (fun d => d.parameters.length) = some 1) := by decide +kernel
set_option maxHeartbeats 4000000 in
theorem mx_X1_onWay {l : Launch} {K : GK} (hA : gw_A K) (a0 : Nat) (a1 : Int32) (t0 tZ : Hp) (r : Int32) (C0 S0 : Nat) (hf : fx_X1_onWay a0 a1 t0 = some (r, tZ, C0, S0)) : Met l yX1_onWay (ws_ yX1_onWay cX1_onWay 3 (some (.int))) ({ frames := 4, cells := C0, slots := S0, locals := 60 }) (va_Pc [.ref a0, .int a1] (gw_W K t0)) (gw_Qi K r tZ) C0 S0 K.2.2.2.1 := by
  refine Met.ofW (cc := cX1_onWay) (maxL := 3) (ret := some (.int)) (by decide) rfl ?_
  intro p e s m args below meth c s₁ B hml hv
  obtain ⟨rfl, hP, hK, hX, hN, hL⟩ := hv
  have hx := B.exec
  have hb := B.bytes
  have hr := B.returns
  have hts := atoms_spec (ws := (ws_ yX1_onWay cX1_onWay 3 (some (.int)))) B.pre
  have hts : ∀ w ∈ lw_all, w.before _ s = true := fun w h => hts w (List.mem_cons_of_mem _ h)
  have hown : s.vm.findClass "LosslessFabric" = some m.cls := findClass_of_methodNamed B.named
  have hlk := B.notSynchronized
  have C : gw_C K "LosslessFabric" p s m _ c cX1_onWay := ⟨hx, hb, hts, hown, hK, hA, hX, hN, hL⟩
  have hk : 0 + C0 = C0 := Nat.zero_add _
  have hn : 0 + S0 = S0 := Nat.zero_add _
  have hS : va_S K.2.2.2.1 s.heap s.heap [] := va_S.rf
  have hl := lv_entry ([.ref a0, .int a1]) (n := 3) (Nat.le_of_ble_eq_true rfl)
  rw [lg_entry_eq]
  generalize (lg_sl ([.ref a0, .int a1]) ++ List.replicate (3 - (lg_sl ([.ref a0, .int a1])).length) Slot.unset).toArray = ls at hl ⊢
  have hl : lv_has ls 3 [(0, .ref a0), (1, .int a1)] := hl
  unfold fx_X1_onWay at hf
  refine lv_aload_n hx hb dX1_onWay_0 rfl (lv_at hl 0 rfl) ?_
  refine lv_iload_n hx hb dX1_onWay_1 rfl (lv_at hl 1 rfl) ?_
  obtain ⟨x1, t2, c2, s2, C2, S2, e3, hf, hk, hn⟩ := gw_bcE hf hk hn
  refine gw_cVi (As := [.int a1]) (rest := []) (ci := 0) (T := TX1) (N := 18) C hml hP hS rfl (gw_onE e3).1 (mx_X1_isFlow (l := l) (K := K) hA _ _ _ _ _ _ _ (gw_onE e3).2) (cwV 1 hts (lw_V q952 q954 qs21 q101 q955) rfl rfl rfl hdX1_isFlow ⟨Nat.le_of_ble_eq_true rfl, Nat.le_of_ble_eq_true rfl⟩) rfl hl.1 rfl (Nat.le_of_ble_eq_true rfl) (Nat.le.intro hk) (Nat.le.intro hn) dX1_onWay_2 (fun H locs hP hS => ?_)
  refine lv_if_ne (tgt := 10) hx hb dX1_onWay_5 (by decide) (fun hc => ?_) (fun hc => ?_)
  · have hf := tw_ifF hc hf
    refine lv_aload_n hx hb dX1_onWay_10 rfl (lv_at hl 0 rfl) ?_
    obtain ⟨x4, t5, e6, hf⟩ := gw_b0E hf
    refine gw_rget (ci := 0) (k := 11) (T := TX1) C hP rfl in_X1 (by decide) e6 q404 rfl dX1_onWay_11 (fun hP => ?_)
    obtain ⟨x7, t8, e9, hf⟩ := gw_b0E hf
    refine gw_rgetN (ci := 2) (k := 3) (T := TX3) C hP rfl in_X3 (by decide) e9 q358 rfl dX1_onWay_14 (fun hP => ?_)
    refine lv_iload_n hx hb dX1_onWay_17 rfl (lv_at hl 1 rfl) ?_
    obtain ⟨x10, t11, e12, hf⟩ := gw_b0E hf
    refine gw_aald C hP rfl e12 dX1_onWay_18 (fun hP => ?_)
    refine lv_astore_n (lv' := [(2, .ref x10), (0, .ref a0), (1, .int a1)]) hx hb dX1_onWay_19 rfl hl (by decide) rfl (fun ls hl => ?_)
    refine lv_aload_n hx hb dX1_onWay_20 rfl (lv_at hl 0 rfl) ?_
    obtain ⟨x13, t14, e15, hf⟩ := gw_b0E hf
    refine gw_igetN (ci := 4) (k := 2) (T := TX5) C hP rfl in_X5 (by decide) e15 q302 rfl dX1_onWay_21 (fun hP => ?_)
    refine lv_aload_n hx hb dX1_onWay_24 rfl (lv_at hl 0 rfl) ?_
    obtain ⟨x16, t17, e18, hf⟩ := gw_b0E hf
    refine gw_igetN (ci := 4) (k := 3) (T := TX5) C hP rfl in_X5 (by decide) e18 q305 rfl dX1_onWay_25 (fun hP => ?_)
    refine lv_isub hx hb dX1_onWay_28 ?_
    refine lv_aload_n hx hb dX1_onWay_29 rfl (lv_at hl 0 rfl) ?_
    obtain ⟨x19, t20, e21, hf⟩ := gw_b0E hf
    refine gw_igetN (ci := 4) (k := 5) (T := TX5) C hP rfl in_X5 (by decide) e21 q311 rfl dX1_onWay_30 (fun hP => ?_)
    refine lv_isub hx hb dX1_onWay_33 ?_
    obtain ⟨h1, h2, h3, h4⟩ := gw_rcE hf hk hn
    exact gw_ireti h1 h2 h3 h4 C hr hP hS hlk dX1_onWay_34
  · have hf := tw_ifT hc hf
    refine lv_iconst (v := (-1 : Int32)) hx hb dX1_onWay_8 (by decide) ?_
    obtain ⟨h1, h2, h3, h4⟩ := gw_rcE hf hk hn
    exact gw_ireti h1 h2 h3 h4 C hr hP hS hlk dX1_onWay_9
def fx_X1_path_J50  (w50_0 : Int32) : gM Int32 :=
  gw_rc w50_0
def fx_X1_path_J49   : gM Int32 :=
  fx_X1_path_J50 (-1 : Int32)
def fx_X1_path (a0 : Nat) (a1 : Int32) (a2 : Int32) : gM Int32 :=
  gw_bc (gw_on 0 a0 (fx_X1_isFlow a0 a1)) fun x1 =>
  if x1 = 0 then (fx_X1_path_J49)
  else (gw_b0 (gw_gr 0 4 a0) fun x6 =>
  gw_b0 (gw_gr 1 1 x6) fun x9 =>
  gw_b0 (gw_lr 5 x9 a1) fun x12 =>
  gw_b0 (gw_gi 9 3 x12) fun x15 =>
  gw_b0 (fx_X1_isIn (a2.toInt64) (0 : Int64) ((x15 - (1 : Int32)).toInt64)) fun x18 =>
  if x18 = 0 then (fx_X1_path_J49)
  else (gw_b0 (gw_gr 0 4 a0) fun x21 =>
  gw_b0 (gw_gr 1 1 x21) fun x24 =>
  gw_b0 (gw_lr 5 x24 a1) fun x27 =>
  gw_b0 (gw_gr 9 2 x27) fun x30 =>
  gw_b0 (gw_ld 0 x30 a2) fun x33 =>
 
  fx_X1_path_J50 x33))
theorem hdX1_path : yX1_path.cls = "LosslessFabric" ∧ (yX1_path.cls ≠ "java/lang/invoke/MethodHandle" ∧ yX1_path.cls ≠ "java/lang/invoke/VarHandle" ∧ (parseMethodDescriptor yX1_path.desc).map (fun d => d.parameters.length) = some 2) := by decide +kernel
set_option maxHeartbeats 4000000 in
theorem mx_X1_path {l : Launch} {K : GK} (hA : gw_A K) (a0 : Nat) (a1 : Int32) (a2 : Int32) (t0 tZ : Hp) (r : Int32) (C0 S0 : Nat) (hf : fx_X1_path a0 a1 a2 t0 = some (r, tZ, C0, S0)) : Met l yX1_path (ws_ yX1_path cX1_path 3 (some (.int))) ({ frames := 4, cells := C0, slots := S0, locals := 60 }) (va_Pc [.ref a0, .int a1, .int a2] (gw_W K t0)) (gw_Qi K r tZ) C0 S0 K.2.2.2.1 := by
  refine Met.ofW (cc := cX1_path) (maxL := 3) (ret := some (.int)) (by decide) rfl ?_
  intro p e s m args below meth c s₁ B hml hv
  obtain ⟨rfl, hP, hK, hX, hN, hL⟩ := hv
  have hx := B.exec
  have hb := B.bytes
  have hr := B.returns
  have hts := atoms_spec (ws := (ws_ yX1_path cX1_path 3 (some (.int)))) B.pre
  have hts : ∀ w ∈ lw_all, w.before _ s = true := fun w h => hts w (List.mem_cons_of_mem _ h)
  have hown : s.vm.findClass "LosslessFabric" = some m.cls := findClass_of_methodNamed B.named
  have hlk := B.notSynchronized
  have C : gw_C K "LosslessFabric" p s m _ c cX1_path := ⟨hx, hb, hts, hown, hK, hA, hX, hN, hL⟩
  have hk : 0 + C0 = C0 := Nat.zero_add _
  have hn : 0 + S0 = S0 := Nat.zero_add _
  have hS : va_S K.2.2.2.1 s.heap s.heap [] := va_S.rf
  have hl := lv_entry ([.ref a0, .int a1, .int a2]) (n := 3) (Nat.le_of_ble_eq_true rfl)
  rw [lg_entry_eq]
  generalize (lg_sl ([.ref a0, .int a1, .int a2]) ++ List.replicate (3 - (lg_sl ([.ref a0, .int a1, .int a2])).length) Slot.unset).toArray = ls at hl ⊢
  have hl : lv_has ls 3 [(0, .ref a0), (1, .int a1), (2, .int a2)] := hl
  unfold fx_X1_path at hf
  refine lv_aload_n hx hb dX1_path_0 rfl (lv_at hl 0 rfl) ?_
  refine lv_iload_n hx hb dX1_path_1 rfl (lv_at hl 1 rfl) ?_
  obtain ⟨x1, t2, c2, s2, C2, S2, e3, hf, hk, hn⟩ := gw_bcE hf hk hn
  refine gw_cVi (As := [.int a1]) (rest := []) (ci := 0) (T := TX1) (N := 18) C hml hP hS rfl (gw_onE e3).1 (mx_X1_isFlow (l := l) (K := K) hA _ _ _ _ _ _ _ (gw_onE e3).2) (cwV 1 hts (lw_V q952 q954 qs21 q101 q955) rfl rfl rfl hdX1_isFlow ⟨Nat.le_of_ble_eq_true rfl, Nat.le_of_ble_eq_true rfl⟩) rfl hl.1 rfl (Nat.le_of_ble_eq_true rfl) (Nat.le.intro hk) (Nat.le.intro hn) dX1_path_2 (fun H locs hP hS => ?_)
  have k50 : ∀ (w50_0 : Int32) (t4 : Hp) (k4 n4 C4 S4 : Nat) (H : Heap) (locs : List Loc) (ls : Array Slot), gw_P K t4 H → va_S K.2.2.2.1 s.heap H locs → k4 + C4 = C0 → n4 + S4 = S0 → lv_has ls 3 [] → fx_X1_path_J50 w50_0 t4 = some (r, tZ, C4, S4) → W p l e (headSpec (ws_ yX1_path cX1_path 3 (some (.int))) ({ frames := 4, cells := C0, slots := S0, locals := 60 })).room s m ([.ref a0, .int a1, .int a2] : List Value).toArray below meth c H locs k4 n4 (MQ below (gw_Qi K r tZ) ([.ref a0, .int a1, .int a2] : List Value).toArray s C0 S0 K.2.2.2.1) (F0 m 50 ls [.int w50_0]) := by
    intro w50_0 t4 k4 n4 C4 S4 H locs ls hP hS hk hn hl hf
    unfold fx_X1_path_J50 at hf
    obtain ⟨h1, h2, h3, h4⟩ := gw_rcE hf hk hn
    exact gw_ireti h1 h2 h3 h4 C hr hP hS hlk dX1_path_50
  have k49 : ∀  (t5 : Hp) (k5 n5 C5 S5 : Nat) (H : Heap) (locs : List Loc) (ls : Array Slot), gw_P K t5 H → va_S K.2.2.2.1 s.heap H locs → k5 + C5 = C0 → n5 + S5 = S0 → lv_has ls 3 [] → fx_X1_path_J49  t5 = some (r, tZ, C5, S5) → W p l e (headSpec (ws_ yX1_path cX1_path 3 (some (.int))) ({ frames := 4, cells := C0, slots := S0, locals := 60 })).room s m ([.ref a0, .int a1, .int a2] : List Value).toArray below meth c H locs k5 n5 (MQ below (gw_Qi K r tZ) ([.ref a0, .int a1, .int a2] : List Value).toArray s C0 S0 K.2.2.2.1) (F0 m 49 ls []) := by
    intro t5 k5 n5 C5 S5 H locs ls hP hS hk hn hl hf
    unfold fx_X1_path_J49 at hf
    refine lv_iconst (v := (-1 : Int32)) hx hb dX1_path_49 (by decide) ?_
    exact k50 _ _ _ _ _ _ _ _ _ hP hS hk hn (lv_sub hl [] rfl) hf
  refine lv_if_eq (tgt := 49) hx hb dX1_path_5 (by decide) (fun hc => ?_) (fun hc => ?_)
  · have hf := tw_ifT hc hf
    exact k49 _ _ _ _ _ _ _ _ hP hS hk hn (lv_sub hl [] rfl) hf
  · have hf := tw_ifF hc hf
    refine lv_iload_n hx hb dX1_path_8 rfl (lv_at hl 2 rfl) ?_
    refine lv_i2l hx hb dX1_path_9 rfl ?_
    refine lv_lconst (v := (0 : Int64)) hx hb dX1_path_10 (by decide) ?_
    refine lv_aload_n hx hb dX1_path_11 rfl (lv_at hl 0 rfl) ?_
    obtain ⟨x6, t7, e8, hf⟩ := gw_b0E hf
    refine gw_rget (ci := 0) (k := 4) (T := TX1) C hP rfl in_X1 (by decide) e8 q394 rfl dX1_path_12 (fun hP => ?_)
    obtain ⟨x9, t10, e11, hf⟩ := gw_b0E hf
    refine gw_rgetN (ci := 1) (k := 1) (T := TX2) C hP rfl in_X2 (by decide) e11 q154 rfl dX1_path_15 (fun hP => ?_)
    refine lv_iload_n hx hb dX1_path_18 rfl (lv_at hl 1 rfl) ?_
    obtain ⟨x12, t13, e14, hf⟩ := gw_b0E hf
    refine gw_aald C hP rfl e14 dX1_path_19 (fun hP => ?_)
    obtain ⟨x15, t16, e17, hf⟩ := gw_b0E hf
    refine gw_igetN (ci := 9) (k := 3) (T := TX10) C hP rfl in_X10 (by decide) e17 q782 rfl dX1_path_20 (fun hP => ?_)
    refine lv_iconst (v := (1 : Int32)) hx hb dX1_path_23 (by decide) ?_
    refine lv_isub hx hb dX1_path_24 ?_
    refine lv_i2l hx hb dX1_path_25 rfl ?_
    obtain ⟨x18, t19, e20, hf⟩ := gw_b0E hf
    refine gw_cSi (As := [.long (a2.toInt64), .long (0 : Int64), .long ((x15 - (1 : Int32)).toInt64)]) (rest := []) C hml hP hS (mx_X1_isIn (l := l) (K := K) hA _ _ _ _ _ _ e20) (va_cwS 3 hts (lw_S q457 q458 q101 q459) rfl rfl rfl hdX1_isIn ⟨Nat.le_of_ble_eq_true rfl, Nat.le_of_ble_eq_true rfl⟩) rfl hl.1 rfl (Nat.le_of_ble_eq_true rfl) (Nat.le.intro hk) (Nat.le.intro hn) dX1_path_26 (fun H locs hP hS => ?_)
    refine lv_if_eq (tgt := 49) hx hb dX1_path_29 (by decide) (fun hc => ?_) (fun hc => ?_)
    · have hf := tw_ifT hc hf
      exact k49 _ _ _ _ _ _ _ _ hP hS hk hn (lv_sub hl [] rfl) hf
    · have hf := tw_ifF hc hf
      refine lv_aload_n hx hb dX1_path_32 rfl (lv_at hl 0 rfl) ?_
      obtain ⟨x21, t22, e23, hf⟩ := gw_b0E hf
      refine gw_rget (ci := 0) (k := 4) (T := TX1) C hP rfl in_X1 (by decide) e23 q394 rfl dX1_path_33 (fun hP => ?_)
      obtain ⟨x24, t25, e26, hf⟩ := gw_b0E hf
      refine gw_rgetN (ci := 1) (k := 1) (T := TX2) C hP rfl in_X2 (by decide) e26 q154 rfl dX1_path_36 (fun hP => ?_)
      refine lv_iload_n hx hb dX1_path_39 rfl (lv_at hl 1 rfl) ?_
      obtain ⟨x27, t28, e29, hf⟩ := gw_b0E hf
      refine gw_aald C hP rfl e29 dX1_path_40 (fun hP => ?_)
      obtain ⟨x30, t31, e32, hf⟩ := gw_b0E hf
      refine gw_rgetN (ci := 9) (k := 2) (T := TX10) C hP rfl in_X10 (by decide) e32 q778 rfl dX1_path_41 (fun hP => ?_)
      refine lv_iload_n hx hb dX1_path_44 rfl (lv_at hl 2 rfl) ?_
      obtain ⟨x33, t34, e35, hf⟩ := gw_b0E hf
      refine gw_iald C hP e35 dX1_path_45 (fun hP => ?_)
      refine lv_goto (tgt := 50) hx hb dX1_path_46 (by decide) ?_
      exact k50 _ _ _ _ _ _ _ _ _ hP hS hk hn (lv_sub hl [] rfl) hf
def fx_X1_queue_J34  (w34_0 : Int32) : gM Int32 :=
  gw_rc w34_0
def fx_X1_queue_J33   : gM Int32 :=
  fx_X1_queue_J34 (-1 : Int32)
def fx_X1_queue (a0 : Nat) (a1 : Int32) (a2 : Int32) : gM Int32 :=
  gw_bc (gw_on 0 a0 (fx_X1_isLink a0 a1)) fun x1 =>
  if x1 = 0 then (fx_X1_queue_J33)
  else (gw_bc (gw_on 0 a0 (fx_X1_isFlow a0 a2)) fun x6 =>
  if x6 = 0 then (fx_X1_queue_J33)
  else (gw_b0 (gw_gr 0 11 a0) fun x9 =>
  gw_b0 (gw_gr 2 2 x9) fun x12 =>
  gw_b0 (gw_lr 6 x12 a1) fun x15 =>
  gw_b0 (gw_gr 3 0 x15) fun x18 =>
  gw_b0 (gw_ld 0 x18 a2) fun x21 =>
 
  fx_X1_queue_J34 x21))
theorem hdX1_queue : yX1_queue.cls = "LosslessFabric" ∧ (yX1_queue.cls ≠ "java/lang/invoke/MethodHandle" ∧ yX1_queue.cls ≠ "java/lang/invoke/VarHandle" ∧ (parseMethodDescriptor yX1_queue.desc).map (fun d => d.parameters.length) = some 2) := by decide +kernel
set_option maxHeartbeats 4000000 in
theorem mx_X1_queue {l : Launch} {K : GK} (hA : gw_A K) (a0 : Nat) (a1 : Int32) (a2 : Int32) (t0 tZ : Hp) (r : Int32) (C0 S0 : Nat) (hf : fx_X1_queue a0 a1 a2 t0 = some (r, tZ, C0, S0)) : Met l yX1_queue (ws_ yX1_queue cX1_queue 3 (some (.int))) ({ frames := 4, cells := C0, slots := S0, locals := 60 }) (va_Pc [.ref a0, .int a1, .int a2] (gw_W K t0)) (gw_Qi K r tZ) C0 S0 K.2.2.2.1 := by
  refine Met.ofW (cc := cX1_queue) (maxL := 3) (ret := some (.int)) (by decide) rfl ?_
  intro p e s m args below meth c s₁ B hml hv
  obtain ⟨rfl, hP, hK, hX, hN, hL⟩ := hv
  have hx := B.exec
  have hb := B.bytes
  have hr := B.returns
  have hts := atoms_spec (ws := (ws_ yX1_queue cX1_queue 3 (some (.int)))) B.pre
  have hts : ∀ w ∈ lw_all, w.before _ s = true := fun w h => hts w (List.mem_cons_of_mem _ h)
  have hown : s.vm.findClass "LosslessFabric" = some m.cls := findClass_of_methodNamed B.named
  have hlk := B.notSynchronized
  have C : gw_C K "LosslessFabric" p s m _ c cX1_queue := ⟨hx, hb, hts, hown, hK, hA, hX, hN, hL⟩
  have hk : 0 + C0 = C0 := Nat.zero_add _
  have hn : 0 + S0 = S0 := Nat.zero_add _
  have hS : va_S K.2.2.2.1 s.heap s.heap [] := va_S.rf
  have hl := lv_entry ([.ref a0, .int a1, .int a2]) (n := 3) (Nat.le_of_ble_eq_true rfl)
  rw [lg_entry_eq]
  generalize (lg_sl ([.ref a0, .int a1, .int a2]) ++ List.replicate (3 - (lg_sl ([.ref a0, .int a1, .int a2])).length) Slot.unset).toArray = ls at hl ⊢
  have hl : lv_has ls 3 [(0, .ref a0), (1, .int a1), (2, .int a2)] := hl
  unfold fx_X1_queue at hf
  refine lv_aload_n hx hb dX1_queue_0 rfl (lv_at hl 0 rfl) ?_
  refine lv_iload_n hx hb dX1_queue_1 rfl (lv_at hl 1 rfl) ?_
  obtain ⟨x1, t2, c2, s2, C2, S2, e3, hf, hk, hn⟩ := gw_bcE hf hk hn
  refine gw_cVi (As := [.int a1]) (rest := []) (ci := 0) (T := TX1) (N := 18) C hml hP hS rfl (gw_onE e3).1 (mx_X1_isLink (l := l) (K := K) hA _ _ _ _ _ _ _ (gw_onE e3).2) (cwV 1 hts (lw_V q968 q970 qs22 q101 q971) rfl rfl rfl hdX1_isLink ⟨Nat.le_of_ble_eq_true rfl, Nat.le_of_ble_eq_true rfl⟩) rfl hl.1 rfl (Nat.le_of_ble_eq_true rfl) (Nat.le.intro hk) (Nat.le.intro hn) dX1_queue_2 (fun H locs hP hS => ?_)
  have k34 : ∀ (w34_0 : Int32) (t4 : Hp) (k4 n4 C4 S4 : Nat) (H : Heap) (locs : List Loc) (ls : Array Slot), gw_P K t4 H → va_S K.2.2.2.1 s.heap H locs → k4 + C4 = C0 → n4 + S4 = S0 → lv_has ls 3 [] → fx_X1_queue_J34 w34_0 t4 = some (r, tZ, C4, S4) → W p l e (headSpec (ws_ yX1_queue cX1_queue 3 (some (.int))) ({ frames := 4, cells := C0, slots := S0, locals := 60 })).room s m ([.ref a0, .int a1, .int a2] : List Value).toArray below meth c H locs k4 n4 (MQ below (gw_Qi K r tZ) ([.ref a0, .int a1, .int a2] : List Value).toArray s C0 S0 K.2.2.2.1) (F0 m 34 ls [.int w34_0]) := by
    intro w34_0 t4 k4 n4 C4 S4 H locs ls hP hS hk hn hl hf
    unfold fx_X1_queue_J34 at hf
    obtain ⟨h1, h2, h3, h4⟩ := gw_rcE hf hk hn
    exact gw_ireti h1 h2 h3 h4 C hr hP hS hlk dX1_queue_34
  have k33 : ∀  (t5 : Hp) (k5 n5 C5 S5 : Nat) (H : Heap) (locs : List Loc) (ls : Array Slot), gw_P K t5 H → va_S K.2.2.2.1 s.heap H locs → k5 + C5 = C0 → n5 + S5 = S0 → lv_has ls 3 [] → fx_X1_queue_J33  t5 = some (r, tZ, C5, S5) → W p l e (headSpec (ws_ yX1_queue cX1_queue 3 (some (.int))) ({ frames := 4, cells := C0, slots := S0, locals := 60 })).room s m ([.ref a0, .int a1, .int a2] : List Value).toArray below meth c H locs k5 n5 (MQ below (gw_Qi K r tZ) ([.ref a0, .int a1, .int a2] : List Value).toArray s C0 S0 K.2.2.2.1) (F0 m 33 ls []) := by
    intro t5 k5 n5 C5 S5 H locs ls hP hS hk hn hl hf
    unfold fx_X1_queue_J33 at hf
    refine lv_iconst (v := (-1 : Int32)) hx hb dX1_queue_33 (by decide) ?_
    exact k34 _ _ _ _ _ _ _ _ _ hP hS hk hn (lv_sub hl [] rfl) hf
  refine lv_if_eq (tgt := 33) hx hb dX1_queue_5 (by decide) (fun hc => ?_) (fun hc => ?_)
  · have hf := tw_ifT hc hf
    exact k33 _ _ _ _ _ _ _ _ hP hS hk hn (lv_sub hl [] rfl) hf
  · have hf := tw_ifF hc hf
    refine lv_aload_n hx hb dX1_queue_8 rfl (lv_at hl 0 rfl) ?_
    refine lv_iload_n hx hb dX1_queue_9 rfl (lv_at hl 2 rfl) ?_
    obtain ⟨x6, t7, c7, s7, C7, S7, e8, hf, hk, hn⟩ := gw_bcE hf hk hn
    refine gw_cVi (As := [.int a2]) (rest := []) (ci := 0) (T := TX1) (N := 18) C hml hP hS rfl (gw_onE e8).1 (mx_X1_isFlow (l := l) (K := K) hA _ _ _ _ _ _ _ (gw_onE e8).2) (cwV 1 hts (lw_V q952 q954 qs21 q101 q955) rfl rfl rfl hdX1_isFlow ⟨Nat.le_of_ble_eq_true rfl, Nat.le_of_ble_eq_true rfl⟩) rfl hl.1 rfl (Nat.le_of_ble_eq_true rfl) (Nat.le.intro hk) (Nat.le.intro hn) dX1_queue_10 (fun H locs hP hS => ?_)
    refine lv_if_eq (tgt := 33) hx hb dX1_queue_13 (by decide) (fun hc => ?_) (fun hc => ?_)
    · have hf := tw_ifT hc hf
      exact k33 _ _ _ _ _ _ _ _ hP hS hk hn (lv_sub hl [] rfl) hf
    · have hf := tw_ifF hc hf
      refine lv_aload_n hx hb dX1_queue_16 rfl (lv_at hl 0 rfl) ?_
      obtain ⟨x9, t10, e11, hf⟩ := gw_b0E hf
      refine gw_rget (ci := 0) (k := 11) (T := TX1) C hP rfl in_X1 (by decide) e11 q404 rfl dX1_queue_17 (fun hP => ?_)
      obtain ⟨x12, t13, e14, hf⟩ := gw_b0E hf
      refine gw_rgetN (ci := 2) (k := 2) (T := TX3) C hP rfl in_X3 (by decide) e14 q355 rfl dX1_queue_20 (fun hP => ?_)
      refine lv_iload_n hx hb dX1_queue_23 rfl (lv_at hl 1 rfl) ?_
      obtain ⟨x15, t16, e17, hf⟩ := gw_b0E hf
      refine gw_aald C hP rfl e17 dX1_queue_24 (fun hP => ?_)
      obtain ⟨x18, t19, e20, hf⟩ := gw_b0E hf
      refine gw_rgetN (ci := 3) (k := 0) (T := TX4) C hP rfl in_X4 (by decide) e20 q240 rfl dX1_queue_25 (fun hP => ?_)
      refine lv_iload_n hx hb dX1_queue_28 rfl (lv_at hl 2 rfl) ?_
      obtain ⟨x21, t22, e23, hf⟩ := gw_b0E hf
      refine gw_iald C hP e23 dX1_queue_29 (fun hP => ?_)
      refine lv_goto (tgt := 34) hx hb dX1_queue_30 (by decide) ?_
      exact k34 _ _ _ _ _ _ _ _ _ hP hS hk hn (lv_sub hl [] rfl) hf