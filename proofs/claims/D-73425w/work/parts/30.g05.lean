def fx_X3_waitsBy_J46 (sf2 : Int32 → HM Int32) (v2_3 : Int32)  : HM Int32 :=
  sf2 (v2_3 + (1 : Int32))
def fx_X3_waitsBy_L2 (a0 : Nat) (a1 : Int32) (a2 : Int32) (sf2 : Int32 → HM Int32) (v2_3 : Int32) : HM Int32 :=
  tw_bd (gw_gr 2 0 a0) fun x2 =>
  tw_bd (gw_gi 1 3 x2) fun x5 =>
  if x5 ≤ v2_3 then (tw_rt (-1 : Int32))
  else (tw_bd (gw_gr 2 2 a0) fun x8 =>
  tw_bd (gw_lr 6 x8 a1) fun x11 =>
  tw_bd (gw_gr 3 0 x11) fun x14 =>
  tw_bd (gw_ld 0 x14 v2_3) fun x17 =>
  if x17 ≤ 0 then (fx_X3_waitsBy_J46 sf2 v2_3)
  else (tw_bd (gw_gr 2 0 a0) fun x21 =>
  tw_bd (gw_gr 1 1 x21) fun x24 =>
  tw_bd (gw_lr 5 x24 v2_3) fun x27 =>
  tw_bd (gw_on 9 x27 (fx_X10_next x27 a1)) fun x30 =>
  if x30 = a2 then (tw_rt v2_3)
  else (fx_X3_waitsBy_J46 sf2 v2_3)))
def fx_X3_waitsBy (a0 : Nat) (a1 : Int32) (a2 : Int32) : HM Int32 :=
  tw_lp (fx_X3_waitsBy_L2 a0 a1 a2) (fun _ _ => none) tw_fu (0 : Int32)
theorem hdX3_waitsBy : yX3_waitsBy.cls = "LosslessFabric$State" ∧ (yX3_waitsBy.cls ≠ "java/lang/invoke/MethodHandle" ∧ yX3_waitsBy.cls ≠ "java/lang/invoke/VarHandle" ∧ (parseMethodDescriptor yX3_waitsBy.desc).map (fun d => d.parameters.length) = some 2) := by decide +kernel
set_option maxHeartbeats 4000000 in
theorem mx_X3_waitsBy {l : Launch} {K : GK} (hA : gw_A K) (a0 : Nat) (a1 : Int32) (a2 : Int32) (t0 tZ : Hp) (r : Int32) (hf : fx_X3_waitsBy a0 a1 a2 t0 = some (r, tZ)) : Met l yX3_waitsBy (ws_ yX3_waitsBy cX3_waitsBy 4 (some (.int))) ({ frames := 4, cells := 0, slots := 0, locals := 56 }) (va_Pc [.ref a0, .int a1, .int a2] (gw_W K t0)) (gw_Qi K r tZ) 0 0 K.2.2.2.1 := by
  refine Met.ofW (cc := cX3_waitsBy) (maxL := 4) (ret := some (.int)) (by decide) rfl ?_
  intro p e s m args below meth c s₁ B hml hv
  obtain ⟨rfl, hP, hK, hX, hN, hL⟩ := hv
  have hx := B.exec
  have hb := B.bytes
  have hr := B.returns
  have hts := atoms_spec (ws := (ws_ yX3_waitsBy cX3_waitsBy 4 (some (.int)))) B.pre
  have hts : ∀ w ∈ lw_all, w.before _ s = true := fun w h => hts w (List.mem_cons_of_mem _ h)
  have hown : s.vm.findClass "LosslessFabric$State" = some m.cls := findClass_of_methodNamed B.named
  have hlk := B.notSynchronized
  have C : gw_C K "LosslessFabric$State" p s m _ c cX3_waitsBy := ⟨hx, hb, hts, hown, hK, hA, hX, hN, hL⟩
  have hS : va_S K.2.2.2.1 s.heap s.heap [] := va_S.rf
  have hl := lv_entry ([.ref a0, .int a1, .int a2]) (n := 4) (Nat.le_of_ble_eq_true rfl)
  rw [lg_entry_eq]
  generalize (lg_sl ([.ref a0, .int a1, .int a2]) ++ List.replicate (4 - (lg_sl ([.ref a0, .int a1, .int a2])).length) Slot.unset).toArray = ls at hl ⊢
  have hl : lv_has ls 4 [(0, .ref a0), (1, .int a1), (2, .int a2)] := hl
  unfold fx_X3_waitsBy at hf
  refine lv_iconst (v := (0 : Int32)) hx hb dX3_waitsBy_0 (by decide) ?_
  refine lv_istore_n (lv' := [(3, .int (0 : Int32)), (0, .ref a0), (1, .int a1), (2, .int a2)]) hx hb dX3_waitsBy_1 rfl hl (by decide) rfl (fun ls hl => ?_)
  have k2 : ∀ (n : Nat) (v2_3 : Int32) (t1 : Hp) (H : Heap) (locs : List Loc) (ls : Array Slot), gw_P K t1 H → va_S K.2.2.2.1 s.heap H locs → lv_has ls 4 [(0, .ref a0), (1, .int a1), (2, .int a2), (3, .int v2_3)] → tw_lp (fx_X3_waitsBy_L2 a0 a1 a2) (fun _ _ => none) n v2_3 t1 = some (r, tZ) → W p l e (headSpec (ws_ yX3_waitsBy cX3_waitsBy 4 (some (.int))) ({ frames := 4, cells := 0, slots := 0, locals := 56 })).room s m ([.ref a0, .int a1, .int a2] : List Value).toArray below meth c H locs 0 0 (MQ below (gw_Qi K r tZ) ([.ref a0, .int a1, .int a2] : List Value).toArray s 0 0 K.2.2.2.1) (F0 m 2 ls []) := by
    intro n
    induction n with
    | zero => intro v2_3 t1 H locs ls hP hS hl hf; exact (tw_no hf).elim
    | succ n ih2 =>
      intro v2_3 t1 H locs ls hP hS hl hf
      obtain ⟨sf2, hs2⟩ : ∃ f, f = tw_lp (fx_X3_waitsBy_L2 a0 a1 a2) (fun _ _ => none) n := ⟨_, rfl⟩
      rw [← hs2] at ih2
      have hf : fx_X3_waitsBy_L2 a0 a1 a2 sf2 v2_3 t1 = some (r, tZ) := by rw [hs2]; exact hf
      clear hs2
      unfold fx_X3_waitsBy_L2 at hf
      refine lv_iload_n hx hb dX3_waitsBy_2 rfl (lv_at hl 3 rfl) ?_
      refine lv_aload_n hx hb dX3_waitsBy_3 rfl (lv_at hl 0 rfl) ?_
      obtain ⟨x2, t3, e4, hf⟩ := tw_bdE hf
      refine gw_rget (ci := 2) (k := 0) (T := TX3) C hP rfl in_X3 (by decide) e4 q351 rfl dX3_waitsBy_4 (fun hP => ?_)
      obtain ⟨x5, t6, e7, hf⟩ := tw_bdE hf
      refine gw_igetN (ci := 1) (k := 3) (T := TX2) C hP rfl in_X2 (by decide) e7 q163 rfl dX3_waitsBy_7 (fun hP => ?_)
      refine lv_icmp_ge (tgt := 52) hx hb dX3_waitsBy_10 (by decide) (fun hc => ?_) (fun hc => ?_)
      · have hf := tw_ifT hc hf
        refine lv_iconst (v := (-1 : Int32)) hx hb dX3_waitsBy_52 (by decide) ?_
        exact gw_ireti (tw_rtE hf).1 (tw_rtE hf).2 rfl rfl C hr hP hS hlk dX3_waitsBy_53
      · have hf := tw_ifF hc hf
        refine lv_aload_n hx hb dX3_waitsBy_13 rfl (lv_at hl 0 rfl) ?_
        obtain ⟨x8, t9, e10, hf⟩ := tw_bdE hf
        refine gw_rget (ci := 2) (k := 2) (T := TX3) C hP rfl in_X3 (by decide) e10 q354 rfl dX3_waitsBy_14 (fun hP => ?_)
        refine lv_iload_n hx hb dX3_waitsBy_17 rfl (lv_at hl 1 rfl) ?_
        obtain ⟨x11, t12, e13, hf⟩ := tw_bdE hf
        refine gw_aald C hP rfl e13 dX3_waitsBy_18 (fun hP => ?_)
        obtain ⟨x14, t15, e16, hf⟩ := tw_bdE hf
        refine gw_rgetN (ci := 3) (k := 0) (T := TX4) C hP rfl in_X4 (by decide) e16 q239 rfl dX3_waitsBy_19 (fun hP => ?_)
        refine lv_iload_n hx hb dX3_waitsBy_22 rfl (lv_at hl 3 rfl) ?_
        obtain ⟨x17, t18, e19, hf⟩ := tw_bdE hf
        refine gw_iald C hP e19 dX3_waitsBy_23 (fun hP => ?_)
        have k46 : ∀  (t20 : Hp) (H : Heap) (locs : List Loc) (ls : Array Slot), gw_P K t20 H → va_S K.2.2.2.1 s.heap H locs → lv_has ls 4 [(0, .ref a0), (1, .int a1), (2, .int a2), (3, .int v2_3)] → fx_X3_waitsBy_J46 sf2 v2_3  t20 = some (r, tZ) → W p l e (headSpec (ws_ yX3_waitsBy cX3_waitsBy 4 (some (.int))) ({ frames := 4, cells := 0, slots := 0, locals := 56 })).room s m ([.ref a0, .int a1, .int a2] : List Value).toArray below meth c H locs 0 0 (MQ below (gw_Qi K r tZ) ([.ref a0, .int a1, .int a2] : List Value).toArray s 0 0 K.2.2.2.1) (F0 m 46 ls []) := by
          intro t20 H locs ls hP hS hl hf
          unfold fx_X3_waitsBy_J46 at hf
          refine lv_iinc (v := (v2_3 + (1 : Int32))) (lv' := [(3, .int (v2_3 + (1 : Int32))), (0, .ref a0), (1, .int a1), (2, .int a2)]) hx hb dX3_waitsBy_46 hl (k := 3) rfl rfl (by decide) rfl (fun ls hl => ?_)
          refine lv_goto (tgt := 2) hx hb dX3_waitsBy_49 (by decide) ?_
          exact ih2 _ _ _ _ _ hP hS (lv_sub hl [1, 2, 3, 0] rfl) hf
        refine lv_if_le (tgt := 46) hx hb dX3_waitsBy_24 (by decide) (fun hc => ?_) (fun hc => ?_)
        · have hf := tw_ifT hc hf
          exact k46 _ _ _ _ hP hS (lv_sub hl [0, 1, 2, 3] rfl) hf
        · have hf := tw_ifF hc hf
          refine lv_aload_n hx hb dX3_waitsBy_27 rfl (lv_at hl 0 rfl) ?_
          obtain ⟨x21, t22, e23, hf⟩ := tw_bdE hf
          refine gw_rget (ci := 2) (k := 0) (T := TX3) C hP rfl in_X3 (by decide) e23 q351 rfl dX3_waitsBy_28 (fun hP => ?_)
          obtain ⟨x24, t25, e26, hf⟩ := tw_bdE hf
          refine gw_rgetN (ci := 1) (k := 1) (T := TX2) C hP rfl in_X2 (by decide) e26 q153 rfl dX3_waitsBy_31 (fun hP => ?_)
          refine lv_iload_n hx hb dX3_waitsBy_34 rfl (lv_at hl 3 rfl) ?_
          obtain ⟨x27, t28, e29, hf⟩ := tw_bdE hf
          refine gw_aald C hP rfl e29 dX3_waitsBy_35 (fun hP => ?_)
          refine lv_iload_n hx hb dX3_waitsBy_36 rfl (lv_at hl 1 rfl) ?_
          obtain ⟨x30, t31, e32, hf⟩ := tw_bdE hf
          refine gw_cVi (As := [.int a1]) (rest := []) (ci := 9) (T := TX10) (N := 5) C hml hP hS rfl (gw_onE e32).1 (mx_X10_next (l := l) (K := K) hA _ _ _ _ _ (gw_onE e32).2) (cwV 1 hts (lw_V q1033 q1034 q1035 q118 q1036) rfl rfl rfl hdX10_next ⟨Nat.le_of_ble_eq_true rfl, Nat.le_of_ble_eq_true rfl⟩) rfl hl.1 rfl (Nat.le_of_ble_eq_true rfl) (Nat.zero_le _) (Nat.zero_le _) dX3_waitsBy_37 (fun H locs hP hS => ?_)
          refine lv_iload_n hx hb dX3_waitsBy_40 rfl (lv_at hl 2 rfl) ?_
          refine lv_icmp_ne (tgt := 46) hx hb dX3_waitsBy_41 (by decide) (fun hc => ?_) (fun hc => ?_)
          · have hf := tw_ifF hc hf
            exact k46 _ _ _ _ hP hS (lv_sub hl [0, 1, 2, 3] rfl) hf
          · have hf := tw_ifT hc hf
            refine lv_iload_n hx hb dX3_waitsBy_44 rfl (lv_at hl 3 rfl) ?_
            exact gw_ireti (tw_rtE hf).1 (tw_rtE hf).2 rfl rfl C hr hP hS hlk dX3_waitsBy_45
  exact k2 _ _ _ _ _ _ hP hS (lv_sub hl [1, 2, 3, 0] rfl) hf
def fx_X4_asksPause_J15  (w15_0 : Int32) : HM Int32 :=
  tw_rz w15_0
def fx_X4_asksPause (a0 : Nat) : HM Int32 :=
  tw_bd (gw_gi 3 4 a0) fun x1 =>
  if (x1 &&& (1 : Int32)) = (1 : Int32) then (fx_X4_asksPause_J15 (1 : Int32))
  else (fx_X4_asksPause_J15 (0 : Int32))
theorem hdX4_asksPause : yX4_asksPause.cls = "LosslessFabric$End" ∧ (yX4_asksPause.cls ≠ "java/lang/invoke/MethodHandle" ∧ yX4_asksPause.cls ≠ "java/lang/invoke/VarHandle" ∧ (parseMethodDescriptor yX4_asksPause.desc).map (fun d => d.parameters.length) = some 0) := by decide +kernel
set_option maxHeartbeats 4000000 in
theorem mx_X4_asksPause {l : Launch} {K : GK} (hA : gw_A K) (a0 : Nat) (t0 tZ : Hp) (r : Int32) (hf : fx_X4_asksPause a0 t0 = some (r, tZ)) : Met l yX4_asksPause (ws_ yX4_asksPause cX4_asksPause 1 (some (.boolean))) ({ frames := 2, cells := 0, slots := 0, locals := 12 }) (va_Pc [.ref a0] (gw_W K t0)) (gw_Qi K r tZ) 0 0 K.2.2.2.1 := by
  refine Met.ofW (cc := cX4_asksPause) (maxL := 1) (ret := some (.boolean)) (by decide) rfl ?_
  intro p e s m args below meth c s₁ B hml hv
  obtain ⟨rfl, hP, hK, hX, hN, hL⟩ := hv
  have hx := B.exec
  have hb := B.bytes
  have hr := B.returns
  have hts := atoms_spec (ws := (ws_ yX4_asksPause cX4_asksPause 1 (some (.boolean)))) B.pre
  have hts : ∀ w ∈ lw_all, w.before _ s = true := fun w h => hts w (List.mem_cons_of_mem _ h)
  have hown : s.vm.findClass "LosslessFabric$End" = some m.cls := findClass_of_methodNamed B.named
  have hlk := B.notSynchronized
  have C : gw_C K "LosslessFabric$End" p s m _ c cX4_asksPause := ⟨hx, hb, hts, hown, hK, hA, hX, hN, hL⟩
  have hS : va_S K.2.2.2.1 s.heap s.heap [] := va_S.rf
  have hl := lv_entry ([.ref a0]) (n := 1) (Nat.le_of_ble_eq_true rfl)
  rw [lg_entry_eq]
  generalize (lg_sl ([.ref a0]) ++ List.replicate (1 - (lg_sl ([.ref a0])).length) Slot.unset).toArray = ls at hl ⊢
  have hl : lv_has ls 1 [(0, .ref a0)] := hl
  unfold fx_X4_asksPause at hf
  refine lv_aload_n hx hb dX4_asksPause_0 rfl (lv_at hl 0 rfl) ?_
  obtain ⟨x1, t2, e3, hf⟩ := tw_bdE hf
  refine gw_iget (ci := 3) (k := 4) (T := TX4) C hP rfl in_X4 (by decide) e3 q247 rfl dX4_asksPause_1 (fun hP => ?_)
  refine lv_iconst (v := (1 : Int32)) hx hb dX4_asksPause_4 (by decide) ?_
  refine lv_iand hx hb dX4_asksPause_5 ?_
  refine lv_iconst (v := (1 : Int32)) hx hb dX4_asksPause_6 (by decide) ?_
  have k15 : ∀ (w15_0 : Int32) (t4 : Hp) (H : Heap) (locs : List Loc) (ls : Array Slot), gw_P K t4 H → va_S K.2.2.2.1 s.heap H locs → lv_has ls 1 [] → fx_X4_asksPause_J15 w15_0 t4 = some (r, tZ) → W p l e (headSpec (ws_ yX4_asksPause cX4_asksPause 1 (some (.boolean))) ({ frames := 2, cells := 0, slots := 0, locals := 12 })).room s m ([.ref a0] : List Value).toArray below meth c H locs 0 0 (MQ below (gw_Qi K r tZ) ([.ref a0] : List Value).toArray s 0 0 K.2.2.2.1) (F0 m 15 ls [.int w15_0]) := by
    intro w15_0 t4 H locs ls hP hS hl hf
    unfold fx_X4_asksPause_J15 at hf
    obtain ⟨h0, h1, h2⟩ := tw_rzE hf
    exact gw_iretz h0 h1 h2 rfl rfl C hr hP hS hlk dX4_asksPause_15
  refine lv_icmp_ne (tgt := 14) hx hb dX4_asksPause_7 (by decide) (fun hc => ?_) (fun hc => ?_)
  · have hf := tw_ifF hc hf
    refine lv_iconst (v := (0 : Int32)) hx hb dX4_asksPause_14 (by decide) ?_
    exact k15 _ _ _ _ _ hP hS (lv_sub hl [] rfl) hf
  · have hf := tw_ifT hc hf
    refine lv_iconst (v := (1 : Int32)) hx hb dX4_asksPause_10 (by decide) ?_
    refine lv_goto (tgt := 15) hx hb dX4_asksPause_11 (by decide) ?_
    exact k15 _ _ _ _ _ hP hS (lv_sub hl [] rfl) hf
def fx_X3_waits_J24   : HM Int32 :=
  tw_rz (0 : Int32)
def fx_X3_waits_J40  (w40_0 : Int32) : HM Int32 :=
  tw_rz w40_0
def fx_X3_waits (a0 : Nat) (a1 : Int32) (a2 : Int32) : HM Int32 :=
  tw_bd (gw_gr 2 2 a0) fun x1 =>
  tw_bd (gw_lr 6 x1 a1) fun x4 =>
  tw_bd (gw_on 3 x4 (fx_X4_asksPause x4)) fun x7 =>
  if x7 = 0 then (fx_X3_waits_J24)
  else (tw_bd (gw_gr 2 2 a0) fun x11 =>
  tw_bd (gw_lr 6 x11 a2) fun x14 =>
  tw_bd (gw_on 3 x14 (fx_X4_asksPause x14)) fun x17 =>
  if x17 = 0 then (fx_X3_waits_J24)
  else (tw_bd (gw_on 2 a0 (fx_X3_waitsBy a0 a1 a2)) fun x20 =>
  if x20 < 0 then (fx_X3_waits_J40 (0 : Int32))
  else (fx_X3_waits_J40 (1 : Int32))))
theorem hdX3_waits : yX3_waits.cls = "LosslessFabric$State" ∧ (yX3_waits.cls ≠ "java/lang/invoke/MethodHandle" ∧ yX3_waits.cls ≠ "java/lang/invoke/VarHandle" ∧ (parseMethodDescriptor yX3_waits.desc).map (fun d => d.parameters.length) = some 2) := by decide +kernel
set_option maxHeartbeats 4000000 in
theorem mx_X3_waits {l : Launch} {K : GK} (hA : gw_A K) (a0 : Nat) (a1 : Int32) (a2 : Int32) (t0 tZ : Hp) (r : Int32) (hf : fx_X3_waits a0 a1 a2 t0 = some (r, tZ)) : Met l yX3_waits (ws_ yX3_waits cX3_waits 3 (some (.boolean))) ({ frames := 5, cells := 0, slots := 0, locals := 79 }) (va_Pc [.ref a0, .int a1, .int a2] (gw_W K t0)) (gw_Qi K r tZ) 0 0 K.2.2.2.1 := by
  refine Met.ofW (cc := cX3_waits) (maxL := 3) (ret := some (.boolean)) (by decide) rfl ?_
  intro p e s m args below meth c s₁ B hml hv
  obtain ⟨rfl, hP, hK, hX, hN, hL⟩ := hv
  have hx := B.exec
  have hb := B.bytes
  have hr := B.returns
  have hts := atoms_spec (ws := (ws_ yX3_waits cX3_waits 3 (some (.boolean)))) B.pre
  have hts : ∀ w ∈ lw_all, w.before _ s = true := fun w h => hts w (List.mem_cons_of_mem _ h)
  have hown : s.vm.findClass "LosslessFabric$State" = some m.cls := findClass_of_methodNamed B.named
  have hlk := B.notSynchronized
  have C : gw_C K "LosslessFabric$State" p s m _ c cX3_waits := ⟨hx, hb, hts, hown, hK, hA, hX, hN, hL⟩
  have hS : va_S K.2.2.2.1 s.heap s.heap [] := va_S.rf
  have hl := lv_entry ([.ref a0, .int a1, .int a2]) (n := 3) (Nat.le_of_ble_eq_true rfl)
  rw [lg_entry_eq]
  generalize (lg_sl ([.ref a0, .int a1, .int a2]) ++ List.replicate (3 - (lg_sl ([.ref a0, .int a1, .int a2])).length) Slot.unset).toArray = ls at hl ⊢
  have hl : lv_has ls 3 [(0, .ref a0), (1, .int a1), (2, .int a2)] := hl
  unfold fx_X3_waits at hf
  refine lv_aload_n hx hb dX3_waits_0 rfl (lv_at hl 0 rfl) ?_
  obtain ⟨x1, t2, e3, hf⟩ := tw_bdE hf
  refine gw_rget (ci := 2) (k := 2) (T := TX3) C hP rfl in_X3 (by decide) e3 q354 rfl dX3_waits_1 (fun hP => ?_)
  refine lv_iload_n hx hb dX3_waits_4 rfl (lv_at hl 1 rfl) ?_
  obtain ⟨x4, t5, e6, hf⟩ := tw_bdE hf
  refine gw_aald C hP rfl e6 dX3_waits_5 (fun hP => ?_)
  obtain ⟨x7, t8, e9, hf⟩ := tw_bdE hf
  refine gw_cVi (As := []) (rest := []) (ci := 3) (T := TX4) (N := 12) C hml hP hS rfl (gw_onE e9).1 (mx_X4_asksPause (l := l) (K := K) hA _ _ _ _ (gw_onE e9).2) (cwV 0 hts (lw_V q1025 q1026 q1027 q104 q1028) rfl rfl rfl hdX4_asksPause ⟨Nat.le_of_ble_eq_true rfl, Nat.le_of_ble_eq_true rfl⟩) rfl hl.1 rfl (Nat.le_of_ble_eq_true rfl) (Nat.zero_le _) (Nat.zero_le _) dX3_waits_6 (fun H locs hP hS => ?_)
  have k24 : ∀  (t10 : Hp) (H : Heap) (locs : List Loc) (ls : Array Slot), gw_P K t10 H → va_S K.2.2.2.1 s.heap H locs → lv_has ls 3 [] → fx_X3_waits_J24  t10 = some (r, tZ) → W p l e (headSpec (ws_ yX3_waits cX3_waits 3 (some (.boolean))) ({ frames := 5, cells := 0, slots := 0, locals := 79 })).room s m ([.ref a0, .int a1, .int a2] : List Value).toArray below meth c H locs 0 0 (MQ below (gw_Qi K r tZ) ([.ref a0, .int a1, .int a2] : List Value).toArray s 0 0 K.2.2.2.1) (F0 m 24 ls []) := by
    intro t10 H locs ls hP hS hl hf
    unfold fx_X3_waits_J24 at hf
    refine lv_iconst (v := (0 : Int32)) hx hb dX3_waits_24 (by decide) ?_
    obtain ⟨h0, h1, h2⟩ := tw_rzE hf
    exact gw_iretz h0 h1 h2 rfl rfl C hr hP hS hlk dX3_waits_25
  refine lv_if_eq (tgt := 24) hx hb dX3_waits_9 (by decide) (fun hc => ?_) (fun hc => ?_)
  · have hf := tw_ifT hc hf
    exact k24 _ _ _ _ hP hS (lv_sub hl [] rfl) hf
  · have hf := tw_ifF hc hf
    refine lv_aload_n hx hb dX3_waits_12 rfl (lv_at hl 0 rfl) ?_
    obtain ⟨x11, t12, e13, hf⟩ := tw_bdE hf
    refine gw_rget (ci := 2) (k := 2) (T := TX3) C hP rfl in_X3 (by decide) e13 q354 rfl dX3_waits_13 (fun hP => ?_)
    refine lv_iload_n hx hb dX3_waits_16 rfl (lv_at hl 2 rfl) ?_
    obtain ⟨x14, t15, e16, hf⟩ := tw_bdE hf
    refine gw_aald C hP rfl e16 dX3_waits_17 (fun hP => ?_)
    obtain ⟨x17, t18, e19, hf⟩ := tw_bdE hf
    refine gw_cVi (As := []) (rest := []) (ci := 3) (T := TX4) (N := 12) C hml hP hS rfl (gw_onE e19).1 (mx_X4_asksPause (l := l) (K := K) hA _ _ _ _ (gw_onE e19).2) (cwV 0 hts (lw_V q1025 q1026 q1027 q104 q1028) rfl rfl rfl hdX4_asksPause ⟨Nat.le_of_ble_eq_true rfl, Nat.le_of_ble_eq_true rfl⟩) rfl hl.1 rfl (Nat.le_of_ble_eq_true rfl) (Nat.zero_le _) (Nat.zero_le _) dX3_waits_18 (fun H locs hP hS => ?_)
    refine lv_if_ne (tgt := 26) hx hb dX3_waits_21 (by decide) (fun hc => ?_) (fun hc => ?_)
    · have hf := tw_ifF hc hf
      refine lv_aload_n hx hb dX3_waits_26 rfl (lv_at hl 0 rfl) ?_
      refine lv_iload_n hx hb dX3_waits_27 rfl (lv_at hl 1 rfl) ?_
      refine lv_iload_n hx hb dX3_waits_28 rfl (lv_at hl 2 rfl) ?_
      obtain ⟨x20, t21, e22, hf⟩ := tw_bdE hf
      refine gw_cVi (As := [.int a1, .int a2]) (rest := []) (ci := 2) (T := TX3) (N := 4) C hml hP hS rfl (gw_onE e22).1 (mx_X3_waitsBy (l := l) (K := K) hA _ _ _ _ _ _ (gw_onE e22).2) (cwV 2 hts (lw_V q1029 q1030 q1031 q103 q1032) rfl rfl rfl hdX3_waitsBy ⟨Nat.le_of_ble_eq_true rfl, Nat.le_of_ble_eq_true rfl⟩) rfl hl.1 rfl (Nat.le_of_ble_eq_true rfl) (Nat.zero_le _) (Nat.zero_le _) dX3_waits_29 (fun H locs hP hS => ?_)
      have k40 : ∀ (w40_0 : Int32) (t23 : Hp) (H : Heap) (locs : List Loc) (ls : Array Slot), gw_P K t23 H → va_S K.2.2.2.1 s.heap H locs → lv_has ls 3 [] → fx_X3_waits_J40 w40_0 t23 = some (r, tZ) → W p l e (headSpec (ws_ yX3_waits cX3_waits 3 (some (.boolean))) ({ frames := 5, cells := 0, slots := 0, locals := 79 })).room s m ([.ref a0, .int a1, .int a2] : List Value).toArray below meth c H locs 0 0 (MQ below (gw_Qi K r tZ) ([.ref a0, .int a1, .int a2] : List Value).toArray s 0 0 K.2.2.2.1) (F0 m 40 ls [.int w40_0]) := by
        intro w40_0 t23 H locs ls hP hS hl hf
        unfold fx_X3_waits_J40 at hf
        obtain ⟨h0, h1, h2⟩ := tw_rzE hf
        exact gw_iretz h0 h1 h2 rfl rfl C hr hP hS hlk dX3_waits_40
      refine lv_if_lt (tgt := 39) hx hb dX3_waits_32 (by decide) (fun hc => ?_) (fun hc => ?_)
      · have hf := tw_ifT hc hf
        refine lv_iconst (v := (0 : Int32)) hx hb dX3_waits_39 (by decide) ?_
        exact k40 _ _ _ _ _ hP hS (lv_sub hl [] rfl) hf
      · have hf := tw_ifF hc hf
        refine lv_iconst (v := (1 : Int32)) hx hb dX3_waits_35 (by decide) ?_
        refine lv_goto (tgt := 40) hx hb dX3_waits_36 (by decide) ?_
        exact k40 _ _ _ _ _ hP hS (lv_sub hl [] rfl) hf
    · have hf := tw_ifT hc hf
      exact k24 _ _ _ _ hP hS (lv_sub hl [] rfl) hf
def fx_X1_lambda_paused_2 (a0 : Nat) (a1 : Int32) (a2 : Int32) : HM Int32 :=
  tw_bd (gw_on 2 a0 (fx_X3_waits a0 a1 a2)) fun x1 =>
  tw_rz x1
theorem hdX1_lambda_paused_2 : (yX1_lambda_paused_2.cls ≠ "java/lang/invoke/MethodHandle" ∧ yX1_lambda_paused_2.cls ≠ "java/lang/invoke/VarHandle" ∧ (parseMethodDescriptor yX1_lambda_paused_2.desc).map (fun d => d.parameters.length) = some 3) := by decide +kernel
set_option maxHeartbeats 4000000 in
theorem mx_X1_lambda_paused_2 {l : Launch} {K : GK} (hA : gw_A K) (a0 : Nat) (a1 : Int32) (a2 : Int32) (t0 tZ : Hp) (r : Int32) (hf : fx_X1_lambda_paused_2 a0 a1 a2 t0 = some (r, tZ)) : Met l yX1_lambda_paused_2 (ws_ yX1_lambda_paused_2 cX1_lambda_paused_2 3 (some (.boolean))) ({ frames := 6, cells := 0, slots := 0, locals := 101 }) (va_Pc [.ref a0, .int a1, .int a2] (gw_W K t0)) (gw_Qi K r tZ) 0 0 K.2.2.2.1 := by
  refine Met.ofW (cc := cX1_lambda_paused_2) (maxL := 3) (ret := some (.boolean)) (by decide) rfl ?_
  intro p e s m args below meth c s₁ B hml hv
  obtain ⟨rfl, hP, hK, hX, hN, hL⟩ := hv
  have hx := B.exec
  have hb := B.bytes
  have hr := B.returns
  have hts := atoms_spec (ws := (ws_ yX1_lambda_paused_2 cX1_lambda_paused_2 3 (some (.boolean)))) B.pre
  have hts : ∀ w ∈ lw_all, w.before _ s = true := fun w h => hts w (List.mem_cons_of_mem _ h)
  have hown : s.vm.findClass "LosslessFabric" = some m.cls := findClass_of_methodNamed B.named
  have hlk := B.notSynchronized
  have C : gw_C K "LosslessFabric" p s m _ c cX1_lambda_paused_2 := ⟨hx, hb, hts, hown, hK, hA, hX, hN, hL⟩
  have hS : va_S K.2.2.2.1 s.heap s.heap [] := va_S.rf
  have hl := lv_entry ([.ref a0, .int a1, .int a2]) (n := 3) (Nat.le_of_ble_eq_true rfl)
  rw [lg_entry_eq]
  generalize (lg_sl ([.ref a0, .int a1, .int a2]) ++ List.replicate (3 - (lg_sl ([.ref a0, .int a1, .int a2])).length) Slot.unset).toArray = ls at hl ⊢
  have hl : lv_has ls 3 [(0, .ref a0), (1, .int a1), (2, .int a2)] := hl
  unfold fx_X1_lambda_paused_2 at hf
  refine lv_aload_n hx hb dX1_lambda_paused_2_0 rfl (lv_at hl 0 rfl) ?_
  refine lv_iload_n hx hb dX1_lambda_paused_2_1 rfl (lv_at hl 1 rfl) ?_
  refine lv_iload_n hx hb dX1_lambda_paused_2_2 rfl (lv_at hl 2 rfl) ?_
  obtain ⟨x1, t2, e3, hf⟩ := tw_bdE hf
  refine gw_cVi (As := [.int a1, .int a2]) (rest := []) (ci := 2) (T := TX3) (N := 4) C hml hP hS rfl (gw_onE e3).1 (mx_X3_waits (l := l) (K := K) hA _ _ _ _ _ _ (gw_onE e3).2) (cwV 2 hts (lw_V q1021 q1022 q1023 q103 q1024) rfl rfl rfl hdX3_waits ⟨Nat.le_of_ble_eq_true rfl, Nat.le_of_ble_eq_true rfl⟩) rfl hl.1 rfl (Nat.le_of_ble_eq_true rfl) (Nat.zero_le _) (Nat.zero_le _) dX1_lambda_paused_2_3 (fun H locs hP hS => ?_)
  obtain ⟨h0, h1, h2⟩ := tw_rzE hf
  exact gw_iretz h0 h1 h2 rfl rfl C hr hP hS hlk dX1_lambda_paused_2_6
theorem gl_y2 : ∀ sig, parseMethodDescriptor gl_n2.desc = some sig → 2 = sig.parameters.length := by
  intro sig h
  have h1 : (parseMethodDescriptor gl_n2.desc).map (fun d => d.parameters.length) = some 2 := by decide +kernel
  rw [h] at h1
  exact (Option.some.inj h1).symm
theorem gl_z2 : ∀ sig, parseMethodDescriptor yX1_lambda_paused_2.desc = some sig → 3 = sig.parameters.length := by
  intro sig h
  have h1 : (parseMethodDescriptor yX1_lambda_paused_2.desc).map (fun d => d.parameters.length) = some 3 := by decide +kernel
  rw [h] at h1
  exact (Option.some.inj h1).symm
section GwFw2
variable {p : Program} {l : Launch} {e : Env} {R : Room} {s : State} {m : MethodId} {args : Array Value} {below : List Frame} {meth : Method} {c : Code} {H : Heap} {locs : List Loc} {cells slots : Nat} {Q : State → Prop}
variable {cc : ByteArray} {pc : Nat} {ls : Array Slot} {rest : List Value} {K : GK} {h u : Hp} {H0 : Heap} {own : String}

set_option maxHeartbeats 4000000 in
theorem gw_fw2 {r index : Nat} {o : Nat} {p0 : Int32} {p1 : Int32} {v : Int32} {F : Nat → Value} (C : gw_C K own p s m args c cc) (hP : gw_P K h H) (hS : va_S K.2.2.2.1 s.heap H locs) (hO : gw_ob h r 102 = some F) (hF0 : F 0 = .ref o) (hv : v = 0 ∨ v = 1) (he : fx_X1_lambda_paused_2 o p0 p1 h = some (v, u)) (hlink : Cond.methodLink own index gl_n2 ∈ lw_all) (hsize : ls.size = c.maxLocals) (hw : (rest.map fun v => v.category).sum ≤ 8) (hfr : 8 ≤ R.frames) (hlo : 145 ≤ R.locals) (hcells : cells + 0 ≤ R.cells) (hslots : slots + 0 ≤ R.slots) (hdg : decode cc pc = .ok (.invokeinterface index 3, 5)) : va_Run5 p l e R s m args below meth c H locs cells slots 0 0 (F0 m pc ls (.int p1 :: .int p0 :: .ref r :: rest)) rest (gw_Qi K v u (Value.ref r :: [.int p0, .int p1]).toArray) K.2.2.2.1 := by
  have hcell := (hP.1 r _ (gw_obE hO)).1
  unfold gw_at at hcell
  dsimp only at hcell
  rw [if_neg (by decide)] at hcell
  obtain ⟨cell, g1, g2, g3, g4⟩ := hcell
  have g50 : cell.slots[0]? = some (.ref o) := by rw [g4 0 (by decide), hF0]
  refine gl_call (xi := gl_n2) (y := yX1_lambda_paused_2) (R' := { frames := 7, cells := 0, slots := 0, locals := 123 }) (Qc := gw_Qi K v u) (mc := 0) (ms := 0) (free := K.2.2.2.1) (As := [.int p0, .int p1]) C.1 C.2.1 C.2.2.2.1 (C.2.2.1 _ hlink) (va_Nw.use (w := .declares gl_n2) rfl C.2.2.2.2.2.2.2.2.2.2.2.1.1) (va_Nw.use (w := .interfaceMethod gl_n2.cls gl_n2.cls gl_n2.name gl_n2.desc) rfl C.2.2.2.2.2.2.2.2.2.2.2.1.2) (by decide) C.2.2.2.2.2.2.2.2.1.2.2.1 rfl (C.2.2.1 _ q1943) (C.2.2.1 _ q129) rfl rfl gl_t2.2 gl_f2 rfl rfl gl_t2.1 gl_g2 gl_h2 gl_i2 gl_p2 gl_k2 gl_l2 rfl g1 g2 g3 gl_y2 rfl hsize rfl hdg hfr (by show 2 * 0 + _ + (3 + 11) + 123 ≤ _; omega) hcells hslots ?_
  intro s' below' methk ck hH' hW' hbytes hmlK hlk hret hR hfld
  obtain ⟨fd0, hfd0, hfs0, hfl0⟩ := hfld 15 _ _ 0 0 "arg$1" _ gl_q2_0.1 gl_q2_0.2 rfl rfl
  rw [lg_entry_eq]
  have hl := lv_entry ([.ref r, .int p0, .int p1]) (n := 3) (Nat.le_of_ble_eq_true rfl)
  generalize (lg_sl ([.ref r, .int p0, .int p1]) ++ List.replicate (3 - (lg_sl ([.ref r, .int p0, .int p1])).length) Slot.unset).toArray = ls' at hl ⊢
  have hl : lv_has ls' 3 [(0, .ref r), (1, .int p0), (2, .int p1)] := hl
  refine lv_aload_n C.1 hbytes gl_d2_0 rfl (lv_at hl 0 rfl) ?_
  refine gl_getf C.1 hbytes hfd0 hfs0 g1 (by rw [g3]; exact fun h => by cases h) (by rw [hfl0]; exact g50) gl_d2_1 ?_
  refine lv_iload_n C.1 hbytes gl_d2_4 rfl (lv_at hl 1 rfl) ?_
  refine lv_iload_n C.1 hbytes gl_d2_5 rfl (lv_at hl 2 rfl) ?_
  have here9 : ∀ U : State, U.heap = H → s'.WarmedH U.vm → va_Pc [.ref o, .int p0, .int p1] (gw_W K h) ([.ref o, .int p0, .int p1] : List Value).toArray U := fun U hU hW9 => gw_here C hS hP U hU (State.WarmedH.trans hW' hW9)
  have hS9 : va_S K.2.2.2.1 s'.heap H [] := by rw [hH']; exact va_S.rf
  refine va_calli (gl_runS (n := 0) (bytes := cX1_lambda_paused_2) (maxL := 3) (ret := some .boolean) (As := [.ref o, .int p0, .int p1]) (rest := []) C.1 hbytes (mx_X1_lambda_paused_2 (l := l) (K := K) C.2.2.2.2.2.1 _ _ _ _ _ _ he) rfl rfl (Nat.le_of_ble_eq_true rfl) (Nat.le_of_ble_eq_true rfl) (fun w hw a' U hU => pay_in C.2.2.1 (lw_meth q1049) w hw a' U (State.WarmedH.trans hW' hU)) List.mem_cons_self (pay_in C.2.2.1 lw_self _ q1049 _ s' hW') (pay_in C.2.2.1 lw_self _ q101 _ s' hW') (pay_in C.2.2.1 lw_self _ q1048 _ s' hW') rfl gl_z2 hR ⟨gw_blind, here9⟩ rfl (by rw [hmlK]; exact hl.1) rfl (lv_room (Nat.le_of_ble_eq_true rfl)) gl_d2_6 ⟨Nat.le_of_eq (Nat.zero_add _), Nat.le_of_eq (Nat.zero_add _)⟩) hS9 (fun q _ h => h) (fun q h => h) (fun r9 u9 t9 H1 locs1 ht hvm hp hB hz hk hS1 => ?_)
  subst hp
  subst ht
  exact W.zret C.1 hbytes hret (by rcases hv with rfl | rfl <;> rfl) (fun t2 ht2 hW2 => ⟨⟨_, (), rfl, rfl, by show gw_P K u t2.heap; rw [ht2]; exact hB⟩, hS1.F ht2⟩) hS1.2.2 gl_d2_9 hlk
end GwFw2

theorem gl_z3 : ∀ sig, parseMethodDescriptor yX1_lambda_inCycles_3.desc = some sig → 2 = sig.parameters.length := by
  intro sig h
  have h1 : (parseMethodDescriptor yX1_lambda_inCycles_3.desc).map (fun d => d.parameters.length) = some 2 := by decide +kernel
  rw [h] at h1
  exact (Option.some.inj h1).symm
section GwFw3
variable {p : Program} {l : Launch} {e : Env} {R : Room} {s : State} {m : MethodId} {args : Array Value} {below : List Frame} {meth : Method} {c : Code} {H : Heap} {locs : List Loc} {cells slots : Nat} {Q : State → Prop}
variable {cc : ByteArray} {pc : Nat} {ls : Array Slot} {rest : List Value} {K : GK} {h u : Hp} {H0 : Heap} {own : String}

set_option maxHeartbeats 4000000 in
theorem gw_fw3 {r index : Nat} {o : Nat} {p0 : Int32} {p1 : Int32} {v : Int32} {F : Nat → Value} (C : gw_C K own p s m args c cc) (hP : gw_P K h H) (hS : va_S K.2.2.2.1 s.heap H locs) (hO : gw_ob h r 103 = some F) (hF0 : F 0 = .ref o) (hO2 : ∃ F2, gw_ob h o 0 = some F2) (hv : v = 0 ∨ v = 1) (he : fx_X1_lambda_inCycles_3 o p0 p1 h = some (v, u)) (hlink : Cond.methodLink own index gl_n2 ∈ lw_all) (hsize : ls.size = c.maxLocals) (hw : (rest.map fun v => v.category).sum ≤ 8) (hfr : 7 ≤ R.frames) (hlo : 123 ≤ R.locals) (hcells : cells + 0 ≤ R.cells) (hslots : slots + 0 ≤ R.slots) (hdg : decode cc pc = .ok (.invokeinterface index 3, 5)) : va_Run5 p l e R s m args below meth c H locs cells slots 0 0 (F0 m pc ls (.int p1 :: .int p0 :: .ref r :: rest)) rest (gw_Qi K v u (Value.ref r :: [.int p0, .int p1]).toArray) K.2.2.2.1 := by
  have hcell := (hP.1 r _ (gw_obE hO)).1
  unfold gw_at at hcell
  dsimp only at hcell
  rw [if_neg (by decide)] at hcell
  obtain ⟨cell, g1, g2, g3, g4⟩ := hcell
  have g50 : cell.slots[0]? = some (.ref o) := by rw [g4 0 (by decide), hF0]
  refine gl_call (xi := gl_n2) (y := yX1_lambda_inCycles_3) (R' := { frames := 6, cells := 0, slots := 0, locals := 101 }) (Qc := gw_Qi K v u) (mc := 0) (ms := 0) (free := K.2.2.2.1) (As := [.int p0, .int p1]) C.1 C.2.1 C.2.2.2.1 (C.2.2.1 _ hlink) (va_Nw.use (w := .declares gl_n2) rfl C.2.2.2.2.2.2.2.2.2.2.2.1.1) (va_Nw.use (w := .interfaceMethod gl_n2.cls gl_n2.cls gl_n2.name gl_n2.desc) rfl C.2.2.2.2.2.2.2.2.2.2.2.1.2) (by decide) C.2.2.2.2.2.2.2.2.1.2.2.2.1 rfl (C.2.2.1 _ q1943) (C.2.2.1 _ q129) rfl rfl gl_t3.2 gl_f3 rfl rfl gl_t3.1 gl_g3 gl_h3 gl_i3 gl_p3 gl_k3 gl_l3 rfl g1 g2 g3 gl_y2 rfl hsize rfl hdg hfr (by show 2 * 0 + _ + (3 + 11) + 101 ≤ _; omega) hcells hslots ?_
  intro s' below' methk ck hH' hW' hbytes hmlK hlk hret hR hfld
  obtain ⟨fd0, hfd0, hfs0, hfl0⟩ := hfld 15 _ _ 0 0 "arg$1" _ gl_q3_0.1 gl_q3_0.2 rfl rfl
  rw [lg_entry_eq]
  have hl := lv_entry ([.ref r, .int p0, .int p1]) (n := 3) (Nat.le_of_ble_eq_true rfl)
  generalize (lg_sl ([.ref r, .int p0, .int p1]) ++ List.replicate (3 - (lg_sl ([.ref r, .int p0, .int p1])).length) Slot.unset).toArray = ls' at hl ⊢
  have hl : lv_has ls' 3 [(0, .ref r), (1, .int p0), (2, .int p1)] := hl
  refine lv_aload_n C.1 hbytes gl_d3_0 rfl (lv_at hl 0 rfl) ?_
  refine gl_getf C.1 hbytes hfd0 hfs0 g1 (by rw [g3]; exact fun h => by cases h) (by rw [hfl0]; exact g50) gl_d3_1 ?_
  refine lv_iload_n C.1 hbytes gl_d3_4 rfl (lv_at hl 1 rfl) ?_
  refine lv_iload_n C.1 hbytes gl_d3_5 rfl (lv_at hl 2 rfl) ?_
  have recv9 : ∃ cell : Cell, H[o]? = some cell ∧ cell.vm.isStatics = false ∧ s'.vm.findClass "LosslessFabric" = some cell.cls := by
    obtain ⟨c9, k1, k2, k3⟩ := gw_recv (ci := 0) (r := (RX1, TX1, 18)) C hP rfl hO2
    exact ⟨c9, k1, k2, by rw [hW'.alike.findClass]; exact k3⟩
  have here9 : ∀ U : State, U.heap = H → s'.WarmedH U.vm → va_Pc (.ref o :: [.int p0, .int p1]) (gw_W K h) ((.ref o :: [.int p0, .int p1]) : List Value).toArray U := fun U hU hW9 => gw_here C hS hP U hU (State.WarmedH.trans hW' hW9)
  have hS9 : va_S K.2.2.2.1 s'.heap H [] := by rw [hH']; exact va_S.rf
  refine va_calli (gl_runV (n := 0) (bytes := cX1_lambda_inCycles_3) (maxL := 3) (ret := some .boolean) (As := [.int p0, .int p1]) (rest := []) C.1 hbytes (mx_X1_lambda_inCycles_3 (l := l) (K := K) C.2.2.2.2.2.1 _ _ _ _ _ _ he) rfl rfl (Nat.le_of_ble_eq_true rfl) (Nat.le_of_ble_eq_true rfl) (fun w hw a' U hU => pay_in C.2.2.1 (lw_meth q1112) w hw a' U (State.WarmedH.trans hW' hU)) List.mem_cons_self (pay_in C.2.2.1 lw_self _ q1112 _ s' hW') (pay_in C.2.2.1 lw_self _ q101 _ s' hW') (pay_in C.2.2.1 lw_self _ q1111 _ s' hW') (pay_in C.2.2.1 lw_self _ qs28 _ s' hW') rfl gl_z3 hR ⟨gw_blind, recv9, here9⟩ rfl (by rw [hmlK]; exact hl.1) rfl (lv_room (Nat.le_of_ble_eq_true rfl)) gl_d3_6 ⟨Nat.le_of_eq (Nat.zero_add _), Nat.le_of_eq (Nat.zero_add _)⟩) hS9 (fun q _ h => h) (fun q h => h) (fun r9 u9 t9 H1 locs1 ht hvm hp hB hz hk hS1 => ?_)
  subst hp
  subst ht
  exact W.zret C.1 hbytes hret (by rcases hv with rfl | rfl <;> rfl) (fun t2 ht2 hW2 => ⟨⟨_, (), rfl, rfl, by show gw_P K u t2.heap; rw [ht2]; exact hB⟩, hS1.F ht2⟩) hS1.2.2 gl_d3_9 hlk
end GwFw3

def fj_2 (r : Nat) (p0 : Int32) (p1 : Int32) : HM Int32 := fun h => match gw_ob h r 102 with
  | some F => (match F 0 with | .ref o => (fx_X1_lambda_paused_2 o p0 p1) h | _ => none)
  | none => (match gw_ob h r 103 with
  | some F => (match F 0 with | .ref o => (gw_on 0 o (fx_X1_lambda_inCycles_3 o p0 p1)) h | _ => none)
  | none => none)
def fi_2 (r : Nat) (p0 : Int32) (p1 : Int32) : HM Int32 := tw_bd (fj_2 r p0 p1) tw_rz
section GwIf2
variable {p : Program} {l : Launch} {e : Env} {R : Room} {s : State} {m : MethodId} {args : Array Value} {below : List Frame} {meth : Method} {c : Code} {H : Heap} {locs : List Loc} {cells slots : Nat} {Q : State → Prop}
variable {cc : ByteArray} {pc : Nat} {ls : Array Slot} {rest : List Value} {K : GK} {h u : Hp} {H0 : Heap} {own : String}

theorem gw_if2 {r index : Nat} {p0 : Int32} {p1 : Int32} {v : Int32} (C : gw_C K own p s m args c cc) (hP : gw_P K h H) (hS : va_S K.2.2.2.1 s.heap H locs) (he : fi_2 r p0 p1 h = some (v, u)) (hlink : Cond.methodLink own index gl_n2 ∈ lw_all) (hsize : ls.size = c.maxLocals) (hw : (rest.map fun v => v.category).sum ≤ 8) (hfr : 8 ≤ R.frames) (hlo : 145 ≤ R.locals) (hcells : cells ≤ R.cells) (hslots : slots ≤ R.slots) (hdg : decode cc pc = .ok (.invokeinterface index 3, 5))
    (kk : ∀ (H1 : Heap) (locs1 : List Loc), gw_P K u H1 → va_S K.2.2.2.1 s.heap H1 locs1 → W p l e R s m args below meth c H1 locs1 (cells) (slots) Q (F0 m (pc + 5) ls (.int v :: rest))) : W p l e R s m args below meth c H locs cells slots Q (F0 m pc ls (.int p1 :: .int p0 :: .ref r :: rest)) := by
  unfold fi_2 at he
  obtain ⟨v1, u1, he1, e2⟩ := tw_bdE he
  clear he
  obtain ⟨hv, h1, h2⟩ := tw_rzE e2
  subst h1
  subst h2
  have he := he1
  unfold fj_2 at he
  split at he
  case h_1 F hO =>
    split at he
    case h_2 => cases he
    case h_1 o hF0 =>
    refine va_callFi (gw_fw2 C hP hS hO hF0 hv he hlink hsize hw (Nat.le_trans (Nat.le_of_ble_eq_true rfl) hfr) (Nat.le_trans (Nat.le_of_ble_eq_true rfl) hlo) hcells hslots hdg) hS (fun q _ h => h) (fun q h => h) (fun r9 u9 t9 H1 locs1 ht hvm hp hB hz hk hS1 => ?_)
    subst hp
    subst ht
    exact kk _ locs1 hB hS1
  case h_2 =>
    split at he
    case h_1 F hO =>
      split at he
      case h_2 => cases he
      case h_1 o hF0 =>
      obtain ⟨hO2, he⟩ := gw_onE he
      refine va_callFi (gw_fw3 C hP hS hO hF0 hO2 hv he hlink hsize hw (Nat.le_trans (Nat.le_of_ble_eq_true rfl) hfr) (Nat.le_trans (Nat.le_of_ble_eq_true rfl) hlo) hcells hslots hdg) hS (fun q _ h => h) (fun q h => h) (fun r9 u9 t9 H1 locs1 ht hvm hp hB hz hk hS1 => ?_)
      subst hp
      subst ht
      exact kk _ locs1 hB hS1
    case h_2 =>
      cases he
end GwIf2

def fx_X12_isAhead_J65 (sf20 : Int32 → HM Int32) (v20_4 : Int32)  : HM Int32 :=
  sf20 (v20_4 + (1 : Int32))
def fx_X12_isAhead_L20 (a0 : Nat) (a3 : Int32) (a1 : Int32) (sf20 : Int32 → HM Int32) (v20_4 : Int32) : HM Int32 :=
  tw_bd (gw_gr 11 4 a0) fun x2 =>
  tw_bd (gw_gr 0 4 x2) fun x5 =>
  tw_bd (gw_gi 1 2 x5) fun x8 =>
  if x8 ≤ v20_4 then (tw_rz (0 : Int32))
  else (tw_bd (gw_gr 11 1 a0) fun x11 =>
  tw_bd (gw_ld 0 x11 v20_4) fun x14 =>
  if x14 = (a3 - (1 : Int32)) then (tw_bd (gw_gr 11 0 a0) fun x18 =>
  tw_bd (fi_2 x18 a1 v20_4) fun x21 =>
  if x21 = 0 then (fx_X12_isAhead_J65 sf20 v20_4)
  else (tw_rz (1 : Int32)))
  else (fx_X12_isAhead_J65 sf20 v20_4))
def fx_X12_isAhead (a0 : Nat) (a1 : Int32) (a2 : Int32) (a3 : Int32) : HM Int32 :=
  if a3 = (1 : Int32) then (tw_bd (gw_gr 11 0 a0) fun x24 =>
  tw_bd (fi_2 x24 a1 a2) fun x27 =>
  tw_rz x27)
  else (tw_lp (fx_X12_isAhead_L20 a0 a3 a1) (fun _ _ => none) tw_fu (0 : Int32))
theorem hdX12_isAhead : yX12_isAhead.cls = "LosslessFabric$Cycle" ∧ (yX12_isAhead.cls ≠ "java/lang/invoke/MethodHandle" ∧ yX12_isAhead.cls ≠ "java/lang/invoke/VarHandle" ∧ (parseMethodDescriptor yX12_isAhead.desc).map (fun d => d.parameters.length) = some 3) := by decide +kernel
set_option maxHeartbeats 4000000 in
theorem mx_X12_isAhead {l : Launch} {K : GK} (hA : gw_A K) (a0 : Nat) (a1 : Int32) (a2 : Int32) (a3 : Int32) (t0 tZ : Hp) (r : Int32) (hf : fx_X12_isAhead a0 a1 a2 a3 t0 = some (r, tZ)) : Met l yX12_isAhead (ws_ yX12_isAhead cX12_isAhead 5 (some (.boolean))) ({ frames := 8, cells := 0, slots := 0, locals := 145 }) (va_Pc [.ref a0, .int a1, .int a2, .int a3] (gw_W K t0)) (gw_Qi K r tZ) 0 0 K.2.2.2.1 := by
  refine Met.ofW (cc := cX12_isAhead) (maxL := 5) (ret := some (.boolean)) (by decide) rfl ?_
  intro p e s m args below meth c s₁ B hml hv
  obtain ⟨rfl, hP, hK, hX, hN, hL⟩ := hv
  have hx := B.exec
  have hb := B.bytes
  have hr := B.returns
  have hts := atoms_spec (ws := (ws_ yX12_isAhead cX12_isAhead 5 (some (.boolean)))) B.pre
  have hts : ∀ w ∈ lw_all, w.before _ s = true := fun w h => hts w (List.mem_cons_of_mem _ h)
  have hown : s.vm.findClass "LosslessFabric$Cycle" = some m.cls := findClass_of_methodNamed B.named
  have hlk := B.notSynchronized
  have C : gw_C K "LosslessFabric$Cycle" p s m _ c cX12_isAhead := ⟨hx, hb, hts, hown, hK, hA, hX, hN, hL⟩
  have hS : va_S K.2.2.2.1 s.heap s.heap [] := va_S.rf
  have hl := lv_entry ([.ref a0, .int a1, .int a2, .int a3]) (n := 5) (Nat.le_of_ble_eq_true rfl)
  rw [lg_entry_eq]
  generalize (lg_sl ([.ref a0, .int a1, .int a2, .int a3]) ++ List.replicate (5 - (lg_sl ([.ref a0, .int a1, .int a2, .int a3])).length) Slot.unset).toArray = ls at hl ⊢
  have hl : lv_has ls 5 [(0, .ref a0), (1, .int a1), (2, .int a2), (3, .int a3)] := hl
  unfold fx_X12_isAhead at hf
  refine lv_iload_n hx hb dX12_isAhead_0 rfl (lv_at hl 3 rfl) ?_
  refine lv_iconst (v := (1 : Int32)) hx hb dX12_isAhead_1 (by decide) ?_
  refine lv_icmp_ne (tgt := 17) hx hb dX12_isAhead_2 (by decide) (fun hc => ?_) (fun hc => ?_)
  · have hf := tw_ifF hc hf
    refine lv_iconst (v := (0 : Int32)) hx hb dX12_isAhead_17 (by decide) ?_
    refine lv_istore (lv' := [(4, .int (0 : Int32)), (0, .ref a0), (1, .int a1), (2, .int a2), (3, .int a3)]) hx hb dX12_isAhead_18 hl (by decide) rfl (fun ls hl => ?_)
    have k20 : ∀ (n : Nat) (v20_4 : Int32) (t1 : Hp) (H : Heap) (locs : List Loc) (ls : Array Slot), gw_P K t1 H → va_S K.2.2.2.1 s.heap H locs → lv_has ls 5 [(0, .ref a0), (1, .int a1), (3, .int a3), (4, .int v20_4)] → tw_lp (fx_X12_isAhead_L20 a0 a3 a1) (fun _ _ => none) n v20_4 t1 = some (r, tZ) → W p l e (headSpec (ws_ yX12_isAhead cX12_isAhead 5 (some (.boolean))) ({ frames := 8, cells := 0, slots := 0, locals := 145 })).room s m ([.ref a0, .int a1, .int a2, .int a3] : List Value).toArray below meth c H locs 0 0 (MQ below (gw_Qi K r tZ) ([.ref a0, .int a1, .int a2, .int a3] : List Value).toArray s 0 0 K.2.2.2.1) (F0 m 20 ls []) := by
      intro n
      induction n with
      | zero => intro v20_4 t1 H locs ls hP hS hl hf; exact (tw_no hf).elim
      | succ n ih20 =>
        intro v20_4 t1 H locs ls hP hS hl hf
        obtain ⟨sf20, hs20⟩ : ∃ f, f = tw_lp (fx_X12_isAhead_L20 a0 a3 a1) (fun _ _ => none) n := ⟨_, rfl⟩
        rw [← hs20] at ih20
        have hf : fx_X12_isAhead_L20 a0 a3 a1 sf20 v20_4 t1 = some (r, tZ) := by rw [hs20]; exact hf
        clear hs20
        unfold fx_X12_isAhead_L20 at hf
        refine lv_iload hx hb dX12_isAhead_20 (lv_at hl 3 rfl) ?_
        refine lv_aload_n hx hb dX12_isAhead_22 rfl (lv_at hl 0 rfl) ?_
        obtain ⟨x2, t3, e4, hf⟩ := tw_bdE hf
        refine gw_rget (ci := 11) (k := 4) (T := TX12) C hP rfl in_X12 (by decide) e4 q1060 rfl dX12_isAhead_23 (fun hP => ?_)
        obtain ⟨x5, t6, e7, hf⟩ := tw_bdE hf
        refine gw_rgetN (ci := 0) (k := 4) (T := TX1) C hP rfl in_X1 (by decide) e7 q396 rfl dX12_isAhead_26 (fun hP => ?_)
        obtain ⟨x8, t9, e10, hf⟩ := tw_bdE hf
        refine gw_igetN (ci := 1) (k := 2) (T := TX2) C hP rfl in_X2 (by decide) e10 q158 rfl dX12_isAhead_29 (fun hP => ?_)
        refine lv_icmp_ge (tgt := 71) hx hb dX12_isAhead_32 (by decide) (fun hc => ?_) (fun hc => ?_)
        · have hf := tw_ifT hc hf
          refine lv_iconst (v := (0 : Int32)) hx hb dX12_isAhead_71 (by decide) ?_
          obtain ⟨h0, h1, h2⟩ := tw_rzE hf
          exact gw_iretz h0 h1 h2 rfl rfl C hr hP hS hlk dX12_isAhead_72
        · have hf := tw_ifF hc hf
          refine lv_aload_n hx hb dX12_isAhead_35 rfl (lv_at hl 0 rfl) ?_
          obtain ⟨x11, t12, e13, hf⟩ := tw_bdE hf
          refine gw_rget (ci := 11) (k := 1) (T := TX12) C hP rfl in_X12 (by decide) e13 q1055 rfl dX12_isAhead_36 (fun hP => ?_)
          refine lv_iload hx hb dX12_isAhead_39 (lv_at hl 3 rfl) ?_
          obtain ⟨x14, t15, e16, hf⟩ := tw_bdE hf
          refine gw_iald C hP e16 dX12_isAhead_41 (fun hP => ?_)
          refine lv_iload_n hx hb dX12_isAhead_42 rfl (lv_at hl 2 rfl) ?_
          refine lv_iconst (v := (1 : Int32)) hx hb dX12_isAhead_43 (by decide) ?_
          refine lv_isub hx hb dX12_isAhead_44 ?_
          have k65 : ∀  (t17 : Hp) (H : Heap) (locs : List Loc) (ls : Array Slot), gw_P K t17 H → va_S K.2.2.2.1 s.heap H locs → lv_has ls 5 [(0, .ref a0), (1, .int a1), (3, .int a3), (4, .int v20_4)] → fx_X12_isAhead_J65 sf20 v20_4  t17 = some (r, tZ) → W p l e (headSpec (ws_ yX12_isAhead cX12_isAhead 5 (some (.boolean))) ({ frames := 8, cells := 0, slots := 0, locals := 145 })).room s m ([.ref a0, .int a1, .int a2, .int a3] : List Value).toArray below meth c H locs 0 0 (MQ below (gw_Qi K r tZ) ([.ref a0, .int a1, .int a2, .int a3] : List Value).toArray s 0 0 K.2.2.2.1) (F0 m 65 ls []) := by
            intro t17 H locs ls hP hS hl hf
            unfold fx_X12_isAhead_J65 at hf
            refine lv_iinc (v := (v20_4 + (1 : Int32))) (lv' := [(4, .int (v20_4 + (1 : Int32))), (0, .ref a0), (1, .int a1), (3, .int a3)]) hx hb dX12_isAhead_65 hl (k := 3) rfl rfl (by decide) rfl (fun ls hl => ?_)
            refine lv_goto (tgt := 20) hx hb dX12_isAhead_68 (by decide) ?_
            exact ih20 _ _ _ _ _ hP hS (lv_sub hl [1, 2, 3, 0] rfl) hf
          refine lv_icmp_ne (tgt := 65) hx hb dX12_isAhead_45 (by decide) (fun hc => ?_) (fun hc => ?_)
          · have hf := tw_ifF hc hf
            exact k65 _ _ _ _ hP hS (lv_sub hl [0, 1, 2, 3] rfl) hf
          · have hf := tw_ifT hc hf
            refine lv_aload_n hx hb dX12_isAhead_48 rfl (lv_at hl 0 rfl) ?_
            obtain ⟨x18, t19, e20, hf⟩ := tw_bdE hf
            refine gw_rget (ci := 11) (k := 0) (T := TX12) C hP rfl in_X12 (by decide) e20 q1054 rfl dX12_isAhead_49 (fun hP => ?_)
            refine lv_iload_n hx hb dX12_isAhead_52 rfl (lv_at hl 1 rfl) ?_
            refine lv_iload hx hb dX12_isAhead_53 (lv_at hl 3 rfl) ?_
            obtain ⟨x21, t22, e23, hf⟩ := tw_bdE hf
            refine gw_if2 (rest := []) C hP hS e23 q1089 (hl.1.trans hml.symm) (Nat.le_of_ble_eq_true rfl) (Nat.le_of_ble_eq_true rfl) (Nat.le_of_ble_eq_true rfl) (Nat.zero_le _) (Nat.zero_le _) dX12_isAhead_55 (fun H locs hP hS => ?_)
            refine lv_if_eq (tgt := 65) hx hb dX12_isAhead_60 (by decide) (fun hc => ?_) (fun hc => ?_)
            · have hf := tw_ifT hc hf
              exact k65 _ _ _ _ hP hS (lv_sub hl [0, 1, 2, 3] rfl) hf
            · have hf := tw_ifF hc hf
              refine lv_iconst (v := (1 : Int32)) hx hb dX12_isAhead_63 (by decide) ?_
              obtain ⟨h0, h1, h2⟩ := tw_rzE hf
              exact gw_iretz h0 h1 h2 rfl rfl C hr hP hS hlk dX12_isAhead_64
    exact k20 _ _ _ _ _ _ hP hS (lv_sub hl [1, 2, 4, 0] rfl) hf
  · have hf := tw_ifT hc hf
    refine lv_aload_n hx hb dX12_isAhead_5 rfl (lv_at hl 0 rfl) ?_
    obtain ⟨x24, t25, e26, hf⟩ := tw_bdE hf
    refine gw_rget (ci := 11) (k := 0) (T := TX12) C hP rfl in_X12 (by decide) e26 q1054 rfl dX12_isAhead_6 (fun hP => ?_)
    refine lv_iload_n hx hb dX12_isAhead_9 rfl (lv_at hl 1 rfl) ?_
    refine lv_iload_n hx hb dX12_isAhead_10 rfl (lv_at hl 2 rfl) ?_
    obtain ⟨x27, t28, e29, hf⟩ := tw_bdE hf
    refine gw_if2 (rest := []) C hP hS e29 q1089 (hl.1.trans hml.symm) (Nat.le_of_ble_eq_true rfl) (Nat.le_of_ble_eq_true rfl) (Nat.le_of_ble_eq_true rfl) (Nat.zero_le _) (Nat.zero_le _) dX12_isAhead_11 (fun H locs hP hS => ?_)
    obtain ⟨h0, h1, h2⟩ := tw_rzE hf
    exact gw_iretz h0 h1 h2 rfl rfl C hr hP hS hlk dX12_isAhead_16
def fx_X12_laysTo_J82 (sf40 : Int32 → HM Unit) (v40_3 : Int32)  : HM Unit :=
  sf40 (v40_3 + (1 : Int32))
def fx_X12_laysTo_L40 (a0 : Nat) (sf24 : Int32 → HM Unit) (v24_2 : Int32) (a1 : Int32) (sf40 : Int32 → HM Unit) (v40_3 : Int32) : HM Unit :=
  tw_bd (gw_gr 11 4 a0) fun x13 =>
  tw_bd (gw_gr 0 4 x13) fun x16 =>
  tw_bd (gw_gi 1 2 x16) fun x19 =>
  if x19 ≤ v40_3 then (sf24 (v24_2 + (1 : Int32)))
  else (tw_bd (gw_gr 11 1 a0) fun x22 =>
  tw_bd (gw_ld 0 x22 v40_3) fun x25 =>
  if x25 = (99 : Int32) then (tw_bd (gw_on 11 a0 (fx_X12_isAhead a0 v40_3 a1 v24_2)) fun x29 =>
  if x29 = 0 then (fx_X12_laysTo_J82 sf40 v40_3)
  else (tw_bd (gw_gr 11 1 a0) fun x32 =>
  tw_bd (gw_st x32 v40_3 v24_2) fun _ =>
 
  fx_X12_laysTo_J82 sf40 v40_3))
  else (fx_X12_laysTo_J82 sf40 v40_3))
def fx_X12_laysTo_L24 (a0 : Nat) (a1 : Int32) (sf24 : Int32 → HM Unit) (v24_2 : Int32) : HM Unit :=
  tw_bd (gw_gr 11 4 a0) fun x3 =>
  tw_bd (gw_gr 0 4 x3) fun x6 =>
  tw_bd (gw_gi 1 2 x6) fun x9 =>
  if x9 < v24_2 then (tw_rt ())
  else (tw_lp (fx_X12_laysTo_L40 a0 sf24 v24_2 a1) (fun _ _ => none) tw_fu (0 : Int32))
def fx_X12_laysTo_L2 (a0 : Nat) (a1 : Int32) (sf2 : Int32 → HM Unit) (v2_2 : Int32) : HM Unit :=
  if (10 : Int32) ≤ v2_2 then (tw_lp (fx_X12_laysTo_L24 a0 a1) (fun _ _ => none) tw_fu (1 : Int32))
  else (tw_bd (gw_gr 11 1 a0) fun x38 =>
  tw_bd (gw_st x38 v2_2 (99 : Int32)) fun _ =>
 
  sf2 (v2_2 + (1 : Int32)))
def fx_X12_laysTo (a0 : Nat) (a1 : Int32) : HM Unit :=
  tw_lp (fx_X12_laysTo_L2 a0 a1) (fun _ _ => none) tw_fu (0 : Int32)
theorem hdX12_laysTo : yX12_laysTo.cls = "LosslessFabric$Cycle" ∧ (yX12_laysTo.cls ≠ "java/lang/invoke/MethodHandle" ∧ yX12_laysTo.cls ≠ "java/lang/invoke/VarHandle" ∧ (parseMethodDescriptor yX12_laysTo.desc).map (fun d => d.parameters.length) = some 1) := by decide +kernel
set_option maxHeartbeats 4000000 in
theorem mx_X12_laysTo {l : Launch} {K : GK} (hA : gw_A K) (a0 : Nat) (a1 : Int32) (t0 tZ : Hp) (r : Unit) (hf : fx_X12_laysTo a0 a1 t0 = some (r, tZ)) : Met l yX12_laysTo (ws_ yX12_laysTo cX12_laysTo 4 (none)) ({ frames := 9, cells := 0, slots := 0, locals := 169 }) (va_Pc [.ref a0, .int a1] (gw_W K t0)) (gw_Qv K tZ) 0 0 K.2.2.2.1 := by
  refine Met.ofW (cc := cX12_laysTo) (maxL := 4) (ret := none) (by decide) rfl ?_
  intro p e s m args below meth c s₁ B hml hv
  obtain ⟨rfl, hP, hK, hX, hN, hL⟩ := hv
  have hx := B.exec
  have hb := B.bytes
  have hr := B.returns
  have hts := atoms_spec (ws := (ws_ yX12_laysTo cX12_laysTo 4 (none))) B.pre
  have hts : ∀ w ∈ lw_all, w.before _ s = true := fun w h => hts w (List.mem_cons_of_mem _ h)
  have hown : s.vm.findClass "LosslessFabric$Cycle" = some m.cls := findClass_of_methodNamed B.named
  have hlk := B.notSynchronized
  have C : gw_C K "LosslessFabric$Cycle" p s m _ c cX12_laysTo := ⟨hx, hb, hts, hown, hK, hA, hX, hN, hL⟩
  have hS : va_S K.2.2.2.1 s.heap s.heap [] := va_S.rf
  have hl := lv_entry ([.ref a0, .int a1]) (n := 4) (Nat.le_of_ble_eq_true rfl)
  rw [lg_entry_eq]
  generalize (lg_sl ([.ref a0, .int a1]) ++ List.replicate (4 - (lg_sl ([.ref a0, .int a1])).length) Slot.unset).toArray = ls at hl ⊢
  have hl : lv_has ls 4 [(0, .ref a0), (1, .int a1)] := hl
  unfold fx_X12_laysTo at hf
  refine lv_iconst (v := (0 : Int32)) hx hb dX12_laysTo_0 (by decide) ?_
  refine lv_istore_n (lv' := [(2, .int (0 : Int32)), (0, .ref a0), (1, .int a1)]) hx hb dX12_laysTo_1 rfl hl (by decide) rfl (fun ls hl => ?_)
  have k2 : ∀ (n : Nat) (v2_2 : Int32) (t1 : Hp) (H : Heap) (locs : List Loc) (ls : Array Slot), gw_P K t1 H → va_S K.2.2.2.1 s.heap H locs → lv_has ls 4 [(0, .ref a0), (1, .int a1), (2, .int v2_2)] → tw_lp (fx_X12_laysTo_L2 a0 a1) (fun _ _ => none) n v2_2 t1 = some (r, tZ) → W p l e (headSpec (ws_ yX12_laysTo cX12_laysTo 4 (none)) ({ frames := 9, cells := 0, slots := 0, locals := 169 })).room s m ([.ref a0, .int a1] : List Value).toArray below meth c H locs 0 0 (MQ below (gw_Qv K tZ) ([.ref a0, .int a1] : List Value).toArray s 0 0 K.2.2.2.1) (F0 m 2 ls []) := by
    intro n
    induction n with
    | zero => intro v2_2 t1 H locs ls hP hS hl hf; exact (tw_no hf).elim
    | succ n ih2 =>
      intro v2_2 t1 H locs ls hP hS hl hf
      obtain ⟨sf2, hs2⟩ : ∃ f, f = tw_lp (fx_X12_laysTo_L2 a0 a1) (fun _ _ => none) n := ⟨_, rfl⟩
      rw [← hs2] at ih2
      have hf : fx_X12_laysTo_L2 a0 a1 sf2 v2_2 t1 = some (r, tZ) := by rw [hs2]; exact hf
      clear hs2
      unfold fx_X12_laysTo_L2 at hf
      refine lv_iload_n hx hb dX12_laysTo_2 rfl (lv_at hl 2 rfl) ?_
      refine lv_bipush (v := (10 : Int32)) hx hb dX12_laysTo_3 (by decide) ?_
      refine lv_icmp_ge (tgt := 22) hx hb dX12_laysTo_5 (by decide) (fun hc => ?_) (fun hc => ?_)
      · have hf := tw_ifT hc hf
        refine lv_iconst (v := (1 : Int32)) hx hb dX12_laysTo_22 (by decide) ?_
        refine lv_istore_n (lv' := [(2, .int (1 : Int32)), (0, .ref a0), (1, .int a1)]) hx hb dX12_laysTo_23 rfl hl (by decide) rfl (fun ls hl => ?_)
        have k24 : ∀ (n : Nat) (v24_2 : Int32) (t2 : Hp) (H : Heap) (locs : List Loc) (ls : Array Slot), gw_P K t2 H → va_S K.2.2.2.1 s.heap H locs → lv_has ls 4 [(0, .ref a0), (1, .int a1), (2, .int v24_2)] → tw_lp (fx_X12_laysTo_L24 a0 a1) (fun _ _ => none) n v24_2 t2 = some (r, tZ) → W p l e (headSpec (ws_ yX12_laysTo cX12_laysTo 4 (none)) ({ frames := 9, cells := 0, slots := 0, locals := 169 })).room s m ([.ref a0, .int a1] : List Value).toArray below meth c H locs 0 0 (MQ below (gw_Qv K tZ) ([.ref a0, .int a1] : List Value).toArray s 0 0 K.2.2.2.1) (F0 m 24 ls []) := by
          intro n
          induction n with
          | zero => intro v24_2 t2 H locs ls hP hS hl hf; exact (tw_no hf).elim
          | succ n ih24 =>
            intro v24_2 t2 H locs ls hP hS hl hf
            obtain ⟨sf24, hs24⟩ : ∃ f, f = tw_lp (fx_X12_laysTo_L24 a0 a1) (fun _ _ => none) n := ⟨_, rfl⟩
            rw [← hs24] at ih24
            have hf : fx_X12_laysTo_L24 a0 a1 sf24 v24_2 t2 = some (r, tZ) := by rw [hs24]; exact hf
            clear hs24
            unfold fx_X12_laysTo_L24 at hf
            refine lv_iload_n hx hb dX12_laysTo_24 rfl (lv_at hl 2 rfl) ?_
            refine lv_aload_n hx hb dX12_laysTo_25 rfl (lv_at hl 0 rfl) ?_
            obtain ⟨x3, t4, e5, hf⟩ := tw_bdE hf
            refine gw_rget (ci := 11) (k := 4) (T := TX12) C hP rfl in_X12 (by decide) e5 q1060 rfl dX12_laysTo_26 (fun hP => ?_)
            obtain ⟨x6, t7, e8, hf⟩ := tw_bdE hf
            refine gw_rgetN (ci := 0) (k := 4) (T := TX1) C hP rfl in_X1 (by decide) e8 q396 rfl dX12_laysTo_29 (fun hP => ?_)
            obtain ⟨x9, t10, e11, hf⟩ := tw_bdE hf
            refine gw_igetN (ci := 1) (k := 2) (T := TX2) C hP rfl in_X2 (by decide) e11 q158 rfl dX12_laysTo_32 (fun hP => ?_)
            refine lv_icmp_gt (tgt := 94) hx hb dX12_laysTo_35 (by decide) (fun hc => ?_) (fun hc => ?_)
            · have hf := tw_ifT hc hf
              exact gw_iretv (tw_rtE hf).2 rfl rfl C hr hP hS hlk dX12_laysTo_94
            · have hf := tw_ifF hc hf
              refine lv_iconst (v := (0 : Int32)) hx hb dX12_laysTo_38 (by decide) ?_
              refine lv_istore_n (lv' := [(3, .int (0 : Int32)), (0, .ref a0), (1, .int a1), (2, .int v24_2)]) hx hb dX12_laysTo_39 rfl hl (by decide) rfl (fun ls hl => ?_)
              have k40 : ∀ (n : Nat) (v40_3 : Int32) (t12 : Hp) (H : Heap) (locs : List Loc) (ls : Array Slot), gw_P K t12 H → va_S K.2.2.2.1 s.heap H locs → lv_has ls 4 [(0, .ref a0), (1, .int a1), (2, .int v24_2), (3, .int v40_3)] → tw_lp (fx_X12_laysTo_L40 a0 sf24 v24_2 a1) (fun _ _ => none) n v40_3 t12 = some (r, tZ) → W p l e (headSpec (ws_ yX12_laysTo cX12_laysTo 4 (none)) ({ frames := 9, cells := 0, slots := 0, locals := 169 })).room s m ([.ref a0, .int a1] : List Value).toArray below meth c H locs 0 0 (MQ below (gw_Qv K tZ) ([.ref a0, .int a1] : List Value).toArray s 0 0 K.2.2.2.1) (F0 m 40 ls []) := by
                intro n
                induction n with
                | zero => intro v40_3 t12 H locs ls hP hS hl hf; exact (tw_no hf).elim
                | succ n ih40 =>
                  intro v40_3 t12 H locs ls hP hS hl hf
                  obtain ⟨sf40, hs40⟩ : ∃ f, f = tw_lp (fx_X12_laysTo_L40 a0 sf24 v24_2 a1) (fun _ _ => none) n := ⟨_, rfl⟩
                  rw [← hs40] at ih40
                  have hf : fx_X12_laysTo_L40 a0 sf24 v24_2 a1 sf40 v40_3 t12 = some (r, tZ) := by rw [hs40]; exact hf
                  clear hs40
                  unfold fx_X12_laysTo_L40 at hf
                  refine lv_iload_n hx hb dX12_laysTo_40 rfl (lv_at hl 3 rfl) ?_
                  refine lv_aload_n hx hb dX12_laysTo_41 rfl (lv_at hl 0 rfl) ?_
                  obtain ⟨x13, t14, e15, hf⟩ := tw_bdE hf
                  refine gw_rget (ci := 11) (k := 4) (T := TX12) C hP rfl in_X12 (by decide) e15 q1060 rfl dX12_laysTo_42 (fun hP => ?_)
                  obtain ⟨x16, t17, e18, hf⟩ := tw_bdE hf
                  refine gw_rgetN (ci := 0) (k := 4) (T := TX1) C hP rfl in_X1 (by decide) e18 q396 rfl dX12_laysTo_45 (fun hP => ?_)
                  obtain ⟨x19, t20, e21, hf⟩ := tw_bdE hf
                  refine gw_igetN (ci := 1) (k := 2) (T := TX2) C hP rfl in_X2 (by decide) e21 q158 rfl dX12_laysTo_48 (fun hP => ?_)
                  refine lv_icmp_ge (tgt := 88) hx hb dX12_laysTo_51 (by decide) (fun hc => ?_) (fun hc => ?_)
                  · have hf := tw_ifT hc hf
                    refine lv_iinc (v := (v24_2 + (1 : Int32))) (lv' := [(2, .int (v24_2 + (1 : Int32))), (0, .ref a0), (1, .int a1), (3, .int v40_3)]) hx hb dX12_laysTo_88 hl (k := 2) rfl rfl (by decide) rfl (fun ls hl => ?_)
                    refine lv_goto (tgt := 24) hx hb dX12_laysTo_91 (by decide) ?_
                    exact ih24 _ _ _ _ _ hP hS (lv_sub hl [1, 2, 0] rfl) hf
                  · have hf := tw_ifF hc hf
                    refine lv_aload_n hx hb dX12_laysTo_54 rfl (lv_at hl 0 rfl) ?_
                    obtain ⟨x22, t23, e24, hf⟩ := tw_bdE hf
                    refine gw_rget (ci := 11) (k := 1) (T := TX12) C hP rfl in_X12 (by decide) e24 q1055 rfl dX12_laysTo_55 (fun hP => ?_)
                    refine lv_iload_n hx hb dX12_laysTo_58 rfl (lv_at hl 3 rfl) ?_
                    obtain ⟨x25, t26, e27, hf⟩ := tw_bdE hf
                    refine gw_iald C hP e27 dX12_laysTo_59 (fun hP => ?_)
                    refine lv_bipush (v := (99 : Int32)) hx hb dX12_laysTo_60 (by decide) ?_
                    have k82 : ∀  (t28 : Hp) (H : Heap) (locs : List Loc) (ls : Array Slot), gw_P K t28 H → va_S K.2.2.2.1 s.heap H locs → lv_has ls 4 [(0, .ref a0), (1, .int a1), (2, .int v24_2), (3, .int v40_3)] → fx_X12_laysTo_J82 sf40 v40_3  t28 = some (r, tZ) → W p l e (headSpec (ws_ yX12_laysTo cX12_laysTo 4 (none)) ({ frames := 9, cells := 0, slots := 0, locals := 169 })).room s m ([.ref a0, .int a1] : List Value).toArray below meth c H locs 0 0 (MQ below (gw_Qv K tZ) ([.ref a0, .int a1] : List Value).toArray s 0 0 K.2.2.2.1) (F0 m 82 ls []) := by
                      intro t28 H locs ls hP hS hl hf
                      unfold fx_X12_laysTo_J82 at hf
                      refine lv_iinc (v := (v40_3 + (1 : Int32))) (lv' := [(3, .int (v40_3 + (1 : Int32))), (0, .ref a0), (1, .int a1), (2, .int v24_2)]) hx hb dX12_laysTo_82 hl (k := 3) rfl rfl (by decide) rfl (fun ls hl => ?_)
                      refine lv_goto (tgt := 40) hx hb dX12_laysTo_85 (by decide) ?_
                      exact ih40 _ _ _ _ _ hP hS (lv_sub hl [1, 2, 3, 0] rfl) hf
                    refine lv_icmp_ne (tgt := 82) hx hb dX12_laysTo_62 (by decide) (fun hc => ?_) (fun hc => ?_)
                    · have hf := tw_ifF hc hf
                      exact k82 _ _ _ _ hP hS (lv_sub hl [0, 1, 2, 3] rfl) hf
                    · have hf := tw_ifT hc hf
                      refine lv_aload_n hx hb dX12_laysTo_65 rfl (lv_at hl 0 rfl) ?_
                      refine lv_iload_n hx hb dX12_laysTo_66 rfl (lv_at hl 3 rfl) ?_
                      refine lv_iload_n hx hb dX12_laysTo_67 rfl (lv_at hl 1 rfl) ?_
                      refine lv_iload_n hx hb dX12_laysTo_68 rfl (lv_at hl 2 rfl) ?_
                      obtain ⟨x29, t30, e31, hf⟩ := tw_bdE hf
                      refine gw_cVi (As := [.int v40_3, .int a1, .int v24_2]) (rest := []) (ci := 11) (T := TX12) (N := 5) C hml hP hS rfl (gw_onE e31).1 (mx_X12_isAhead (l := l) (K := K) hA _ _ _ _ _ _ _ (gw_onE e31).2) (cwV 3 hts (lw_V q1084 q1086 qs26 q125 q1087) rfl rfl rfl hdX12_isAhead ⟨Nat.le_of_ble_eq_true rfl, Nat.le_of_ble_eq_true rfl⟩) rfl hl.1 rfl (Nat.le_of_ble_eq_true rfl) (Nat.zero_le _) (Nat.zero_le _) dX12_laysTo_69 (fun H locs hP hS => ?_)
                      refine lv_if_eq (tgt := 82) hx hb dX12_laysTo_72 (by decide) (fun hc => ?_) (fun hc => ?_)
                      · have hf := tw_ifT hc hf
                        exact k82 _ _ _ _ hP hS (lv_sub hl [0, 1, 2, 3] rfl) hf
                      · have hf := tw_ifF hc hf
                        refine lv_aload_n hx hb dX12_laysTo_75 rfl (lv_at hl 0 rfl) ?_
                        obtain ⟨x32, t33, e34, hf⟩ := tw_bdE hf
                        refine gw_rget (ci := 11) (k := 1) (T := TX12) C hP rfl in_X12 (by decide) e34 q1055 rfl dX12_laysTo_76 (fun hP => ?_)
                        refine lv_iload_n hx hb dX12_laysTo_79 rfl (lv_at hl 3 rfl) ?_
                        refine lv_iload_n hx hb dX12_laysTo_80 rfl (lv_at hl 2 rfl) ?_
                        obtain ⟨x35, t36, e37, hf⟩ := tw_bdE hf
                        refine gw_iast C hP hS e37 dX12_laysTo_81 (fun H locs hP hS => ?_)
                        exact k82 _ _ _ _ hP hS (lv_sub hl [0, 1, 2, 3] rfl) hf
              exact k40 _ _ _ _ _ _ hP hS (lv_sub hl [1, 2, 3, 0] rfl) hf
        exact k24 _ _ _ _ _ _ hP hS (lv_sub hl [1, 2, 0] rfl) hf
      · have hf := tw_ifF hc hf
        refine lv_aload_n hx hb dX12_laysTo_8 rfl (lv_at hl 0 rfl) ?_
        obtain ⟨x38, t39, e40, hf⟩ := tw_bdE hf
        refine gw_rget (ci := 11) (k := 1) (T := TX12) C hP rfl in_X12 (by decide) e40 q1055 rfl dX12_laysTo_9 (fun hP => ?_)
        refine lv_iload_n hx hb dX12_laysTo_12 rfl (lv_at hl 2 rfl) ?_
        refine lv_bipush (v := (99 : Int32)) hx hb dX12_laysTo_13 (by decide) ?_
        obtain ⟨x41, t42, e43, hf⟩ := tw_bdE hf
        refine gw_iast C hP hS e43 dX12_laysTo_15 (fun H locs hP hS => ?_)
        refine lv_iinc (v := (v2_2 + (1 : Int32))) (lv' := [(2, .int (v2_2 + (1 : Int32))), (0, .ref a0), (1, .int a1)]) hx hb dX12_laysTo_16 hl (k := 2) rfl rfl (by decide) rfl (fun ls hl => ?_)
        refine lv_goto (tgt := 2) hx hb dX12_laysTo_19 (by decide) ?_
        exact ih2 _ _ _ _ _ hP hS (lv_sub hl [1, 2, 0] rfl) hf
  exact k2 _ _ _ _ _ _ hP hS (lv_sub hl [1, 2, 0] rfl) hf
def fx_X12_inAny_J42 (sf4 : Int32 → Int32 → HM Int32) (v4_2 : Int32) (v42_1 : Int32) : HM Int32 :=
  sf4 v42_1 (v4_2 + (1 : Int32))
def fx_X12_inAny_L4 (a0 : Nat) (sf4 : Int32 → Int32 → HM Int32) (v4_1 : Int32) (v4_2 : Int32) : HM Int32 :=
  tw_bd (gw_gr 11 4 a0) fun x2 =>
  tw_bd (gw_gr 0 4 x2) fun x5 =>
  tw_bd (gw_gi 1 2 x5) fun x8 =>
  if x8 ≤ v4_2 then (tw_rt v4_1)
  else (tw_bd (gw_on 11 a0 (fx_X12_laysTo a0 v4_2)) fun _ =>
  tw_bd (gw_gr 11 1 a0) fun x14 =>
  tw_bd (gw_ld 0 x14 v4_2) fun x17 =>
  if (99 : Int32) ≤ x17 then (fx_X12_inAny_J42 sf4 v4_2 v4_1)
  else ( tw_bd (gw_bt v4_2) fun x21 =>
 
  fx_X12_inAny_J42 sf4 v4_2 (v4_1 ||| x21)))
def fx_X12_inAny (a0 : Nat) : HM Int32 :=
  tw_lp (fx_X12_inAny_L4 a0) (fun _ _ _ => none) tw_fu (0 : Int32) (0 : Int32)
theorem hdX12_inAny : yX12_inAny.cls = "LosslessFabric$Cycle" ∧ (yX12_inAny.cls ≠ "java/lang/invoke/MethodHandle" ∧ yX12_inAny.cls ≠ "java/lang/invoke/VarHandle" ∧ (parseMethodDescriptor yX12_inAny.desc).map (fun d => d.parameters.length) = some 0) := by decide +kernel
set_option maxHeartbeats 4000000 in
theorem mx_X12_inAny {l : Launch} {K : GK} (hA : gw_A K) (a0 : Nat) (t0 tZ : Hp) (r : Int32) (hf : fx_X12_inAny a0 t0 = some (r, tZ)) : Met l yX12_inAny (ws_ yX12_inAny cX12_inAny 3 (some (.int))) ({ frames := 10, cells := 0, slots := 0, locals := 192 }) (va_Pc [.ref a0] (gw_W K t0)) (gw_Qi K r tZ) 0 0 K.2.2.2.1 := by
  refine Met.ofW (cc := cX12_inAny) (maxL := 3) (ret := some (.int)) (by decide) rfl ?_
  intro p e s m args below meth c s₁ B hml hv
  obtain ⟨rfl, hP, hK, hX, hN, hL⟩ := hv
  have hx := B.exec
  have hb := B.bytes
  have hr := B.returns
  have hts := atoms_spec (ws := (ws_ yX12_inAny cX12_inAny 3 (some (.int)))) B.pre
  have hts : ∀ w ∈ lw_all, w.before _ s = true := fun w h => hts w (List.mem_cons_of_mem _ h)
  have hown : s.vm.findClass "LosslessFabric$Cycle" = some m.cls := findClass_of_methodNamed B.named
  have hlk := B.notSynchronized
  have C : gw_C K "LosslessFabric$Cycle" p s m _ c cX12_inAny := ⟨hx, hb, hts, hown, hK, hA, hX, hN, hL⟩
  have hS : va_S K.2.2.2.1 s.heap s.heap [] := va_S.rf
  have hl := lv_entry ([.ref a0]) (n := 3) (Nat.le_of_ble_eq_true rfl)
  rw [lg_entry_eq]
  generalize (lg_sl ([.ref a0]) ++ List.replicate (3 - (lg_sl ([.ref a0])).length) Slot.unset).toArray = ls at hl ⊢
  have hl : lv_has ls 3 [(0, .ref a0)] := hl
  unfold fx_X12_inAny at hf
  refine lv_iconst (v := (0 : Int32)) hx hb dX12_inAny_0 (by decide) ?_
  refine lv_istore_n (lv' := [(1, .int (0 : Int32)), (0, .ref a0)]) hx hb dX12_inAny_1 rfl hl (by decide) rfl (fun ls hl => ?_)
  refine lv_iconst (v := (0 : Int32)) hx hb dX12_inAny_2 (by decide) ?_
  refine lv_istore_n (lv' := [(2, .int (0 : Int32)), (1, .int (0 : Int32)), (0, .ref a0)]) hx hb dX12_inAny_3 rfl hl (by decide) rfl (fun ls hl => ?_)
  have k4 : ∀ (n : Nat) (v4_1 : Int32) (v4_2 : Int32) (t1 : Hp) (H : Heap) (locs : List Loc) (ls : Array Slot), gw_P K t1 H → va_S K.2.2.2.1 s.heap H locs → lv_has ls 3 [(0, .ref a0), (1, .int v4_1), (2, .int v4_2)] → tw_lp (fx_X12_inAny_L4 a0) (fun _ _ _ => none) n v4_1 v4_2 t1 = some (r, tZ) → W p l e (headSpec (ws_ yX12_inAny cX12_inAny 3 (some (.int))) ({ frames := 10, cells := 0, slots := 0, locals := 192 })).room s m ([.ref a0] : List Value).toArray below meth c H locs 0 0 (MQ below (gw_Qi K r tZ) ([.ref a0] : List Value).toArray s 0 0 K.2.2.2.1) (F0 m 4 ls []) := by
    intro n
    induction n with
    | zero => intro v4_1 v4_2 t1 H locs ls hP hS hl hf; exact (tw_no hf).elim
    | succ n ih4 =>
      intro v4_1 v4_2 t1 H locs ls hP hS hl hf
      obtain ⟨sf4, hs4⟩ : ∃ f, f = tw_lp (fx_X12_inAny_L4 a0) (fun _ _ _ => none) n := ⟨_, rfl⟩
      rw [← hs4] at ih4
      have hf : fx_X12_inAny_L4 a0 sf4 v4_1 v4_2 t1 = some (r, tZ) := by rw [hs4]; exact hf
      clear hs4
      unfold fx_X12_inAny_L4 at hf
      refine lv_iload_n hx hb dX12_inAny_4 rfl (lv_at hl 2 rfl) ?_
      refine lv_aload_n hx hb dX12_inAny_5 rfl (lv_at hl 0 rfl) ?_
      obtain ⟨x2, t3, e4, hf⟩ := tw_bdE hf
      refine gw_rget (ci := 11) (k := 4) (T := TX12) C hP rfl in_X12 (by decide) e4 q1060 rfl dX12_inAny_6 (fun hP => ?_)
      obtain ⟨x5, t6, e7, hf⟩ := tw_bdE hf
      refine gw_rgetN (ci := 0) (k := 4) (T := TX1) C hP rfl in_X1 (by decide) e7 q396 rfl dX12_inAny_9 (fun hP => ?_)
      obtain ⟨x8, t9, e10, hf⟩ := tw_bdE hf
      refine gw_igetN (ci := 1) (k := 2) (T := TX2) C hP rfl in_X2 (by decide) e10 q158 rfl dX12_inAny_12 (fun hP => ?_)
      refine lv_icmp_ge (tgt := 48) hx hb dX12_inAny_15 (by decide) (fun hc => ?_) (fun hc => ?_)
      · have hf := tw_ifT hc hf
        refine lv_iload_n hx hb dX12_inAny_48 rfl (lv_at hl 1 rfl) ?_
        exact gw_ireti (tw_rtE hf).1 (tw_rtE hf).2 rfl rfl C hr hP hS hlk dX12_inAny_49
      · have hf := tw_ifF hc hf
        refine lv_aload_n hx hb dX12_inAny_18 rfl (lv_at hl 0 rfl) ?_
        refine lv_iload_n hx hb dX12_inAny_19 rfl (lv_at hl 2 rfl) ?_
        obtain ⟨x11, t12, e13, hf⟩ := tw_bdE hf
        refine gw_cVv (As := [.int v4_2]) (rest := []) (ci := 11) (T := TX12) (N := 5) C hml hP hS rfl (gw_onE e13).1 (mx_X12_laysTo (l := l) (K := K) hA _ _ _ _ _ (gw_onE e13).2) (cwV 1 hts (lw_V q1080 q1082 qs25 q125 q1083) rfl rfl rfl hdX12_laysTo ⟨Nat.le_of_ble_eq_true rfl, Nat.le_of_ble_eq_true rfl⟩) rfl hl.1 rfl (Nat.le_of_ble_eq_true rfl) (Nat.zero_le _) (Nat.zero_le _) dX12_inAny_20 (fun H locs hP hS => ?_)
        refine lv_aload_n hx hb dX12_inAny_23 rfl (lv_at hl 0 rfl) ?_
        obtain ⟨x14, t15, e16, hf⟩ := tw_bdE hf
        refine gw_rget (ci := 11) (k := 1) (T := TX12) C hP rfl in_X12 (by decide) e16 q1055 rfl dX12_inAny_24 (fun hP => ?_)
        refine lv_iload_n hx hb dX12_inAny_27 rfl (lv_at hl 2 rfl) ?_
        obtain ⟨x17, t18, e19, hf⟩ := tw_bdE hf
        refine gw_iald C hP e19 dX12_inAny_28 (fun hP => ?_)
        refine lv_bipush (v := (99 : Int32)) hx hb dX12_inAny_29 (by decide) ?_
        have k42 : ∀ (v42_1 : Int32) (t20 : Hp) (H : Heap) (locs : List Loc) (ls : Array Slot), gw_P K t20 H → va_S K.2.2.2.1 s.heap H locs → lv_has ls 3 [(0, .ref a0), (1, .int v42_1), (2, .int v4_2)] → fx_X12_inAny_J42 sf4 v4_2 v42_1 t20 = some (r, tZ) → W p l e (headSpec (ws_ yX12_inAny cX12_inAny 3 (some (.int))) ({ frames := 10, cells := 0, slots := 0, locals := 192 })).room s m ([.ref a0] : List Value).toArray below meth c H locs 0 0 (MQ below (gw_Qi K r tZ) ([.ref a0] : List Value).toArray s 0 0 K.2.2.2.1) (F0 m 42 ls []) := by
          intro v42_1 t20 H locs ls hP hS hl hf
          unfold fx_X12_inAny_J42 at hf
          refine lv_iinc (v := (v4_2 + (1 : Int32))) (lv' := [(2, .int (v4_2 + (1 : Int32))), (0, .ref a0), (1, .int v42_1)]) hx hb dX12_inAny_42 hl (k := 2) rfl rfl (by decide) rfl (fun ls hl => ?_)
          refine lv_goto (tgt := 4) hx hb dX12_inAny_45 (by decide) ?_
          exact ih4 _ _ _ _ _ _ hP hS (lv_sub hl [1, 2, 0] rfl) hf
        refine lv_icmp_ge (tgt := 42) hx hb dX12_inAny_31 (by decide) (fun hc => ?_) (fun hc => ?_)
        · have hf := tw_ifT hc hf
          exact k42 _ _ _ _ _ hP hS (lv_sub hl [0, 1, 2] rfl) hf
        · have hf := tw_ifF hc hf
          refine lv_iload_n hx hb dX12_inAny_34 rfl (lv_at hl 1 rfl) ?_
          refine va_getsN hx hb hX.2.2.2.2.2.1 hS hown (gw_Nw hN q1092 rfl rfl) (fun _ h => h) dX12_inAny_35 ?_
          refine lv_iload_n hx hb dX12_inAny_38 rfl (lv_at hl 2 rfl) ?_
          obtain ⟨x21, t22, e23, hf⟩ := tw_bdE hf
          refine gw_bits C hS e23 dX12_inAny_39 (fun ht => ?_)
          rw [ht] at hP
          refine lv_ior hx hb dX12_inAny_40 ?_
          refine lv_istore_n (lv' := [(1, .int (v4_1 ||| x21)), (0, .ref a0), (2, .int v4_2)]) hx hb dX12_inAny_41 rfl hl (by decide) rfl (fun ls hl => ?_)
          exact k42 _ _ _ _ _ hP hS (lv_sub hl [1, 0, 2] rfl) hf
  exact k4 _ _ _ _ _ _ _ hP hS (lv_sub hl [2, 1, 0] rfl) hf
def fx_X3_all_J67 (sf4 : Int32 → Int32 → HM Int32) (v4_2 : Int32) (v4_3 : Int32) (w67_0 : Int32) : HM Int32 :=
  sf4 (v4_2 + w67_0) (v4_3 + (1 : Int32))
def fx_X3_all_L4 (a0 : Nat) (a1 : Int32) (sf4 : Int32 → Int32 → HM Int32) (v4_2 : Int32) (v4_3 : Int32) : HM Int32 :=
  tw_bd (gw_gr 2 0 a0) fun x2 =>
  tw_bd (gw_gi 1 3 x2) fun x5 =>
  if x5 ≤ v4_3 then (tw_rt v4_2)
  else (tw_bd (gw_gr 2 3 a0) fun x8 =>
  tw_bd (gw_lr 7 x8 v4_3) fun x11 =>
  if a1 = 0 then (tw_bd (gw_gi 4 2 x11) fun x24 =>
 
  fx_X3_all_J67 sf4 v4_2 v4_3 x24)
  else (if a1 = (1 : Int32) then (tw_bd (gw_gi 4 3 x11) fun x21 =>
 
  fx_X3_all_J67 sf4 v4_2 v4_3 x21)
  else (if a1 = (2 : Int32) then (tw_bd (gw_gi 4 5 x11) fun x18 =>
 
  fx_X3_all_J67 sf4 v4_2 v4_3 x18)
  else (tw_bd (gw_gi 4 4 x11) fun x15 =>
 
  fx_X3_all_J67 sf4 v4_2 v4_3 x15))))
def fx_X3_all (a0 : Nat) (a1 : Int32) : HM Int32 :=
  tw_lp (fx_X3_all_L4 a0 a1) (fun _ _ _ => none) tw_fu (0 : Int32) (0 : Int32)
theorem hdX3_all : yX3_all.cls = "LosslessFabric$State" ∧ (yX3_all.cls ≠ "java/lang/invoke/MethodHandle" ∧ yX3_all.cls ≠ "java/lang/invoke/VarHandle" ∧ (parseMethodDescriptor yX3_all.desc).map (fun d => d.parameters.length) = some 1) := by decide +kernel
set_option maxHeartbeats 4000000 in
theorem mx_X3_all {l : Launch} {K : GK} (hA : gw_A K) (a0 : Nat) (a1 : Int32) (t0 tZ : Hp) (r : Int32) (hf : fx_X3_all a0 a1 t0 = some (r, tZ)) : Met l yX3_all (ws_ yX3_all cX3_all 5 (some (.int))) ({ frames := 2, cells := 0, slots := 0, locals := 12 }) (va_Pc [.ref a0, .int a1] (gw_W K t0)) (gw_Qi K r tZ) 0 0 K.2.2.2.1 := by
  refine Met.ofW (cc := cX3_all) (maxL := 5) (ret := some (.int)) (by decide) rfl ?_
  intro p e s m args below meth c s₁ B hml hv
  obtain ⟨rfl, hP, hK, hX, hN, hL⟩ := hv
  have hx := B.exec
  have hb := B.bytes
  have hr := B.returns
  have hts := atoms_spec (ws := (ws_ yX3_all cX3_all 5 (some (.int)))) B.pre
  have hts : ∀ w ∈ lw_all, w.before _ s = true := fun w h => hts w (List.mem_cons_of_mem _ h)
  have hown : s.vm.findClass "LosslessFabric$State" = some m.cls := findClass_of_methodNamed B.named
  have hlk := B.notSynchronized
  have C : gw_C K "LosslessFabric$State" p s m _ c cX3_all := ⟨hx, hb, hts, hown, hK, hA, hX, hN, hL⟩
  have hS : va_S K.2.2.2.1 s.heap s.heap [] := va_S.rf
  have hl := lv_entry ([.ref a0, .int a1]) (n := 5) (Nat.le_of_ble_eq_true rfl)
  rw [lg_entry_eq]
  generalize (lg_sl ([.ref a0, .int a1]) ++ List.replicate (5 - (lg_sl ([.ref a0, .int a1])).length) Slot.unset).toArray = ls at hl ⊢
  have hl : lv_has ls 5 [(0, .ref a0), (1, .int a1)] := hl
  unfold fx_X3_all at hf
  refine lv_iconst (v := (0 : Int32)) hx hb dX3_all_0 (by decide) ?_
  refine lv_istore_n (lv' := [(2, .int (0 : Int32)), (0, .ref a0), (1, .int a1)]) hx hb dX3_all_1 rfl hl (by decide) rfl (fun ls hl => ?_)
  refine lv_iconst (v := (0 : Int32)) hx hb dX3_all_2 (by decide) ?_
  refine lv_istore_n (lv' := [(3, .int (0 : Int32)), (2, .int (0 : Int32)), (0, .ref a0), (1, .int a1)]) hx hb dX3_all_3 rfl hl (by decide) rfl (fun ls hl => ?_)
  have k4 : ∀ (n : Nat) (v4_2 : Int32) (v4_3 : Int32) (t1 : Hp) (H : Heap) (locs : List Loc) (ls : Array Slot), gw_P K t1 H → va_S K.2.2.2.1 s.heap H locs → lv_has ls 5 [(0, .ref a0), (1, .int a1), (2, .int v4_2), (3, .int v4_3)] → tw_lp (fx_X3_all_L4 a0 a1) (fun _ _ _ => none) n v4_2 v4_3 t1 = some (r, tZ) → W p l e (headSpec (ws_ yX3_all cX3_all 5 (some (.int))) ({ frames := 2, cells := 0, slots := 0, locals := 12 })).room s m ([.ref a0, .int a1] : List Value).toArray below meth c H locs 0 0 (MQ below (gw_Qi K r tZ) ([.ref a0, .int a1] : List Value).toArray s 0 0 K.2.2.2.1) (F0 m 4 ls []) := by
    intro n
    induction n with
    | zero => intro v4_2 v4_3 t1 H locs ls hP hS hl hf; exact (tw_no hf).elim
    | succ n ih4 =>
      intro v4_2 v4_3 t1 H locs ls hP hS hl hf
      obtain ⟨sf4, hs4⟩ : ∃ f, f = tw_lp (fx_X3_all_L4 a0 a1) (fun _ _ _ => none) n := ⟨_, rfl⟩
      rw [← hs4] at ih4
      have hf : fx_X3_all_L4 a0 a1 sf4 v4_2 v4_3 t1 = some (r, tZ) := by rw [hs4]; exact hf
      clear hs4
      unfold fx_X3_all_L4 at hf
      refine lv_iload_n hx hb dX3_all_4 rfl (lv_at hl 3 rfl) ?_
      refine lv_aload_n hx hb dX3_all_5 rfl (lv_at hl 0 rfl) ?_
      obtain ⟨x2, t3, e4, hf⟩ := tw_bdE hf
      refine gw_rget (ci := 2) (k := 0) (T := TX3) C hP rfl in_X3 (by decide) e4 q351 rfl dX3_all_6 (fun hP => ?_)
      obtain ⟨x5, t6, e7, hf⟩ := tw_bdE hf
      refine gw_igetN (ci := 1) (k := 3) (T := TX2) C hP rfl in_X2 (by decide) e7 q163 rfl dX3_all_9 (fun hP => ?_)
      refine lv_icmp_ge (tgt := 75) hx hb dX3_all_12 (by decide) (fun hc => ?_) (fun hc => ?_)
      · have hf := tw_ifT hc hf
        refine lv_iload_n hx hb dX3_all_75 rfl (lv_at hl 2 rfl) ?_
        exact gw_ireti (tw_rtE hf).1 (tw_rtE hf).2 rfl rfl C hr hP hS hlk dX3_all_76
      · have hf := tw_ifF hc hf
        refine lv_aload_n hx hb dX3_all_15 rfl (lv_at hl 0 rfl) ?_
        obtain ⟨x8, t9, e10, hf⟩ := tw_bdE hf
        refine gw_rget (ci := 2) (k := 3) (T := TX3) C hP rfl in_X3 (by decide) e10 q356 rfl dX3_all_16 (fun hP => ?_)
        refine lv_iload_n hx hb dX3_all_19 rfl (lv_at hl 3 rfl) ?_
        obtain ⟨x11, t12, e13, hf⟩ := tw_bdE hf
        refine gw_aald C hP rfl e13 dX3_all_20 (fun hP => ?_)
        refine lv_astore (lv' := [(4, .ref x11), (0, .ref a0), (1, .int a1), (2, .int v4_2), (3, .int v4_3)]) hx hb dX3_all_21 hl (by decide) rfl (fun ls hl => ?_)
        refine lv_iload_n hx hb dX3_all_23 rfl (lv_at hl 3 rfl) ?_
        refine lv_iload_n hx hb dX3_all_24 rfl (lv_at hl 2 rfl) ?_
        have k67 : ∀ (w67_0 : Int32) (t14 : Hp) (H : Heap) (locs : List Loc) (ls : Array Slot), gw_P K t14 H → va_S K.2.2.2.1 s.heap H locs → lv_has ls 5 [(0, .ref a0), (1, .int a1), (3, .int v4_3)] → fx_X3_all_J67 sf4 v4_2 v4_3 w67_0 t14 = some (r, tZ) → W p l e (headSpec (ws_ yX3_all cX3_all 5 (some (.int))) ({ frames := 2, cells := 0, slots := 0, locals := 12 })).room s m ([.ref a0, .int a1] : List Value).toArray below meth c H locs 0 0 (MQ below (gw_Qi K r tZ) ([.ref a0, .int a1] : List Value).toArray s 0 0 K.2.2.2.1) (F0 m 67 ls [.int w67_0, .int v4_2]) := by
          intro w67_0 t14 H locs ls hP hS hl hf
          unfold fx_X3_all_J67 at hf
          refine lv_iadd hx hb dX3_all_67 ?_
          refine lv_istore_n (lv' := [(2, .int (v4_2 + w67_0)), (0, .ref a0), (1, .int a1), (3, .int v4_3)]) hx hb dX3_all_68 rfl hl (by decide) rfl (fun ls hl => ?_)
          refine lv_iinc (v := (v4_3 + (1 : Int32))) (lv' := [(3, .int (v4_3 + (1 : Int32))), (2, .int (v4_2 + w67_0)), (0, .ref a0), (1, .int a1)]) hx hb dX3_all_69 hl (k := 3) rfl rfl (by decide) rfl (fun ls hl => ?_)
          refine lv_goto (tgt := 4) hx hb dX3_all_72 (by decide) ?_
          exact ih4 _ _ _ _ _ _ hP hS (lv_sub hl [2, 3, 1, 0] rfl) hf
        refine lv_if_ne (tgt := 36) hx hb dX3_all_25 (by decide) (fun hc => ?_) (fun hc => ?_)
        · have hf := tw_ifF hc hf
          refine lv_iload_n hx hb dX3_all_36 rfl (lv_at hl 2 rfl) ?_
          refine lv_iconst (v := (1 : Int32)) hx hb dX3_all_37 (by decide) ?_
          refine lv_icmp_ne (tgt := 49) hx hb dX3_all_38 (by decide) (fun hc => ?_) (fun hc => ?_)
          · have hf := tw_ifF hc hf
            refine lv_iload_n hx hb dX3_all_49 rfl (lv_at hl 2 rfl) ?_
            refine lv_iconst (v := (2 : Int32)) hx hb dX3_all_50 (by decide) ?_
            refine lv_icmp_ne (tgt := 62) hx hb dX3_all_51 (by decide) (fun hc => ?_) (fun hc => ?_)
            · have hf := tw_ifF hc hf
              refine lv_aload hx hb dX3_all_62 (lv_at hl 0 rfl) ?_
              obtain ⟨x15, t16, e17, hf⟩ := tw_bdE hf
              refine gw_igetN (ci := 4) (k := 4) (T := TX5) C hP rfl in_X5 (by decide) e17 q307 rfl dX3_all_64 (fun hP => ?_)
              exact k67 _ _ _ _ _ hP hS (lv_sub hl [1, 2, 4] rfl) hf
            · have hf := tw_ifT hc hf
              refine lv_aload hx hb dX3_all_54 (lv_at hl 0 rfl) ?_
              obtain ⟨x18, t19, e20, hf⟩ := tw_bdE hf
              refine gw_igetN (ci := 4) (k := 5) (T := TX5) C hP rfl in_X5 (by decide) e20 q310 rfl dX3_all_56 (fun hP => ?_)
              refine lv_goto (tgt := 67) hx hb dX3_all_59 (by decide) ?_
              exact k67 _ _ _ _ _ hP hS (lv_sub hl [1, 2, 4] rfl) hf
          · have hf := tw_ifT hc hf
            refine lv_aload hx hb dX3_all_41 (lv_at hl 0 rfl) ?_
            obtain ⟨x21, t22, e23, hf⟩ := tw_bdE hf
            refine gw_igetN (ci := 4) (k := 3) (T := TX5) C hP rfl in_X5 (by decide) e23 q304 rfl dX3_all_43 (fun hP => ?_)
            refine lv_goto (tgt := 67) hx hb dX3_all_46 (by decide) ?_
            exact k67 _ _ _ _ _ hP hS (lv_sub hl [1, 2, 4] rfl) hf
        · have hf := tw_ifT hc hf
          refine lv_aload hx hb dX3_all_28 (lv_at hl 0 rfl) ?_
          obtain ⟨x24, t25, e26, hf⟩ := tw_bdE hf
          refine gw_igetN (ci := 4) (k := 2) (T := TX5) C hP rfl in_X5 (by decide) e26 q301 rfl dX3_all_30 (fun hP => ?_)
          refine lv_goto (tgt := 67) hx hb dX3_all_33 (by decide) ?_
          exact k67 _ _ _ _ _ hP hS (lv_sub hl [1, 2, 4] rfl) hf
  exact k4 _ _ _ _ _ _ _ hP hS (lv_sub hl [2, 3, 1, 0] rfl) hf
def fx_X1_chance_J46   : gM Int32 :=
  gw_rc (-1 : Int32)
def fx_X1_chance_J243  (w243_0 : Int32) : gM Int32 :=
  gw_rc w243_0
def fx_X1_chance_J177 (sf81 : Int32 → Int32 → gM Int32) (v81_6 : Int32) (v177_5 : Int32) : gM Int32 :=
  sf81 v177_5 (v81_6 + (1 : Int32))
def fx_X1_chance_J146 (a0 : Nat) (a4 : Int32) (sf81 : Int32 → Int32 → gM Int32) (v81_6 : Int32) (v81_5 : Int32)  : gM Int32 :=
  gw_b0 (gw_gr 0 13 a0) fun x57 =>
  gw_bc (gw_on 0 a0 (fx_X1_ticks a0 x57)) fun _ =>
  if a4 = (2 : Int32) then (gw_b0 (gw_gr 0 13 a0) fun x64 =>
  gw_bc (gw_on 0 a0 (fx_X1_paused a0 x64)) fun x67 =>
  gw_b0 (gw_on 11 x67 (fx_X12_inAny x67)) fun x70 =>
  if x70 = 0 then (fx_X1_chance_J177 sf81 v81_6 v81_5)
  else (fx_X1_chance_J177 sf81 v81_6 (v81_5 + (1 : Int32))))
  else (fx_X1_chance_J177 sf81 v81_6 v81_5)
def fx_X1_chance_J143 (x88 : Nat) (a0 : Nat) (a4 : Int32) (sf81 : Int32 → Int32 → gM Int32) (v81_6 : Int32) (v81_5 : Int32) (w143_0 : Int32) : gM Int32 :=
  gw_b0 (gw_pz 4 11 x88 w143_0) fun _ =>
 
  fx_X1_chance_J146 a0 a4 sf81 v81_6 v81_5
def fx_X1_chance_L81 (a2 : Int32) (a4 : Int32) (a0 : Nat) (a3 : Int32) (sf81 : Int32 → Int32 → gM Int32) (v81_5 : Int32) (v81_6 : Int32) : gM Int32 :=
  if a2 ≤ v81_6 then (if a4 = (2 : Int32) then (fx_X1_chance_J243 v81_5)
  else (if a4 = (3 : Int32) then (gw_b0 (gw_gr 0 13 a0) fun x38 =>
  gw_b0 (gw_on 2 x38 (fx_X3_all x38 (3 : Int32))) fun x41 =>
  gw_b0 (gw_gr 0 11 a0) fun x44 =>
  gw_b0 (gw_on 2 x44 (fx_X3_all x44 (3 : Int32))) fun x47 =>
 
  fx_X1_chance_J243 (x41 - x47))
  else (gw_b0 (gw_gr 0 13 a0) fun x26 =>
  gw_b0 (gw_on 2 x26 (fx_X3_all x26 ((1 : Int32) + a4))) fun x29 =>
  gw_b0 (gw_gr 0 11 a0) fun x32 =>
  gw_b0 (gw_on 2 x32 (fx_X3_all x32 ((1 : Int32) + a4))) fun x35 =>
 
  fx_X1_chance_J243 (x29 - x35))))
  else (gw_b0 (gw_gr 0 4 a0) fun x50 =>
  gw_b0 (gw_gi 1 3 x50) fun x53 =>
  if x53 ≤ 0 then (fx_X1_chance_J146 a0 a4 sf81 v81_6 v81_5)
  else (gw_b0 (gw_gr 0 13 a0) fun x73 =>
  gw_b0 (gw_gr 2 3 x73) fun x76 =>
  gw_b0 (gw_gr 0 4 a0) fun x79 =>
  gw_b0 (gw_gi 1 3 x79) fun x82 =>
  gw_b0 (gw_on 0 a0 (fx_X1_draw a0 x82)) fun x85 =>
  gw_b0 (gw_lr 7 x76 x85) fun x88 =>
  gw_b0 (gw_on 0 a0 (fx_X1_draw a0 (100 : Int32))) fun x91 =>
  if a3 ≤ x91 then (fx_X1_chance_J146 a0 a4 sf81 v81_6 v81_5)
  else (gw_b0 (gw_gi 4 11 x88) fun x94 =>
  if x94 = 0 then (fx_X1_chance_J143 x88 a0 a4 sf81 v81_6 v81_5 (1 : Int32))
  else (fx_X1_chance_J143 x88 a0 a4 sf81 v81_6 v81_5 (0 : Int32)))))
def fx_X1_chance_J66 (a0 : Nat) (a2 : Int32) (a4 : Int32) (a3 : Int32) (w66_0 : Int64) : gM Int32 :=
  gw_b0 (gw_pl 0 17 a0 w66_0) fun _ =>
  gw_bc (gw_on 0 a0 (fx_X1_tried a0 (0 : Int32))) fun x21 =>
 
  tw_lp (fx_X1_chance_L81 a2 a4 a0 a3) (fun _ _ _ => none) tw_fu (0 : Int32) (0 : Int32)
def fx_X1_chance (a0 : Nat) (a1 : Int32) (a2 : Int32) (a3 : Int32) (a4 : Int32) : gM Int32 :=
  if a1 < (-1 : Int32) then (fx_X1_chance_J46)
  else (gw_b0 (fx_X1_isIn (a2.toInt64) (1 : Int64) (200 : Int64)) fun x2 =>
  if x2 = 0 then (fx_X1_chance_J46)
  else (gw_bc (gw_na 0 (1 : Int32)) fun x5 =>
  gw_b0 (gw_st x5 (0 : Int32) a3) fun _ =>
  gw_b0 (fx_X1_areIn (0 : Int32) (100 : Int32) x5) fun x11 =>
  if x11 = 0 then (fx_X1_chance_J46)
  else (gw_b0 (fx_X1_isIn (a4.toInt64) (0 : Int64) (3 : Int64)) fun x14 =>
  if x14 = 0 then (fx_X1_chance_J46)
  else (if 0 ≤ a1 then (fx_X1_chance_J66 a0 a2 a4 a3 (a1.toInt64))
  else (gw_b0 (gw_gr 0 4 a0) fun x101 =>
  gw_b0 (gw_gi 1 10 x101) fun x104 =>
 
  fx_X1_chance_J66 a0 a2 a4 a3 (x104.toInt64))))))
theorem hdX1_chance : yX1_chance.cls = "LosslessFabric" ∧ (yX1_chance.cls ≠ "java/lang/invoke/MethodHandle" ∧ yX1_chance.cls ≠ "java/lang/invoke/VarHandle" ∧ (parseMethodDescriptor yX1_chance.desc).map (fun d => d.parameters.length) = some 4) := by decide +kernel
set_option maxHeartbeats 4000000 in
theorem mx_X1_chance {l : Launch} {K : GK} (hA : gw_A K) (a0 : Nat) (a1 : Int32) (a2 : Int32) (a3 : Int32) (a4 : Int32) (t0 tZ : Hp) (r : Int32) (C0 S0 : Nat) (hf : fx_X1_chance a0 a1 a2 a3 a4 t0 = some (r, tZ, C0, S0)) : Met l yX1_chance (ws_ yX1_chance cX1_chance 8 (some (.int))) ({ frames := 11, cells := C0, slots := S0, locals := 3271 }) (va_Pc [.ref a0, .int a1, .int a2, .int a3, .int a4] (gw_W K t0)) (gw_Qi K r tZ) C0 S0 K.2.2.2.1 := by
  refine Met.ofW (cc := cX1_chance) (maxL := 8) (ret := some (.int)) (by decide) rfl ?_
  intro p e s m args below meth c s₁ B hml hv
  obtain ⟨rfl, hP, hK, hX, hN, hL⟩ := hv
  have hx := B.exec
  have hb := B.bytes
  have hr := B.returns
  have hts := atoms_spec (ws := (ws_ yX1_chance cX1_chance 8 (some (.int)))) B.pre
  have hts : ∀ w ∈ lw_all, w.before _ s = true := fun w h => hts w (List.mem_cons_of_mem _ h)
  have hown : s.vm.findClass "LosslessFabric" = some m.cls := findClass_of_methodNamed B.named
  have hlk := B.notSynchronized
  have C : gw_C K "LosslessFabric" p s m _ c cX1_chance := ⟨hx, hb, hts, hown, hK, hA, hX, hN, hL⟩
  have hk : 0 + C0 = C0 := Nat.zero_add _
  have hn : 0 + S0 = S0 := Nat.zero_add _
  have hS : va_S K.2.2.2.1 s.heap s.heap [] := va_S.rf
  have hl := lv_entry ([.ref a0, .int a1, .int a2, .int a3, .int a4]) (n := 8) (Nat.le_of_ble_eq_true rfl)
  rw [lg_entry_eq]
  generalize (lg_sl ([.ref a0, .int a1, .int a2, .int a3, .int a4]) ++ List.replicate (8 - (lg_sl ([.ref a0, .int a1, .int a2, .int a3, .int a4])).length) Slot.unset).toArray = ls at hl ⊢
  have hl : lv_has ls 8 [(0, .ref a0), (1, .int a1), (2, .int a2), (3, .int a3), (4, .int a4)] := hl
  unfold fx_X1_chance at hf
  refine lv_iload_n hx hb dX1_chance_0 rfl (lv_at hl 1 rfl) ?_
  refine lv_iconst (v := (-1 : Int32)) hx hb dX1_chance_1 (by decide) ?_
  have k46 : ∀  (t1 : Hp) (k1 n1 C1 S1 : Nat) (H : Heap) (locs : List Loc) (ls : Array Slot), gw_P K t1 H → va_S K.2.2.2.1 s.heap H locs → k1 + C1 = C0 → n1 + S1 = S0 → lv_has ls 8 [] → fx_X1_chance_J46  t1 = some (r, tZ, C1, S1) → W p l e (headSpec (ws_ yX1_chance cX1_chance 8 (some (.int))) ({ frames := 11, cells := C0, slots := S0, locals := 3271 })).room s m ([.ref a0, .int a1, .int a2, .int a3, .int a4] : List Value).toArray below meth c H locs k1 n1 (MQ below (gw_Qi K r tZ) ([.ref a0, .int a1, .int a2, .int a3, .int a4] : List Value).toArray s C0 S0 K.2.2.2.1) (F0 m 46 ls []) := by
    intro t1 k1 n1 C1 S1 H locs ls hP hS hk hn hl hf
    unfold fx_X1_chance_J46 at hf
    refine lv_iconst (v := (-1 : Int32)) hx hb dX1_chance_46 (by decide) ?_
    obtain ⟨h1, h2, h3, h4⟩ := gw_rcE hf hk hn
    exact gw_ireti h1 h2 h3 h4 C hr hP hS hlk dX1_chance_47
  refine lv_icmp_lt (tgt := 46) hx hb dX1_chance_2 (by decide) (fun hc => ?_) (fun hc => ?_)
  · have hf := tw_ifT hc hf
    exact k46 _ _ _ _ _ _ _ _ hP hS hk hn (lv_sub hl [] rfl) hf
  · have hf := tw_ifF hc hf
    refine lv_iload_n hx hb dX1_chance_5 rfl (lv_at hl 2 rfl) ?_
    refine lv_i2l hx hb dX1_chance_6 rfl ?_
    refine lv_lconst (v := (1 : Int64)) hx hb dX1_chance_7 (by decide) ?_
    refine lv_ldc2 hx hb hown (hts _ q1249) dX1_chance_8 ?_
    obtain ⟨x2, t3, e4, hf⟩ := gw_b0E hf
    refine gw_cSi (As := [.long (a2.toInt64), .long (1 : Int64), .long (200 : Int64)]) (rest := []) C hml hP hS (mx_X1_isIn (l := l) (K := K) hA _ _ _ _ _ _ e4) (va_cwS 3 hts (lw_S q457 q458 q101 q459) rfl rfl rfl hdX1_isIn ⟨Nat.le_of_ble_eq_true rfl, Nat.le_of_ble_eq_true rfl⟩) rfl hl.1 rfl (Nat.le_of_ble_eq_true rfl) (Nat.le.intro hk) (Nat.le.intro hn) dX1_chance_11 (fun H locs hP hS => ?_)
    refine lv_if_eq (tgt := 46) hx hb dX1_chance_14 (by decide) (fun hc => ?_) (fun hc => ?_)
    · have hf := tw_ifT hc hf
      exact k46 _ _ _ _ _ _ _ _ hP hS hk hn (lv_sub hl [] rfl) hf
    · have hf := tw_ifF hc hf
      refine lv_iconst (v := (0 : Int32)) hx hb dX1_chance_17 (by decide) ?_
      refine lv_bipush (v := (100 : Int32)) hx hb dX1_chance_18 (by decide) ?_
      refine lv_iconst (v := (1 : Int32)) hx hb dX1_chance_20 (by decide) ?_
      obtain ⟨x5, t6, c6, s6, C6, S6, e7, hf, hk, hn⟩ := gw_bcE hf hk hn
      refine gw_newa (atype := .int) C hP hS e7 q290 rfl rfl (fun h => h) rfl (by decide) (Nat.le.intro hk) (Nat.le.intro hn) dX1_chance_21 (fun H hP hS => ?_)
      refine lv_dup hx hb dX1_chance_23 rfl ?_
      refine lv_iconst (v := (0 : Int32)) hx hb dX1_chance_24 (by decide) ?_
      refine lv_iload_n hx hb dX1_chance_25 rfl (lv_at hl 3 rfl) ?_
      obtain ⟨x8, t9, e10, hf⟩ := gw_b0E hf
      refine gw_iast C hP hS e10 dX1_chance_26 (fun H locs hP hS => ?_)
      obtain ⟨x11, t12, e13, hf⟩ := gw_b0E hf
      refine gw_cSi (As := [.int (0 : Int32), .int (100 : Int32), .ref x5]) (rest := []) C hml hP hS (mx_X1_areIn (l := l) (K := K) hA _ _ _ _ _ _ e13) (va_cwS 3 hts (lw_S q956 q957 q101 q958) rfl rfl rfl hdX1_areIn ⟨Nat.le_of_ble_eq_true rfl, Nat.le_of_ble_eq_true rfl⟩) rfl hl.1 rfl (Nat.le_of_ble_eq_true rfl) (Nat.le.intro hk) (Nat.le.intro hn) dX1_chance_27 (fun H locs hP hS => ?_)
      refine lv_if_eq (tgt := 46) hx hb dX1_chance_30 (by decide) (fun hc => ?_) (fun hc => ?_)
      · have hf := tw_ifT hc hf
        exact k46 _ _ _ _ _ _ _ _ hP hS hk hn (lv_sub hl [] rfl) hf
      · have hf := tw_ifF hc hf
        refine lv_iload hx hb dX1_chance_33 (lv_at hl 4 rfl) ?_
        refine lv_i2l hx hb dX1_chance_35 rfl ?_
        refine lv_lconst (v := (0 : Int64)) hx hb dX1_chance_36 (by decide) ?_
        refine lv_ldc2 hx hb hown (hts _ q1250) dX1_chance_37 ?_
        obtain ⟨x14, t15, e16, hf⟩ := gw_b0E hf
        refine gw_cSi (As := [.long (a4.toInt64), .long (0 : Int64), .long (3 : Int64)]) (rest := []) C hml hP hS (mx_X1_isIn (l := l) (K := K) hA _ _ _ _ _ _ e16) (va_cwS 3 hts (lw_S q457 q458 q101 q459) rfl rfl rfl hdX1_isIn ⟨Nat.le_of_ble_eq_true rfl, Nat.le_of_ble_eq_true rfl⟩) rfl hl.1 rfl (Nat.le_of_ble_eq_true rfl) (Nat.le.intro hk) (Nat.le.intro hn) dX1_chance_40 (fun H locs hP hS => ?_)
        refine lv_if_ne (tgt := 48) hx hb dX1_chance_43 (by decide) (fun hc => ?_) (fun hc => ?_)
        · have hf := tw_ifF hc hf
          refine lv_aload_n hx hb dX1_chance_48 rfl (lv_at hl 0 rfl) ?_
          refine lv_iload_n hx hb dX1_chance_49 rfl (lv_at hl 1 rfl) ?_
          have k66 : ∀ (w66_0 : Int64) (t17 : Hp) (k17 n17 C17 S17 : Nat) (H : Heap) (locs : List Loc) (ls : Array Slot), gw_P K t17 H → va_S K.2.2.2.1 s.heap H locs → k17 + C17 = C0 → n17 + S17 = S0 → lv_has ls 8 [(0, .ref a0), (2, .int a2), (3, .int a3), (4, .int a4)] → fx_X1_chance_J66 a0 a2 a4 a3 w66_0 t17 = some (r, tZ, C17, S17) → W p l e (headSpec (ws_ yX1_chance cX1_chance 8 (some (.int))) ({ frames := 11, cells := C0, slots := S0, locals := 3271 })).room s m ([.ref a0, .int a1, .int a2, .int a3, .int a4] : List Value).toArray below meth c H locs k17 n17 (MQ below (gw_Qi K r tZ) ([.ref a0, .int a1, .int a2, .int a3, .int a4] : List Value).toArray s C0 S0 K.2.2.2.1) (F0 m 66 ls [.long w66_0, .ref a0]) := by
            intro w66_0 t17 k17 n17 C17 S17 H locs ls hP hS hk hn hl hf
            unfold fx_X1_chance_J66 at hf
            obtain ⟨x18, t19, e20, hf⟩ := gw_b0E hf
            refine gw_vput (ci := 0) (k := 17) (T := TX1) C hP hS rfl in_X1 tyX1 tyX1_ok nmX1 (by decide) e20 q410 rfl rfl rfl rfl dX1_chance_66 (fun H locs hP hS => ?_)
            refine lv_aload_n hx hb dX1_chance_69 rfl (lv_at hl 0 rfl) ?_
            refine lv_iconst (v := (0 : Int32)) hx hb dX1_chance_70 (by decide) ?_
            obtain ⟨x21, t22, c22, s22, C22, S22, e23, hf, hk, hn⟩ := gw_bcE hf hk hn
            refine gw_cVr (As := [.int (0 : Int32)]) (rest := []) (ci := 0) (T := TX1) (N := 18) C hml hP hS rfl (gw_onE e23).1 (mx_X1_tried (l := l) (K := K) hA _ _ _ _ _ _ _ (gw_onE e23).2) (cwV 1 hts (lw_V q1202 q1204 qs34 q101 q1205) rfl rfl rfl hdX1_tried ⟨Nat.le_of_ble_eq_true rfl, Nat.le_of_ble_eq_true rfl⟩) rfl hl.1 rfl (Nat.le_of_ble_eq_true rfl) (Nat.le.intro hk) (Nat.le.intro hn) dX1_chance_71 (fun H locs hP hS => ?_)
            refine lv_pop hx hb dX1_chance_74 rfl ?_
            refine lv_iconst (v := (0 : Int32)) hx hb dX1_chance_75 (by decide) ?_
            refine lv_istore (lv' := [(5, .int (0 : Int32)), (0, .ref a0), (2, .int a2), (3, .int a3), (4, .int a4)]) hx hb dX1_chance_76 hl (by decide) rfl (fun ls hl => ?_)
            refine lv_iconst (v := (0 : Int32)) hx hb dX1_chance_78 (by decide) ?_
            refine lv_istore (lv' := [(6, .int (0 : Int32)), (5, .int (0 : Int32)), (0, .ref a0), (2, .int a2), (3, .int a3), (4, .int a4)]) hx hb dX1_chance_79 hl (by decide) rfl (fun ls hl => ?_)
            have k81 : ∀ (n : Nat) (v81_5 : Int32) (v81_6 : Int32) (t24 : Hp) (k24 n24 C24 S24 : Nat) (H : Heap) (locs : List Loc) (ls : Array Slot), gw_P K t24 H → va_S K.2.2.2.1 s.heap H locs → k24 + C24 = C0 → n24 + S24 = S0 → lv_has ls 8 [(0, .ref a0), (2, .int a2), (3, .int a3), (4, .int a4), (5, .int v81_5), (6, .int v81_6)] → tw_lp (fx_X1_chance_L81 a2 a4 a0 a3) (fun _ _ _ => none) n v81_5 v81_6 t24 = some (r, tZ, C24, S24) → W p l e (headSpec (ws_ yX1_chance cX1_chance 8 (some (.int))) ({ frames := 11, cells := C0, slots := S0, locals := 3271 })).room s m ([.ref a0, .int a1, .int a2, .int a3, .int a4] : List Value).toArray below meth c H locs k24 n24 (MQ below (gw_Qi K r tZ) ([.ref a0, .int a1, .int a2, .int a3, .int a4] : List Value).toArray s C0 S0 K.2.2.2.1) (F0 m 81 ls []) := by
              intro n
              induction n with
              | zero => intro v81_5 v81_6 t24 k24 n24 C24 S24 H locs ls hP hS hk hn hl hf; exact (tw_no hf).elim
              | succ n ih81 =>
                intro v81_5 v81_6 t24 k24 n24 C24 S24 H locs ls hP hS hk hn hl hf
                obtain ⟨sf81, hs81⟩ : ∃ f, f = tw_lp (fx_X1_chance_L81 a2 a4 a0 a3) (fun _ _ _ => none) n := ⟨_, rfl⟩
                rw [← hs81] at ih81
                have hf : fx_X1_chance_L81 a2 a4 a0 a3 sf81 v81_5 v81_6 t24 = some (r, tZ, C24, S24) := by rw [hs81]; exact hf
                clear hs81
                unfold fx_X1_chance_L81 at hf
                refine lv_iload hx hb dX1_chance_81 (lv_at hl 5 rfl) ?_
                refine lv_iload_n hx hb dX1_chance_83 rfl (lv_at hl 1 rfl) ?_
                refine lv_icmp_ge (tgt := 183) hx hb dX1_chance_84 (by decide) (fun hc => ?_) (fun hc => ?_)
                · have hf := tw_ifT hc hf
                  refine lv_iload hx hb dX1_chance_183 (lv_at hl 3 rfl) ?_
                  refine lv_iconst (v := (2 : Int32)) hx hb dX1_chance_185 (by decide) ?_
                  have k243 : ∀ (w243_0 : Int32) (t25 : Hp) (k25 n25 C25 S25 : Nat) (H : Heap) (locs : List Loc) (ls : Array Slot), gw_P K t25 H → va_S K.2.2.2.1 s.heap H locs → k25 + C25 = C0 → n25 + S25 = S0 → lv_has ls 8 [] → fx_X1_chance_J243 w243_0 t25 = some (r, tZ, C25, S25) → W p l e (headSpec (ws_ yX1_chance cX1_chance 8 (some (.int))) ({ frames := 11, cells := C0, slots := S0, locals := 3271 })).room s m ([.ref a0, .int a1, .int a2, .int a3, .int a4] : List Value).toArray below meth c H locs k25 n25 (MQ below (gw_Qi K r tZ) ([.ref a0, .int a1, .int a2, .int a3, .int a4] : List Value).toArray s C0 S0 K.2.2.2.1) (F0 m 243 ls [.int w243_0]) := by
                    intro w243_0 t25 k25 n25 C25 S25 H locs ls hP hS hk hn hl hf
                    unfold fx_X1_chance_J243 at hf
                    obtain ⟨h1, h2, h3, h4⟩ := gw_rcE hf hk hn
                    exact gw_ireti h1 h2 h3 h4 C hr hP hS hlk dX1_chance_243
                  refine lv_icmp_ne (tgt := 194) hx hb dX1_chance_186 (by decide) (fun hc => ?_) (fun hc => ?_)
                  · have hf := tw_ifF hc hf
                    refine lv_iload hx hb dX1_chance_194 (lv_at hl 3 rfl) ?_
                    refine lv_iconst (v := (3 : Int32)) hx hb dX1_chance_196 (by decide) ?_
                    refine lv_icmp_ne (tgt := 220) hx hb dX1_chance_197 (by decide) (fun hc => ?_) (fun hc => ?_)
                    · have hf := tw_ifF hc hf
                      refine lv_aload_n hx hb dX1_chance_220 rfl (lv_at hl 0 rfl) ?_
                      obtain ⟨x26, t27, e28, hf⟩ := gw_b0E hf
                      refine gw_rget (ci := 0) (k := 13) (T := TX1) C hP rfl in_X1 (by decide) e28 q406 rfl dX1_chance_221 (fun hP => ?_)
                      refine lv_iconst (v := (1 : Int32)) hx hb dX1_chance_224 (by decide) ?_
                      refine lv_iload hx hb dX1_chance_225 (lv_at hl 3 rfl) ?_
                      refine lv_iadd hx hb dX1_chance_227 ?_
                      obtain ⟨x29, t30, e31, hf⟩ := gw_b0E hf
                      refine gw_cVi (As := [.int ((1 : Int32) + a4)]) (rest := []) (ci := 2) (T := TX3) (N := 4) C hml hP hS rfl (gw_onE e31).1 (mx_X3_all (l := l) (K := K) hA _ _ _ _ _ (gw_onE e31).2) (cwV 1 hts (lw_V q1236 q1237 q1238 q103 q1239) rfl rfl rfl hdX3_all ⟨Nat.le_of_ble_eq_true rfl, Nat.le_of_ble_eq_true rfl⟩) rfl hl.1 rfl (Nat.le_of_ble_eq_true rfl) (Nat.le.intro hk) (Nat.le.intro hn) dX1_chance_228 (fun H locs hP hS => ?_)
                      refine lv_aload_n hx hb dX1_chance_231 rfl (lv_at hl 0 rfl) ?_
                      obtain ⟨x32, t33, e34, hf⟩ := gw_b0E hf
                      refine gw_rget (ci := 0) (k := 11) (T := TX1) C hP rfl in_X1 (by decide) e34 q404 rfl dX1_chance_232 (fun hP => ?_)
                      refine lv_iconst (v := (1 : Int32)) hx hb dX1_chance_235 (by decide) ?_
                      refine lv_iload hx hb dX1_chance_236 (lv_at hl 3 rfl) ?_
                      refine lv_iadd hx hb dX1_chance_238 ?_
                      obtain ⟨x35, t36, e37, hf⟩ := gw_b0E hf
                      refine gw_cVi (As := [.int ((1 : Int32) + a4)]) (rest := [.int x29]) (ci := 2) (T := TX3) (N := 4) C hml hP hS rfl (gw_onE e37).1 (mx_X3_all (l := l) (K := K) hA _ _ _ _ _ (gw_onE e37).2) (cwV 1 hts (lw_V q1236 q1237 q1238 q103 q1239) rfl rfl rfl hdX3_all ⟨Nat.le_of_ble_eq_true rfl, Nat.le_of_ble_eq_true rfl⟩) rfl hl.1 rfl (Nat.le_of_ble_eq_true rfl) (Nat.le.intro hk) (Nat.le.intro hn) dX1_chance_239 (fun H locs hP hS => ?_)
                      refine lv_isub hx hb dX1_chance_242 ?_
                      exact k243 _ _ _ _ _ _ _ _ _ hP hS hk hn (lv_sub hl [] rfl) hf
                    · have hf := tw_ifT hc hf
                      refine lv_aload_n hx hb dX1_chance_200 rfl (lv_at hl 0 rfl) ?_
                      obtain ⟨x38, t39, e40, hf⟩ := gw_b0E hf
                      refine gw_rget (ci := 0) (k := 13) (T := TX1) C hP rfl in_X1 (by decide) e40 q406 rfl dX1_chance_201 (fun hP => ?_)
                      refine lv_iconst (v := (3 : Int32)) hx hb dX1_chance_204 (by decide) ?_
                      obtain ⟨x41, t42, e43, hf⟩ := gw_b0E hf
                      refine gw_cVi (As := [.int (3 : Int32)]) (rest := []) (ci := 2) (T := TX3) (N := 4) C hml hP hS rfl (gw_onE e43).1 (mx_X3_all (l := l) (K := K) hA _ _ _ _ _ (gw_onE e43).2) (cwV 1 hts (lw_V q1236 q1237 q1238 q103 q1239) rfl rfl rfl hdX3_all ⟨Nat.le_of_ble_eq_true rfl, Nat.le_of_ble_eq_true rfl⟩) rfl hl.1 rfl (Nat.le_of_ble_eq_true rfl) (Nat.le.intro hk) (Nat.le.intro hn) dX1_chance_205 (fun H locs hP hS => ?_)
                      refine lv_aload_n hx hb dX1_chance_208 rfl (lv_at hl 0 rfl) ?_
                      obtain ⟨x44, t45, e46, hf⟩ := gw_b0E hf
                      refine gw_rget (ci := 0) (k := 11) (T := TX1) C hP rfl in_X1 (by decide) e46 q404 rfl dX1_chance_209 (fun hP => ?_)
                      refine lv_iconst (v := (3 : Int32)) hx hb dX1_chance_212 (by decide) ?_
                      obtain ⟨x47, t48, e49, hf⟩ := gw_b0E hf
                      refine gw_cVi (As := [.int (3 : Int32)]) (rest := [.int x41]) (ci := 2) (T := TX3) (N := 4) C hml hP hS rfl (gw_onE e49).1 (mx_X3_all (l := l) (K := K) hA _ _ _ _ _ (gw_onE e49).2) (cwV 1 hts (lw_V q1236 q1237 q1238 q103 q1239) rfl rfl rfl hdX3_all ⟨Nat.le_of_ble_eq_true rfl, Nat.le_of_ble_eq_true rfl⟩) rfl hl.1 rfl (Nat.le_of_ble_eq_true rfl) (Nat.le.intro hk) (Nat.le.intro hn) dX1_chance_213 (fun H locs hP hS => ?_)
                      refine lv_isub hx hb dX1_chance_216 ?_
                      refine lv_goto (tgt := 243) hx hb dX1_chance_217 (by decide) ?_
                      exact k243 _ _ _ _ _ _ _ _ _ hP hS hk hn (lv_sub hl [] rfl) hf
                  · have hf := tw_ifT hc hf
                    refine lv_iload hx hb dX1_chance_189 (lv_at hl 4 rfl) ?_
                    refine lv_goto (tgt := 243) hx hb dX1_chance_191 (by decide) ?_
                    exact k243 _ _ _ _ _ _ _ _ _ hP hS hk hn (lv_sub hl [] rfl) hf
                · have hf := tw_ifF hc hf
                  refine lv_aload_n hx hb dX1_chance_87 rfl (lv_at hl 0 rfl) ?_
                  obtain ⟨x50, t51, e52, hf⟩ := gw_b0E hf
                  refine gw_rget (ci := 0) (k := 4) (T := TX1) C hP rfl in_X1 (by decide) e52 q394 rfl dX1_chance_88 (fun hP => ?_)
                  obtain ⟨x53, t54, e55, hf⟩ := gw_b0E hf
                  refine gw_igetN (ci := 1) (k := 3) (T := TX2) C hP rfl in_X2 (by decide) e55 q165 rfl dX1_chance_91 (fun hP => ?_)
                  have k146 : ∀  (t56 : Hp) (k56 n56 C56 S56 : Nat) (H : Heap) (locs : List Loc) (ls : Array Slot), gw_P K t56 H → va_S K.2.2.2.1 s.heap H locs → k56 + C56 = C0 → n56 + S56 = S0 → lv_has ls 8 [(0, .ref a0), (2, .int a2), (3, .int a3), (4, .int a4), (5, .int v81_5), (6, .int v81_6)] → fx_X1_chance_J146 a0 a4 sf81 v81_6 v81_5  t56 = some (r, tZ, C56, S56) → W p l e (headSpec (ws_ yX1_chance cX1_chance 8 (some (.int))) ({ frames := 11, cells := C0, slots := S0, locals := 3271 })).room s m ([.ref a0, .int a1, .int a2, .int a3, .int a4] : List Value).toArray below meth c H locs k56 n56 (MQ below (gw_Qi K r tZ) ([.ref a0, .int a1, .int a2, .int a3, .int a4] : List Value).toArray s C0 S0 K.2.2.2.1) (F0 m 146 ls []) := by
                    intro t56 k56 n56 C56 S56 H locs ls hP hS hk hn hl hf
                    unfold fx_X1_chance_J146 at hf
                    refine lv_aload_n hx hb dX1_chance_146 rfl (lv_at hl 0 rfl) ?_
                    refine lv_aload_n hx hb dX1_chance_147 rfl (lv_at hl 0 rfl) ?_
                    obtain ⟨x57, t58, e59, hf⟩ := gw_b0E hf
                    refine gw_rget (ci := 0) (k := 13) (T := TX1) C hP rfl in_X1 (by decide) e59 q406 rfl dX1_chance_148 (fun hP => ?_)
                    obtain ⟨x60, t61, c61, s61, C61, S61, e62, hf, hk, hn⟩ := gw_bcE hf hk hn
                    refine gw_cVv (As := [.ref x57]) (rest := []) (ci := 0) (T := TX1) (N := 18) C hml hP hS rfl (gw_onE e62).1 (mx_X1_ticks (l := l) (K := K) hA _ _ _ _ _ _ _ (gw_onE e62).2) (cwV 1 hts (lw_V q852 q854 qs16 q101 q855) rfl rfl rfl hdX1_ticks ⟨Nat.le_of_ble_eq_true rfl, Nat.le_of_ble_eq_true rfl⟩) rfl hl.1 rfl (Nat.le_of_ble_eq_true rfl) (Nat.le.intro hk) (Nat.le.intro hn) dX1_chance_151 (fun H locs hP hS => ?_)
                    refine lv_iload hx hb dX1_chance_154 (lv_at hl 3 rfl) ?_
                    refine lv_iconst (v := (2 : Int32)) hx hb dX1_chance_156 (by decide) ?_
                    have k177 : ∀ (v177_5 : Int32) (t63 : Hp) (k63 n63 C63 S63 : Nat) (H : Heap) (locs : List Loc) (ls : Array Slot), gw_P K t63 H → va_S K.2.2.2.1 s.heap H locs → k63 + C63 = C0 → n63 + S63 = S0 → lv_has ls 8 [(0, .ref a0), (2, .int a2), (3, .int a3), (4, .int a4), (5, .int v177_5), (6, .int v81_6)] → fx_X1_chance_J177 sf81 v81_6 v177_5 t63 = some (r, tZ, C63, S63) → W p l e (headSpec (ws_ yX1_chance cX1_chance 8 (some (.int))) ({ frames := 11, cells := C0, slots := S0, locals := 3271 })).room s m ([.ref a0, .int a1, .int a2, .int a3, .int a4] : List Value).toArray below meth c H locs k63 n63 (MQ below (gw_Qi K r tZ) ([.ref a0, .int a1, .int a2, .int a3, .int a4] : List Value).toArray s C0 S0 K.2.2.2.1) (F0 m 177 ls []) := by
                      intro v177_5 t63 k63 n63 C63 S63 H locs ls hP hS hk hn hl hf
                      unfold fx_X1_chance_J177 at hf
                      refine lv_iinc (v := (v81_6 + (1 : Int32))) (lv' := [(6, .int (v81_6 + (1 : Int32))), (0, .ref a0), (2, .int a2), (3, .int a3), (4, .int a4), (5, .int v177_5)]) hx hb dX1_chance_177 hl (k := 5) rfl rfl (by decide) rfl (fun ls hl => ?_)
                      refine lv_goto (tgt := 81) hx hb dX1_chance_180 (by decide) ?_
                      exact ih81 _ _ _ _ _ _ _ _ _ _ hP hS hk hn (lv_sub hl [1, 2, 3, 4, 5, 0] rfl) hf
                    refine lv_icmp_ne (tgt := 177) hx hb dX1_chance_157 (by decide) (fun hc => ?_) (fun hc => ?_)
                    · have hf := tw_ifF hc hf
                      exact k177 _ _ _ _ _ _ _ _ _ hP hS hk hn (lv_sub hl [0, 1, 2, 3, 4, 5] rfl) hf
                    · have hf := tw_ifT hc hf
                      refine lv_aload_n hx hb dX1_chance_160 rfl (lv_at hl 0 rfl) ?_
                      refine lv_aload_n hx hb dX1_chance_161 rfl (lv_at hl 0 rfl) ?_
                      obtain ⟨x64, t65, e66, hf⟩ := gw_b0E hf
                      refine gw_rget (ci := 0) (k := 13) (T := TX1) C hP rfl in_X1 (by decide) e66 q406 rfl dX1_chance_162 (fun hP => ?_)
                      obtain ⟨x67, t68, c68, s68, C68, S68, e69, hf, hk, hn⟩ := gw_bcE hf hk hn
                      refine gw_cVr (As := [.ref x64]) (rest := []) (ci := 0) (T := TX1) (N := 18) C hml hP hS rfl (gw_onE e69).1 (mx_X1_paused (l := l) (K := K) hA _ _ _ _ _ _ _ (gw_onE e69).2) (cwV 1 hts (lw_V q1042 q1044 qs24 q101 q1045) rfl rfl rfl hdX1_paused ⟨Nat.le_of_ble_eq_true rfl, Nat.le_of_ble_eq_true rfl⟩) rfl hl.1 rfl (Nat.le_of_ble_eq_true rfl) (Nat.le.intro hk) (Nat.le.intro hn) dX1_chance_165 (fun H locs hP hS => ?_)
                      obtain ⟨x70, t71, e72, hf⟩ := gw_b0E hf
                      refine gw_cVi (As := []) (rest := []) (ci := 11) (T := TX12) (N := 5) C hml hP hS rfl (gw_onE e72).1 (mx_X12_inAny (l := l) (K := K) hA _ _ _ _ (gw_onE e72).2) (cwV 0 hts (lw_V q1118 q1077 q1078 q125 q1079) rfl rfl rfl hdX12_inAny ⟨Nat.le_of_ble_eq_true rfl, Nat.le_of_ble_eq_true rfl⟩) rfl hl.1 rfl (Nat.le_of_ble_eq_true rfl) (Nat.le.intro hk) (Nat.le.intro hn) dX1_chance_168 (fun H locs hP hS => ?_)
                      refine lv_if_eq (tgt := 177) hx hb dX1_chance_171 (by decide) (fun hc => ?_) (fun hc => ?_)
                      · have hf := tw_ifT hc hf
                        exact k177 _ _ _ _ _ _ _ _ _ hP hS hk hn (lv_sub hl [0, 1, 2, 3, 4, 5] rfl) hf
                      · have hf := tw_ifF hc hf
                        refine lv_iinc (v := (v81_5 + (1 : Int32))) (lv' := [(5, .int (v81_5 + (1 : Int32))), (0, .ref a0), (2, .int a2), (3, .int a3), (4, .int a4), (6, .int v81_6)]) hx hb dX1_chance_174 hl (k := 4) rfl rfl (by decide) rfl (fun ls hl => ?_)
                        exact k177 _ _ _ _ _ _ _ _ _ hP hS hk hn (lv_sub hl [1, 2, 3, 4, 0, 5] rfl) hf
                  refine lv_if_le (tgt := 146) hx hb dX1_chance_94 (by decide) (fun hc => ?_) (fun hc => ?_)
                  · have hf := tw_ifT hc hf
                    exact k146 _ _ _ _ _ _ _ _ hP hS hk hn (lv_sub hl [0, 1, 2, 3, 4, 5] rfl) hf
                  · have hf := tw_ifF hc hf
                    refine lv_aload_n hx hb dX1_chance_97 rfl (lv_at hl 0 rfl) ?_
                    obtain ⟨x73, t74, e75, hf⟩ := gw_b0E hf
                    refine gw_rget (ci := 0) (k := 13) (T := TX1) C hP rfl in_X1 (by decide) e75 q406 rfl dX1_chance_98 (fun hP => ?_)
                    obtain ⟨x76, t77, e78, hf⟩ := gw_b0E hf
                    refine gw_rgetN (ci := 2) (k := 3) (T := TX3) C hP rfl in_X3 (by decide) e78 q358 rfl dX1_chance_101 (fun hP => ?_)
                    refine lv_aload_n hx hb dX1_chance_104 rfl (lv_at hl 0 rfl) ?_
                    refine lv_aload_n hx hb dX1_chance_105 rfl (lv_at hl 0 rfl) ?_
                    obtain ⟨x79, t80, e81, hf⟩ := gw_b0E hf
                    refine gw_rget (ci := 0) (k := 4) (T := TX1) C hP rfl in_X1 (by decide) e81 q394 rfl dX1_chance_106 (fun hP => ?_)
                    obtain ⟨x82, t83, e84, hf⟩ := gw_b0E hf
                    refine gw_igetN (ci := 1) (k := 3) (T := TX2) C hP rfl in_X2 (by decide) e84 q165 rfl dX1_chance_109 (fun hP => ?_)
                    obtain ⟨x85, t86, e87, hf⟩ := gw_b0E hf
                    refine gw_cVi (As := [.int x82]) (rest := [.ref x76]) (ci := 0) (T := TX1) (N := 18) C hml hP hS rfl (gw_onE e87).1 (mx_X1_draw (l := l) (K := K) hA _ _ _ _ _ (gw_onE e87).2) (cwV 1 hts (lw_V q1251 q1253 qs37 q101 q1254) rfl rfl rfl hdX1_draw ⟨Nat.le_of_ble_eq_true rfl, Nat.le_of_ble_eq_true rfl⟩) rfl hl.1 rfl (Nat.le_of_ble_eq_true rfl) (Nat.le.intro hk) (Nat.le.intro hn) dX1_chance_112 (fun H locs hP hS => ?_)
                    obtain ⟨x88, t89, e90, hf⟩ := gw_b0E hf
                    refine gw_aald C hP rfl e90 dX1_chance_115 (fun hP => ?_)
                    refine lv_astore (lv' := [(7, .ref x88), (0, .ref a0), (2, .int a2), (3, .int a3), (4, .int a4), (5, .int v81_5), (6, .int v81_6)]) hx hb dX1_chance_116 hl (by decide) rfl (fun ls hl => ?_)
                    refine lv_aload_n hx hb dX1_chance_118 rfl (lv_at hl 1 rfl) ?_
                    refine lv_bipush (v := (100 : Int32)) hx hb dX1_chance_119 (by decide) ?_
                    obtain ⟨x91, t92, e93, hf⟩ := gw_b0E hf
                    refine gw_cVi (As := [.int (100 : Int32)]) (rest := []) (ci := 0) (T := TX1) (N := 18) C hml hP hS rfl (gw_onE e93).1 (mx_X1_draw (l := l) (K := K) hA _ _ _ _ _ (gw_onE e93).2) (cwV 1 hts (lw_V q1251 q1253 qs37 q101 q1254) rfl rfl rfl hdX1_draw ⟨Nat.le_of_ble_eq_true rfl, Nat.le_of_ble_eq_true rfl⟩) rfl hl.1 rfl (Nat.le_of_ble_eq_true rfl) (Nat.le.intro hk) (Nat.le.intro hn) dX1_chance_121 (fun H locs hP hS => ?_)
                    refine lv_iload_n hx hb dX1_chance_124 rfl (lv_at hl 3 rfl) ?_
                    refine lv_icmp_ge (tgt := 146) hx hb dX1_chance_125 (by decide) (fun hc => ?_) (fun hc => ?_)
                    · have hf := tw_ifT hc hf
                      exact k146 _ _ _ _ _ _ _ _ hP hS hk hn (lv_sub hl [1, 2, 3, 4, 5, 6] rfl) hf
                    · have hf := tw_ifF hc hf
                      refine lv_aload hx hb dX1_chance_128 (lv_at hl 0 rfl) ?_
                      refine lv_aload hx hb dX1_chance_130 (lv_at hl 0 rfl) ?_
                      obtain ⟨x94, t95, e96, hf⟩ := gw_b0E hf
                      refine gw_igetN (ci := 4) (k := 11) (T := TX5) C hP rfl in_X5 (by decide) e96 q325 rfl dX1_chance_132 (fun hP => ?_)
                      have k143 : ∀ (w143_0 : Int32) (t97 : Hp) (k97 n97 C97 S97 : Nat) (H : Heap) (locs : List Loc) (ls : Array Slot), gw_P K t97 H → va_S K.2.2.2.1 s.heap H locs → k97 + C97 = C0 → n97 + S97 = S0 → lv_has ls 8 [(0, .ref a0), (2, .int a2), (3, .int a3), (4, .int a4), (5, .int v81_5), (6, .int v81_6)] → fx_X1_chance_J143 x88 a0 a4 sf81 v81_6 v81_5 w143_0 t97 = some (r, tZ, C97, S97) → W p l e (headSpec (ws_ yX1_chance cX1_chance 8 (some (.int))) ({ frames := 11, cells := C0, slots := S0, locals := 3271 })).room s m ([.ref a0, .int a1, .int a2, .int a3, .int a4] : List Value).toArray below meth c H locs k97 n97 (MQ below (gw_Qi K r tZ) ([.ref a0, .int a1, .int a2, .int a3, .int a4] : List Value).toArray s C0 S0 K.2.2.2.1) (F0 m 143 ls [.int w143_0, .ref x88]) := by
                        intro w143_0 t97 k97 n97 C97 S97 H locs ls hP hS hk hn hl hf
                        unfold fx_X1_chance_J143 at hf
                        obtain ⟨x98, t99, e100, hf⟩ := gw_b0E hf
                        refine gw_vputN (ci := 4) (k := 11) (T := TX5) C hP hS rfl in_X5 tyX5 tyX5_ok nmX5 (by decide) (gw_pzE e100).2 q325 rfl rfl (gw_zn (gw_pzE e100).1) (gw_zf (gw_pzE e100).1) dX1_chance_143 (fun H locs hP hS => ?_)
                        exact k146 _ _ _ _ _ _ _ _ hP hS hk hn (lv_sub hl [0, 1, 2, 3, 4, 5] rfl) hf
                      refine lv_if_ne (tgt := 142) hx hb dX1_chance_135 (by decide) (fun hc => ?_) (fun hc => ?_)
                      · have hf := tw_ifF hc hf
                        refine lv_iconst (v := (0 : Int32)) hx hb dX1_chance_142 (by decide) ?_
                        exact k143 _ _ _ _ _ _ _ _ _ hP hS hk hn (lv_sub hl [1, 2, 3, 4, 5, 6] rfl) hf
                      · have hf := tw_ifT hc hf
                        refine lv_iconst (v := (1 : Int32)) hx hb dX1_chance_138 (by decide) ?_
                        refine lv_goto (tgt := 143) hx hb dX1_chance_139 (by decide) ?_
                        exact k143 _ _ _ _ _ _ _ _ _ hP hS hk hn (lv_sub hl [1, 2, 3, 4, 5, 6] rfl) hf
            exact k81 _ _ _ _ _ _ _ _ _ _ _ hP hS hk hn (lv_sub hl [2, 3, 4, 5, 1, 0] rfl) hf
          refine lv_if_ge (tgt := 64) hx hb dX1_chance_50 (by decide) (fun hc => ?_) (fun hc => ?_)
          · have hf := tw_ifT hc hf
            refine lv_iload_n hx hb dX1_chance_64 rfl (lv_at hl 1 rfl) ?_
            refine lv_i2l hx hb dX1_chance_65 rfl ?_
            exact k66 _ _ _ _ _ _ _ _ _ hP hS hk hn (lv_sub hl [0, 2, 3, 4] rfl) hf
          · have hf := tw_ifF hc hf
            refine lv_aload_n hx hb dX1_chance_53 rfl (lv_at hl 0 rfl) ?_
            obtain ⟨x101, t102, e103, hf⟩ := gw_b0E hf
            refine gw_rget (ci := 0) (k := 4) (T := TX1) C hP rfl in_X1 (by decide) e103 q394 rfl dX1_chance_54 (fun hP => ?_)
            obtain ⟨x104, t105, e106, hf⟩ := gw_b0E hf
            refine gw_igetN (ci := 1) (k := 10) (T := TX2) C hP rfl in_X2 (by decide) e106 q186 rfl dX1_chance_57 (fun hP => ?_)
            refine lv_i2l hx hb dX1_chance_60 rfl ?_
            refine lv_goto (tgt := 66) hx hb dX1_chance_61 (by decide) ?_
            exact k66 _ _ _ _ _ _ _ _ _ hP hS hk hn (lv_sub hl [0, 2, 3, 4] rfl) hf
        · have hf := tw_ifT hc hf
          exact k46 _ _ _ _ _ _ _ _ hP hS hk hn (lv_sub hl [] rfl) hf