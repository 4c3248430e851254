def fx_X1_undo (a0 : Nat) : HM Int32 :=
  tw_bd (gw_gi 0 15 a0) fun x1 =>
  if x1 = 0 then (tw_rt (-1 : Int32))
  else (tw_bd (gw_gi 0 15 a0) fun x4 =>
  tw_bd (gw_pi 0 15 a0 (x4 - (1 : Int32))) fun _ =>
  tw_bd (gw_gr 0 11 a0) fun x10 =>
  tw_bd (gw_gr 0 14 a0) fun x13 =>
  tw_bd (gw_gi 0 15 a0) fun x16 =>
  tw_bd (gw_lr 8 x13 x16) fun x19 =>
  tw_bd (gw_on 2 x10 (fx_X3_like x10 x19)) fun x22 =>
  tw_bd (gw_gi 0 15 a0) fun x25 =>
  tw_rt x25)
theorem hdX1_undo : yX1_undo.cls = "LosslessFabric" ∧ (yX1_undo.cls ≠ "java/lang/invoke/MethodHandle" ∧ yX1_undo.cls ≠ "java/lang/invoke/VarHandle" ∧ (parseMethodDescriptor yX1_undo.desc).map (fun d => d.parameters.length) = some 0) := by decide +kernel
set_option maxHeartbeats 4000000 in
theorem mx_X1_undo {l : Launch} {K : GK} (hA : gw_A K) (a0 : Nat) (t0 tZ : Hp) (r : Int32) (hf : fx_X1_undo a0 t0 = some (r, tZ)) : Met l yX1_undo (ws_ yX1_undo cX1_undo 1 (some (.int))) ({ frames := 4, cells := 0, slots := 0, locals := 103 }) (va_Pc [.ref a0] (gw_W K t0)) (gw_Qi K r tZ) 0 0 K.2.2.2.1 := by
  refine Met.ofW (cc := cX1_undo) (maxL := 1) (ret := some (.int)) (by decide) rfl ?_
  intro p e s m args below meth c s₁ B hml hv
  obtain ⟨rfl, hP, hK, hX, hN, hL⟩ := hv
  have hx := B.exec
  have hb := B.bytes
  have hr := B.returns
  have hts := atoms_spec (ws := (ws_ yX1_undo cX1_undo 1 (some (.int)))) B.pre
  have hts : ∀ w ∈ lw_all, w.before _ s = true := fun w h => hts w (List.mem_cons_of_mem _ h)
  have hown : s.vm.findClass "LosslessFabric" = some m.cls := findClass_of_methodNamed B.named
  have hlk := B.notSynchronized
  have C : gw_C K "LosslessFabric" p s m _ c cX1_undo := ⟨hx, hb, hts, hown, hK, hA, hX, hN, hL⟩
  have hS : va_S K.2.2.2.1 s.heap s.heap [] := va_S.rf
  have hl := lv_entry ([.ref a0]) (n := 1) (Nat.le_of_ble_eq_true rfl)
  rw [lg_entry_eq]
  generalize (lg_sl ([.ref a0]) ++ List.replicate (1 - (lg_sl ([.ref a0])).length) Slot.unset).toArray = ls at hl ⊢
  have hl : lv_has ls 1 [(0, .ref a0)] := hl
  unfold fx_X1_undo at hf
  refine lv_aload_n hx hb dX1_undo_0 rfl (lv_at hl 0 rfl) ?_
  obtain ⟨x1, t2, e3, hf⟩ := tw_bdE hf
  refine gw_iget (ci := 0) (k := 15) (T := TX1) C hP rfl in_X1 (by decide) e3 q408 rfl dX1_undo_1 (fun hP => ?_)
  refine lv_if_ne (tgt := 9) hx hb dX1_undo_4 (by decide) (fun hc => ?_) (fun hc => ?_)
  · have hf := tw_ifF hc hf
    refine lv_aload_n hx hb dX1_undo_9 rfl (lv_at hl 0 rfl) ?_
    refine lv_dup hx hb dX1_undo_10 rfl ?_
    obtain ⟨x4, t5, e6, hf⟩ := tw_bdE hf
    refine gw_iget (ci := 0) (k := 15) (T := TX1) C hP rfl in_X1 (by decide) e6 q408 rfl dX1_undo_11 (fun hP => ?_)
    refine lv_iconst (v := (1 : Int32)) hx hb dX1_undo_14 (by decide) ?_
    refine lv_isub hx hb dX1_undo_15 ?_
    obtain ⟨x7, t8, e9, hf⟩ := tw_bdE hf
    refine gw_vput (ci := 0) (k := 15) (T := TX1) C hP hS rfl in_X1 tyX1 tyX1_ok nmX1 (by decide) e9 q408 rfl rfl (vp_nar_int _) rfl dX1_undo_16 (fun H locs hP hS => ?_)
    refine lv_aload_n hx hb dX1_undo_19 rfl (lv_at hl 0 rfl) ?_
    obtain ⟨x10, t11, e12, hf⟩ := tw_bdE hf
    refine gw_rget (ci := 0) (k := 11) (T := TX1) C hP rfl in_X1 (by decide) e12 q404 rfl dX1_undo_20 (fun hP => ?_)
    refine lv_aload_n hx hb dX1_undo_23 rfl (lv_at hl 0 rfl) ?_
    obtain ⟨x13, t14, e15, hf⟩ := tw_bdE hf
    refine gw_rget (ci := 0) (k := 14) (T := TX1) C hP rfl in_X1 (by decide) e15 q407 rfl dX1_undo_24 (fun hP => ?_)
    refine lv_aload_n hx hb dX1_undo_27 rfl (lv_at hl 0 rfl) ?_
    obtain ⟨x16, t17, e18, hf⟩ := tw_bdE hf
    refine gw_iget (ci := 0) (k := 15) (T := TX1) C hP rfl in_X1 (by decide) e18 q408 rfl dX1_undo_28 (fun hP => ?_)
    obtain ⟨x19, t20, e21, hf⟩ := tw_bdE hf
    refine gw_aald C hP rfl e21 dX1_undo_31 (fun hP => ?_)
    obtain ⟨x22, t23, e24, hf⟩ := tw_bdE hf
    refine gw_cVr (As := [.ref x19]) (rest := []) (ci := 2) (T := TX3) (N := 4) C hml hP hS rfl (gw_onE e24).1 (mx_X3_like (l := l) (K := K) hA _ _ _ _ _ (gw_onE e24).2) (cwV 1 hts (lw_V q819 q820 q821 q103 q822) rfl rfl rfl hdX3_like ⟨Nat.le_of_ble_eq_true rfl, Nat.le_of_ble_eq_true rfl⟩) rfl hl.1 rfl (Nat.le_of_ble_eq_true rfl) (Nat.zero_le _) (Nat.zero_le _) dX1_undo_32 (fun H locs hP hS => ?_)
    refine lv_pop hx hb dX1_undo_35 rfl ?_
    refine lv_aload_n hx hb dX1_undo_36 rfl (lv_at hl 0 rfl) ?_
    obtain ⟨x25, t26, e27, hf⟩ := tw_bdE hf
    refine gw_iget (ci := 0) (k := 15) (T := TX1) C hP rfl in_X1 (by decide) e27 q408 rfl dX1_undo_37 (fun hP => ?_)
    exact gw_ireti (tw_rtE hf).1 (tw_rtE hf).2 rfl rfl C hr hP hS hlk dX1_undo_40
  · have hf := tw_ifT hc hf
    refine lv_iconst (v := (-1 : Int32)) hx hb dX1_undo_7 (by decide) ?_
    exact gw_ireti (tw_rtE hf).1 (tw_rtE hf).2 rfl rfl C hr hP hS hlk dX1_undo_8
def fx_X1_waits_J45 (sf14 : Int32 → Int32 → gM Int32) (v14_3 : Int32) (v45_2 : Int32) : gM Int32 :=
  sf14 v45_2 (v14_3 + (1 : Int32))
def fx_X1_waits_L14 (a0 : Nat) (a1 : Int32) (sf14 : Int32 → Int32 → gM Int32) (v14_2 : Int32) (v14_3 : Int32) : gM Int32 :=
  gw_b0 (gw_gr 0 4 a0) fun x5 =>
  gw_b0 (gw_gi 1 2 x5) fun x8 =>
  if x8 ≤ v14_3 then (gw_rc v14_2)
  else (gw_b0 (gw_gr 0 11 a0) fun x11 =>
  gw_b0 (gw_on 2 x11 (fx_X3_waits x11 a1 v14_3)) fun x14 =>
  if x14 = 0 then (fx_X1_waits_J45 sf14 v14_3 v14_2)
  else ( gw_b0 (gw_bt v14_3) fun x18 =>
 
  fx_X1_waits_J45 sf14 v14_3 (v14_2 ||| x18)))
def fx_X1_waits (a0 : Nat) (a1 : Int32) : gM Int32 :=
  gw_bc (gw_on 0 a0 (fx_X1_isLink a0 a1)) fun x1 =>
  if x1 = 0 then (gw_rc (-1 : Int32))
  else (tw_lp (fx_X1_waits_L14 a0 a1) (fun _ _ _ => none) tw_fu (0 : Int32) (0 : Int32))
theorem hdX1_waits : yX1_waits.cls = "LosslessFabric" ∧ (yX1_waits.cls ≠ "java/lang/invoke/MethodHandle" ∧ yX1_waits.cls ≠ "java/lang/invoke/VarHandle" ∧ (parseMethodDescriptor yX1_waits.desc).map (fun d => d.parameters.length) = some 1) := by decide +kernel
set_option maxHeartbeats 4000000 in
theorem mx_X1_waits {l : Launch} {K : GK} (hA : gw_A K) (a0 : Nat) (a1 : Int32) (t0 tZ : Hp) (r : Int32) (C0 S0 : Nat) (hf : fx_X1_waits a0 a1 t0 = some (r, tZ, C0, S0)) : Met l yX1_waits (ws_ yX1_waits cX1_waits 4 (some (.int))) ({ frames := 6, cells := C0, slots := S0, locals := 101 }) (va_Pc [.ref a0, .int a1] (gw_W K t0)) (gw_Qi K r tZ) C0 S0 K.2.2.2.1 := by
  refine Met.ofW (cc := cX1_waits) (maxL := 4) (ret := some (.int)) (by decide) rfl ?_
  intro p e s m args below meth c s₁ B hml hv
  obtain ⟨rfl, hP, hK, hX, hN, hL⟩ := hv
  have hx := B.exec
  have hb := B.bytes
  have hr := B.returns
  have hts := atoms_spec (ws := (ws_ yX1_waits cX1_waits 4 (some (.int)))) B.pre
  have hts : ∀ w ∈ lw_all, w.before _ s = true := fun w h => hts w (List.mem_cons_of_mem _ h)
  have hown : s.vm.findClass "LosslessFabric" = some m.cls := findClass_of_methodNamed B.named
  have hlk := B.notSynchronized
  have C : gw_C K "LosslessFabric" p s m _ c cX1_waits := ⟨hx, hb, hts, hown, hK, hA, hX, hN, hL⟩
  have hk : 0 + C0 = C0 := Nat.zero_add _
  have hn : 0 + S0 = S0 := Nat.zero_add _
  have hS : va_S K.2.2.2.1 s.heap s.heap [] := va_S.rf
  have hl := lv_entry ([.ref a0, .int a1]) (n := 4) (Nat.le_of_ble_eq_true rfl)
  rw [lg_entry_eq]
  generalize (lg_sl ([.ref a0, .int a1]) ++ List.replicate (4 - (lg_sl ([.ref a0, .int a1])).length) Slot.unset).toArray = ls at hl ⊢
  have hl : lv_has ls 4 [(0, .ref a0), (1, .int a1)] := hl
  unfold fx_X1_waits at hf
  refine lv_aload_n hx hb dX1_waits_0 rfl (lv_at hl 0 rfl) ?_
  refine lv_iload_n hx hb dX1_waits_1 rfl (lv_at hl 1 rfl) ?_
  obtain ⟨x1, t2, c2, s2, C2, S2, e3, hf, hk, hn⟩ := gw_bcE hf hk hn
  refine gw_cVi (As := [.int a1]) (rest := []) (ci := 0) (T := TX1) (N := 18) C hml hP hS rfl (gw_onE e3).1 (mx_X1_isLink (l := l) (K := K) hA _ _ _ _ _ _ _ (gw_onE e3).2) (cwV 1 hts (lw_V q968 q970 qs22 q101 q971) rfl rfl rfl hdX1_isLink ⟨Nat.le_of_ble_eq_true rfl, Nat.le_of_ble_eq_true rfl⟩) rfl hl.1 rfl (Nat.le_of_ble_eq_true rfl) (Nat.le.intro hk) (Nat.le.intro hn) dX1_waits_2 (fun H locs hP hS => ?_)
  refine lv_if_ne (tgt := 10) hx hb dX1_waits_5 (by decide) (fun hc => ?_) (fun hc => ?_)
  · have hf := tw_ifF hc hf
    refine lv_iconst (v := (0 : Int32)) hx hb dX1_waits_10 (by decide) ?_
    refine lv_istore_n (lv' := [(2, .int (0 : Int32)), (0, .ref a0), (1, .int a1)]) hx hb dX1_waits_11 rfl hl (by decide) rfl (fun ls hl => ?_)
    refine lv_iconst (v := (0 : Int32)) hx hb dX1_waits_12 (by decide) ?_
    refine lv_istore_n (lv' := [(3, .int (0 : Int32)), (2, .int (0 : Int32)), (0, .ref a0), (1, .int a1)]) hx hb dX1_waits_13 rfl hl (by decide) rfl (fun ls hl => ?_)
    have k14 : ∀ (n : Nat) (v14_2 : Int32) (v14_3 : Int32) (t4 : Hp) (k4 n4 C4 S4 : Nat) (H : Heap) (locs : List Loc) (ls : Array Slot), gw_P K t4 H → va_S K.2.2.2.1 s.heap H locs → k4 + C4 = C0 → n4 + S4 = S0 → lv_has ls 4 [(0, .ref a0), (1, .int a1), (2, .int v14_2), (3, .int v14_3)] → tw_lp (fx_X1_waits_L14 a0 a1) (fun _ _ _ => none) n v14_2 v14_3 t4 = some (r, tZ, C4, S4) → W p l e (headSpec (ws_ yX1_waits cX1_waits 4 (some (.int))) ({ frames := 6, cells := C0, slots := S0, locals := 101 })).room s m ([.ref a0, .int a1] : List Value).toArray below meth c H locs k4 n4 (MQ below (gw_Qi K r tZ) ([.ref a0, .int a1] : List Value).toArray s C0 S0 K.2.2.2.1) (F0 m 14 ls []) := by
      intro n
      induction n with
      | zero => intro v14_2 v14_3 t4 k4 n4 C4 S4 H locs ls hP hS hk hn hl hf; exact (tw_no hf).elim
      | succ n ih14 =>
        intro v14_2 v14_3 t4 k4 n4 C4 S4 H locs ls hP hS hk hn hl hf
        obtain ⟨sf14, hs14⟩ : ∃ f, f = tw_lp (fx_X1_waits_L14 a0 a1) (fun _ _ _ => none) n := ⟨_, rfl⟩
        rw [← hs14] at ih14
        have hf : fx_X1_waits_L14 a0 a1 sf14 v14_2 v14_3 t4 = some (r, tZ, C4, S4) := by rw [hs14]; exact hf
        clear hs14
        unfold fx_X1_waits_L14 at hf
        refine lv_iload_n hx hb dX1_waits_14 rfl (lv_at hl 3 rfl) ?_
        refine lv_aload_n hx hb dX1_waits_15 rfl (lv_at hl 0 rfl) ?_
        obtain ⟨x5, t6, e7, hf⟩ := gw_b0E hf
        refine gw_rget (ci := 0) (k := 4) (T := TX1) C hP rfl in_X1 (by decide) e7 q394 rfl dX1_waits_16 (fun hP => ?_)
        obtain ⟨x8, t9, e10, hf⟩ := gw_b0E hf
        refine gw_igetN (ci := 1) (k := 2) (T := TX2) C hP rfl in_X2 (by decide) e10 q160 rfl dX1_waits_19 (fun hP => ?_)
        refine lv_icmp_ge (tgt := 51) hx hb dX1_waits_22 (by decide) (fun hc => ?_) (fun hc => ?_)
        · have hf := tw_ifT hc hf
          refine lv_iload_n hx hb dX1_waits_51 rfl (lv_at hl 2 rfl) ?_
          obtain ⟨h1, h2, h3, h4⟩ := gw_rcE hf hk hn
          exact gw_ireti h1 h2 h3 h4 C hr hP hS hlk dX1_waits_52
        · have hf := tw_ifF hc hf
          refine lv_aload_n hx hb dX1_waits_25 rfl (lv_at hl 0 rfl) ?_
          obtain ⟨x11, t12, e13, hf⟩ := gw_b0E hf
          refine gw_rget (ci := 0) (k := 11) (T := TX1) C hP rfl in_X1 (by decide) e13 q404 rfl dX1_waits_26 (fun hP => ?_)
          refine lv_iload_n hx hb dX1_waits_29 rfl (lv_at hl 1 rfl) ?_
          refine lv_iload_n hx hb dX1_waits_30 rfl (lv_at hl 3 rfl) ?_
          obtain ⟨x14, t15, e16, hf⟩ := gw_b0E hf
          refine gw_cVi (As := [.int a1, .int v14_3]) (rest := []) (ci := 2) (T := TX3) (N := 4) C hml hP hS rfl (gw_onE e16).1 (mx_X3_waits (l := l) (K := K) hA _ _ _ _ _ _ (gw_onE e16).2) (cwV 2 hts (lw_V q1021 q1022 q1023 q103 q1024) rfl rfl rfl hdX3_waits ⟨Nat.le_of_ble_eq_true rfl, Nat.le_of_ble_eq_true rfl⟩) rfl hl.1 rfl (Nat.le_of_ble_eq_true rfl) (Nat.le.intro hk) (Nat.le.intro hn) dX1_waits_31 (fun H locs hP hS => ?_)
          have k45 : ∀ (v45_2 : Int32) (t17 : Hp) (k17 n17 C17 S17 : Nat) (H : Heap) (locs : List Loc) (ls : Array Slot), gw_P K t17 H → va_S K.2.2.2.1 s.heap H locs → k17 + C17 = C0 → n17 + S17 = S0 → lv_has ls 4 [(0, .ref a0), (1, .int a1), (2, .int v45_2), (3, .int v14_3)] → fx_X1_waits_J45 sf14 v14_3 v45_2 t17 = some (r, tZ, C17, S17) → W p l e (headSpec (ws_ yX1_waits cX1_waits 4 (some (.int))) ({ frames := 6, cells := C0, slots := S0, locals := 101 })).room s m ([.ref a0, .int a1] : List Value).toArray below meth c H locs k17 n17 (MQ below (gw_Qi K r tZ) ([.ref a0, .int a1] : List Value).toArray s C0 S0 K.2.2.2.1) (F0 m 45 ls []) := by
            intro v45_2 t17 k17 n17 C17 S17 H locs ls hP hS hk hn hl hf
            unfold fx_X1_waits_J45 at hf
            refine lv_iinc (v := (v14_3 + (1 : Int32))) (lv' := [(3, .int (v14_3 + (1 : Int32))), (0, .ref a0), (1, .int a1), (2, .int v45_2)]) hx hb dX1_waits_45 hl (k := 3) rfl rfl (by decide) rfl (fun ls hl => ?_)
            refine lv_goto (tgt := 14) hx hb dX1_waits_48 (by decide) ?_
            exact ih14 _ _ _ _ _ _ _ _ _ _ hP hS hk hn (lv_sub hl [1, 2, 3, 0] rfl) hf
          refine lv_if_eq (tgt := 45) hx hb dX1_waits_34 (by decide) (fun hc => ?_) (fun hc => ?_)
          · have hf := tw_ifT hc hf
            exact k45 _ _ _ _ _ _ _ _ _ hP hS hk hn (lv_sub hl [0, 1, 2, 3] rfl) hf
          · have hf := tw_ifF hc hf
            refine lv_iload_n hx hb dX1_waits_37 rfl (lv_at hl 2 rfl) ?_
            refine va_gets hx hb hX.2.2.2.2.2.1 hS hown (hts _ q1015) (fun _ h => h) dX1_waits_38 ?_
            refine lv_iload_n hx hb dX1_waits_41 rfl (lv_at hl 3 rfl) ?_
            obtain ⟨x18, t19, e20, hf⟩ := gw_b0E hf
            refine gw_bits C hS e20 dX1_waits_42 (fun ht => ?_)
            rw [ht] at hP
            refine lv_ior hx hb dX1_waits_43 ?_
            refine lv_istore_n (lv' := [(2, .int (v14_2 ||| x18)), (0, .ref a0), (1, .int a1), (3, .int v14_3)]) hx hb dX1_waits_44 rfl hl (by decide) rfl (fun ls hl => ?_)
            exact k45 _ _ _ _ _ _ _ _ _ hP hS hk hn (lv_sub hl [1, 2, 0, 3] rfl) hf
    exact k14 _ _ _ _ _ _ _ _ _ _ _ hP hS hk hn (lv_sub hl [2, 3, 1, 0] rfl) hf
  · have hf := tw_ifT hc hf
    refine lv_iconst (v := (-1 : Int32)) hx hb dX1_waits_8 (by decide) ?_
    obtain ⟨h1, h2, h3, h4⟩ := gw_rcE hf hk hn
    exact gw_ireti h1 h2 h3 h4 C hr hP hS hlk dX1_waits_9
def fx_X1_witness_J57  (w57_0 : Int32) : gM Int32 :=
  gw_rc w57_0
def fx_X1_witness (a0 : Nat) (a1 : Int32) : gM Int32 :=
  if 0 ≤ a1 then (gw_b0 (gw_gr 0 11 a0) fun x1 =>
  gw_bc (gw_on 0 a0 (fx_X1_paused a0 x1)) fun x4 =>
  gw_b0 (gw_on 11 x4 (fx_X12_first x4)) fun x7 =>
  gw_b0 (gw_gi 11 3 x7) fun x10 =>
  if x10 ≤ a1 then (fx_X1_witness_J57 (-2 : Int32))
  else (gw_b0 (gw_gr 0 11 a0) fun x14 =>
  gw_b0 (gw_gr 11 2 x7) fun x17 =>
  gw_b0 (gw_ld 0 x17 a1) fun x20 =>
  gw_b0 (gw_gr 11 2 x7) fun x23 =>
  gw_b0 (gw_gi 11 3 x7) fun x26 =>
  gw_b0 (tw_nz x26) fun _ =>
  gw_b0 (gw_ld 0 x23 ((a1 + (1 : Int32)) - (a1 + (1 : Int32)) / x26 * x26)) fun x32 =>
  gw_b0 (gw_on 2 x14 (fx_X3_waitsBy x14 x20 x32)) fun x35 =>
 
  fx_X1_witness_J57 x35))
  else (gw_rc (-1 : Int32))
theorem hdX1_witness : yX1_witness.cls = "LosslessFabric" ∧ (yX1_witness.cls ≠ "java/lang/invoke/MethodHandle" ∧ yX1_witness.cls ≠ "java/lang/invoke/VarHandle" ∧ (parseMethodDescriptor yX1_witness.desc).map (fun d => d.parameters.length) = some 1) := by decide +kernel
set_option maxHeartbeats 4000000 in
theorem mx_X1_witness {l : Launch} {K : GK} (hA : gw_A K) (a0 : Nat) (a1 : Int32) (t0 tZ : Hp) (r : Int32) (C0 S0 : Nat) (hf : fx_X1_witness a0 a1 t0 = some (r, tZ, C0, S0)) : Met l yX1_witness (ws_ yX1_witness cX1_witness 3 (some (.int))) ({ frames := 12, cells := C0, slots := S0, locals := 3221 }) (va_Pc [.ref a0, .int a1] (gw_W K t0)) (gw_Qi K r tZ) C0 S0 K.2.2.2.1 := by
  refine Met.ofW (cc := cX1_witness) (maxL := 3) (ret := some (.int)) (by decide) rfl ?_
  intro p e s m args below meth c s₁ B hml hv
  obtain ⟨rfl, hP, hK, hX, hN, hL⟩ := hv
  have hx := B.exec
  have hb := B.bytes
  have hr := B.returns
  have hts := atoms_spec (ws := (ws_ yX1_witness cX1_witness 3 (some (.int)))) B.pre
  have hts : ∀ w ∈ lw_all, w.before _ s = true := fun w h => hts w (List.mem_cons_of_mem _ h)
  have hown : s.vm.findClass "LosslessFabric" = some m.cls := findClass_of_methodNamed B.named
  have hlk := B.notSynchronized
  have C : gw_C K "LosslessFabric" p s m _ c cX1_witness := ⟨hx, hb, hts, hown, hK, hA, hX, hN, hL⟩
  have hk : 0 + C0 = C0 := Nat.zero_add _
  have hn : 0 + S0 = S0 := Nat.zero_add _
  have hS : va_S K.2.2.2.1 s.heap s.heap [] := va_S.rf
  have hl := lv_entry ([.ref a0, .int a1]) (n := 3) (Nat.le_of_ble_eq_true rfl)
  rw [lg_entry_eq]
  generalize (lg_sl ([.ref a0, .int a1]) ++ List.replicate (3 - (lg_sl ([.ref a0, .int a1])).length) Slot.unset).toArray = ls at hl ⊢
  have hl : lv_has ls 3 [(0, .ref a0), (1, .int a1)] := hl
  unfold fx_X1_witness at hf
  refine lv_iload_n hx hb dX1_witness_0 rfl (lv_at hl 1 rfl) ?_
  refine lv_if_ge (tgt := 6) hx hb dX1_witness_1 (by decide) (fun hc => ?_) (fun hc => ?_)
  · have hf := tw_ifT hc hf
    refine lv_aload_n hx hb dX1_witness_6 rfl (lv_at hl 0 rfl) ?_
    refine lv_aload_n hx hb dX1_witness_7 rfl (lv_at hl 0 rfl) ?_
    obtain ⟨x1, t2, e3, hf⟩ := gw_b0E hf
    refine gw_rget (ci := 0) (k := 11) (T := TX1) C hP rfl in_X1 (by decide) e3 q404 rfl dX1_witness_8 (fun hP => ?_)
    obtain ⟨x4, t5, c5, s5, C5, S5, e6, hf, hk, hn⟩ := gw_bcE hf hk hn
    refine gw_cVr (As := [.ref x1]) (rest := []) (ci := 0) (T := TX1) (N := 18) C hml hP hS rfl (gw_onE e6).1 (mx_X1_paused (l := l) (K := K) hA _ _ _ _ _ _ _ (gw_onE e6).2) (cwV 1 hts (lw_V q1042 q1044 qs24 q101 q1045) rfl rfl rfl hdX1_paused ⟨Nat.le_of_ble_eq_true rfl, Nat.le_of_ble_eq_true rfl⟩) rfl hl.1 rfl (Nat.le_of_ble_eq_true rfl) (Nat.le.intro hk) (Nat.le.intro hn) dX1_witness_11 (fun H locs hP hS => ?_)
    obtain ⟨x7, t8, e9, hf⟩ := gw_b0E hf
    refine gw_cVr (As := []) (rest := []) (ci := 11) (T := TX12) (N := 5) C hml hP hS rfl (gw_onE e9).1 (mx_X12_first (l := l) (K := K) hA _ _ _ _ (gw_onE e9).2) (cwV 0 hts (lw_V q1072 q1073 q1074 q125 q1075) rfl rfl rfl hdX12_first ⟨Nat.le_of_ble_eq_true rfl, Nat.le_of_ble_eq_true rfl⟩) rfl hl.1 rfl (Nat.le_of_ble_eq_true rfl) (Nat.le.intro hk) (Nat.le.intro hn) dX1_witness_14 (fun H locs hP hS => ?_)
    refine lv_astore_n (lv' := [(2, .ref x7), (0, .ref a0), (1, .int a1)]) hx hb dX1_witness_17 rfl hl (by decide) rfl (fun ls hl => ?_)
    refine lv_iload_n hx hb dX1_witness_18 rfl (lv_at hl 2 rfl) ?_
    refine lv_aload_n hx hb dX1_witness_19 rfl (lv_at hl 0 rfl) ?_
    obtain ⟨x10, t11, e12, hf⟩ := gw_b0E hf
    refine gw_igetN (ci := 11) (k := 3) (T := TX12) C hP rfl in_X12 (by decide) e12 q1059 rfl dX1_witness_20 (fun hP => ?_)
    have k57 : ∀ (w57_0 : Int32) (t13 : Hp) (k13 n13 C13 S13 : Nat) (H : Heap) (locs : List Loc) (ls : Array Slot), gw_P K t13 H → va_S K.2.2.2.1 s.heap H locs → k13 + C13 = C0 → n13 + S13 = S0 → lv_has ls 3 [] → fx_X1_witness_J57 w57_0 t13 = some (r, tZ, C13, S13) → W p l e (headSpec (ws_ yX1_witness cX1_witness 3 (some (.int))) ({ frames := 12, cells := C0, slots := S0, locals := 3221 })).room s m ([.ref a0, .int a1] : List Value).toArray below meth c H locs k13 n13 (MQ below (gw_Qi K r tZ) ([.ref a0, .int a1] : List Value).toArray s C0 S0 K.2.2.2.1) (F0 m 57 ls [.int w57_0]) := by
      intro w57_0 t13 k13 n13 C13 S13 H locs ls hP hS hk hn hl hf
      unfold fx_X1_witness_J57 at hf
      obtain ⟨h1, h2, h3, h4⟩ := gw_rcE hf hk hn
      exact gw_ireti h1 h2 h3 h4 C hr hP hS hlk dX1_witness_57
    refine lv_icmp_ge (tgt := 55) hx hb dX1_witness_23 (by decide) (fun hc => ?_) (fun hc => ?_)
    · have hf := tw_ifT hc hf
      refine lv_bipush (v := (-2 : Int32)) hx hb dX1_witness_55 (by decide) ?_
      exact k57 _ _ _ _ _ _ _ _ _ hP hS hk hn (lv_sub hl [] rfl) hf
    · have hf := tw_ifF hc hf
      refine lv_aload_n hx hb dX1_witness_26 rfl (lv_at hl 1 rfl) ?_
      obtain ⟨x14, t15, e16, hf⟩ := gw_b0E hf
      refine gw_rget (ci := 0) (k := 11) (T := TX1) C hP rfl in_X1 (by decide) e16 q404 rfl dX1_witness_27 (fun hP => ?_)
      refine lv_aload_n hx hb dX1_witness_30 rfl (lv_at hl 0 rfl) ?_
      obtain ⟨x17, t18, e19, hf⟩ := gw_b0E hf
      refine gw_rgetN (ci := 11) (k := 2) (T := TX12) C hP rfl in_X12 (by decide) e19 q1057 rfl dX1_witness_31 (fun hP => ?_)
      refine lv_iload_n hx hb dX1_witness_34 rfl (lv_at hl 2 rfl) ?_
      obtain ⟨x20, t21, e22, hf⟩ := gw_b0E hf
      refine gw_iald C hP e22 dX1_witness_35 (fun hP => ?_)
      refine lv_aload_n hx hb dX1_witness_36 rfl (lv_at hl 0 rfl) ?_
      obtain ⟨x23, t24, e25, hf⟩ := gw_b0E hf
      refine gw_rgetN (ci := 11) (k := 2) (T := TX12) C hP rfl in_X12 (by decide) e25 q1057 rfl dX1_witness_37 (fun hP => ?_)
      refine lv_iload_n hx hb dX1_witness_40 rfl (lv_at hl 2 rfl) ?_
      refine lv_iconst (v := (1 : Int32)) hx hb dX1_witness_41 (by decide) ?_
      refine lv_iadd hx hb dX1_witness_42 ?_
      refine lv_aload_n hx hb dX1_witness_43 rfl (lv_at hl 0 rfl) ?_
      obtain ⟨x26, t27, e28, hf⟩ := gw_b0E hf
      refine gw_igetN (ci := 11) (k := 3) (T := TX12) C hP rfl in_X12 (by decide) e28 q1059 rfl dX1_witness_44 (fun hP => ?_)
      obtain ⟨w29, t30, e31, hf⟩ := gw_b0E hf
      rw [← (tw_nzE e31).2] at hf
      refine lv_irem hx hb dX1_witness_47 (tw_nzE e31).1 ?_
      obtain ⟨x32, t33, e34, hf⟩ := gw_b0E hf
      refine gw_iald C hP e34 dX1_witness_48 (fun hP => ?_)
      obtain ⟨x35, t36, e37, hf⟩ := gw_b0E hf
      refine gw_cVi (As := [.int x20, .int x32]) (rest := []) (ci := 2) (T := TX3) (N := 4) C hml hP hS rfl (gw_onE e37).1 (mx_X3_waitsBy (l := l) (K := K) hA _ _ _ _ _ _ (gw_onE e37).2) (cwV 2 hts (lw_V q1105 q1030 q1031 q103 q1032) rfl rfl rfl hdX3_waitsBy ⟨Nat.le_of_ble_eq_true rfl, Nat.le_of_ble_eq_true rfl⟩) rfl hl.1 rfl (Nat.le_of_ble_eq_true rfl) (Nat.le.intro hk) (Nat.le.intro hn) dX1_witness_49 (fun H locs hP hS => ?_)
      refine lv_goto (tgt := 57) hx hb dX1_witness_52 (by decide) ?_
      exact k57 _ _ _ _ _ _ _ _ _ hP hS hk hn (lv_sub hl [] rfl) hf
  · have hf := tw_ifF hc hf
    refine lv_iconst (v := (-1 : Int32)) hx hb dX1_witness_4 (by decide) ?_
    obtain ⟨h1, h2, h3, h4⟩ := gw_rcE hf hk hn
    exact gw_ireti h1 h2 h3 h4 C hr hP hS hlk dX1_witness_5
def fx_X1_worst_J157 (sf22 : Int32 → Int32 → Int32 → gM Int32) (v22_4 : Int32) (v157_2 : Int32) (v157_3 : Int32) : gM Int32 :=
  sf22 v157_2 v157_3 (v22_4 + (1 : Int32))
def fx_X1_worst_J151 (sf22 : Int32 → Int32 → Int32 → gM Int32) (v22_4 : Int32) (x40 : Int32) (x52 : Int32) (x58 : Int32) (x70 : Int32)  : gM Int32 :=
  fx_X1_worst_J157 sf22 v22_4 v22_4 (((x40 - x52) - x58) + x70)
def fx_X1_worst_L71 (a1 : Int32) (a0 : Nat) (v22_4 : Int32) (v22_2 : Int32) (sf22 : Int32 → Int32 → Int32 → gM Int32) (v22_3 : Int32) (sf71 : Int32 → gM Int32) (v71_5 : Int32) : gM Int32 :=
  if a1 ≤ v71_5 then (gw_b0 (gw_gr 0 13 a0) fun x37 =>
  gw_b0 (gw_on 2 x37 (fx_X3_all x37 (1 : Int32))) fun x40 =>
  gw_b0 (gw_gr 0 13 a0) fun x43 =>
  gw_b0 (gw_gr 2 3 x43) fun x46 =>
  gw_b0 (gw_lr 7 x46 v22_4) fun x49 =>
  gw_b0 (gw_gi 4 3 x49) fun x52 =>
  gw_b0 (gw_gr 0 11 a0) fun x55 =>
  gw_b0 (gw_on 2 x55 (fx_X3_all x55 (1 : Int32))) fun x58 =>
  gw_b0 (gw_gr 0 11 a0) fun x61 =>
  gw_b0 (gw_gr 2 3 x61) fun x64 =>
  gw_b0 (gw_lr 7 x64 v22_4) fun x67 =>
  gw_b0 (gw_gi 4 3 x67) fun x70 =>
  if v22_2 < 0 then (fx_X1_worst_J151 sf22 v22_4 x40 x52 x58 x70)
  else (if v22_3 < (((x40 - x52) - x58) + x70) then (fx_X1_worst_J151 sf22 v22_4 x40 x52 x58 x70)
  else (fx_X1_worst_J157 sf22 v22_4 v22_2 v22_3)))
  else (gw_b0 (gw_gr 0 13 a0) fun x74 =>
  gw_bc (gw_on 0 a0 (fx_X1_ticks a0 x74)) fun _ =>
 
  sf71 (v71_5 + (1 : Int32)))
def fx_X1_worst_L22 (a0 : Nat) (a1 : Int32) (sf22 : Int32 → Int32 → Int32 → gM Int32) (v22_2 : Int32) (v22_3 : Int32) (v22_4 : Int32) : gM Int32 :=
  gw_b0 (gw_gr 0 4 a0) fun x5 =>
  gw_b0 (gw_gi 1 3 x5) fun x8 =>
  if x8 ≤ v22_4 then (gw_rc v22_2)
  else (gw_b0 (gw_gr 0 11 a0) fun x11 =>
  gw_b0 (gw_gr 2 3 x11) fun x14 =>
  gw_b0 (gw_lr 7 x14 v22_4) fun x17 =>
  gw_b0 (gw_gi 4 11 x17) fun x20 =>
  if x20 = 0 then (fx_X1_worst_J157 sf22 v22_4 v22_2 v22_3)
  else (gw_bc (gw_on 0 a0 (fx_X1_tried a0 (0 : Int32))) fun x24 =>
  gw_b0 (gw_gr 2 3 x24) fun x27 =>
  gw_b0 (gw_lr 7 x27 v22_4) fun x30 =>
  gw_b0 (gw_pz 4 11 x30 (0 : Int32)) fun _ =>
 
  tw_lp (fx_X1_worst_L71 a1 a0 v22_4 v22_2 sf22 v22_3) (fun _ _ => none) tw_fu (0 : Int32)))
def fx_X1_worst (a0 : Nat) (a1 : Int32) : gM Int32 :=
  gw_b0 (fx_X1_isIn (a1.toInt64) (1 : Int64) (40 : Int64)) fun x1 =>
  if x1 = 0 then (gw_rc (-1 : Int32))
  else (tw_lp (fx_X1_worst_L22 a0 a1) (fun _ _ _ _ => none) tw_fu (-2 : Int32) (0 : Int32) (0 : Int32))
theorem hdX1_worst : yX1_worst.cls = "LosslessFabric" ∧ (yX1_worst.cls ≠ "java/lang/invoke/MethodHandle" ∧ yX1_worst.cls ≠ "java/lang/invoke/VarHandle" ∧ (parseMethodDescriptor yX1_worst.desc).map (fun d => d.parameters.length) = some 1) := by decide +kernel
set_option maxHeartbeats 4000000 in
theorem mx_X1_worst {l : Launch} {K : GK} (hA : gw_A K) (a0 : Nat) (a1 : Int32) (t0 tZ : Hp) (r : Int32) (C0 S0 : Nat) (hf : fx_X1_worst a0 a1 t0 = some (r, tZ, C0, S0)) : Met l yX1_worst (ws_ yX1_worst cX1_worst 6 (some (.int))) ({ frames := 8, cells := C0, slots := S0, locals := 3271 }) (va_Pc [.ref a0, .int a1] (gw_W K t0)) (gw_Qi K r tZ) C0 S0 K.2.2.2.1 := by
  refine Met.ofW (cc := cX1_worst) (maxL := 6) (ret := some (.int)) (by decide) rfl ?_
  intro p e s m args below meth c s₁ B hml hv
  obtain ⟨rfl, hP, hK, hX, hN, hL⟩ := hv
  have hx := B.exec
  have hb := B.bytes
  have hr := B.returns
  have hts := atoms_spec (ws := (ws_ yX1_worst cX1_worst 6 (some (.int)))) B.pre
  have hts : ∀ w ∈ lw_all, w.before _ s = true := fun w h => hts w (List.mem_cons_of_mem _ h)
  have hown : s.vm.findClass "LosslessFabric" = some m.cls := findClass_of_methodNamed B.named
  have hlk := B.notSynchronized
  have C : gw_C K "LosslessFabric" p s m _ c cX1_worst := ⟨hx, hb, hts, hown, hK, hA, hX, hN, hL⟩
  have hk : 0 + C0 = C0 := Nat.zero_add _
  have hn : 0 + S0 = S0 := Nat.zero_add _
  have hS : va_S K.2.2.2.1 s.heap s.heap [] := va_S.rf
  have hl := lv_entry ([.ref a0, .int a1]) (n := 6) (Nat.le_of_ble_eq_true rfl)
  rw [lg_entry_eq]
  generalize (lg_sl ([.ref a0, .int a1]) ++ List.replicate (6 - (lg_sl ([.ref a0, .int a1])).length) Slot.unset).toArray = ls at hl ⊢
  have hl : lv_has ls 6 [(0, .ref a0), (1, .int a1)] := hl
  unfold fx_X1_worst at hf
  refine lv_iload_n hx hb dX1_worst_0 rfl (lv_at hl 1 rfl) ?_
  refine lv_i2l hx hb dX1_worst_1 rfl ?_
  refine lv_lconst (v := (1 : Int64)) hx hb dX1_worst_2 (by decide) ?_
  refine lv_ldc2 hx hb hown (hts _ q1235) dX1_worst_3 ?_
  obtain ⟨x1, t2, e3, hf⟩ := gw_b0E hf
  refine gw_cSi (As := [.long (a1.toInt64), .long (1 : Int64), .long (40 : Int64)]) (rest := []) C hml hP hS (mx_X1_isIn (l := l) (K := K) hA _ _ _ _ _ _ e3) (va_cwS 3 hts (lw_S q457 q458 q101 q459) rfl rfl rfl hdX1_isIn ⟨Nat.le_of_ble_eq_true rfl, Nat.le_of_ble_eq_true rfl⟩) rfl hl.1 rfl (Nat.le_of_ble_eq_true rfl) (Nat.le.intro hk) (Nat.le.intro hn) dX1_worst_6 (fun H locs hP hS => ?_)
  refine lv_if_ne (tgt := 14) hx hb dX1_worst_9 (by decide) (fun hc => ?_) (fun hc => ?_)
  · have hf := tw_ifF hc hf
    refine lv_bipush (v := (-2 : Int32)) hx hb dX1_worst_14 (by decide) ?_
    refine lv_istore_n (lv' := [(2, .int (-2 : Int32)), (0, .ref a0), (1, .int a1)]) hx hb dX1_worst_16 rfl hl (by decide) rfl (fun ls hl => ?_)
    refine lv_iconst (v := (0 : Int32)) hx hb dX1_worst_17 (by decide) ?_
    refine lv_istore_n (lv' := [(3, .int (0 : Int32)), (2, .int (-2 : Int32)), (0, .ref a0), (1, .int a1)]) hx hb dX1_worst_18 rfl hl (by decide) rfl (fun ls hl => ?_)
    refine lv_iconst (v := (0 : Int32)) hx hb dX1_worst_19 (by decide) ?_
    refine lv_istore (lv' := [(4, .int (0 : Int32)), (3, .int (0 : Int32)), (2, .int (-2 : Int32)), (0, .ref a0), (1, .int a1)]) hx hb dX1_worst_20 hl (by decide) rfl (fun ls hl => ?_)
    have k22 : ∀ (n : Nat) (v22_2 : Int32) (v22_3 : Int32) (v22_4 : Int32) (t4 : Hp) (k4 n4 C4 S4 : Nat) (H : Heap) (locs : List Loc) (ls : Array Slot), gw_P K t4 H → va_S K.2.2.2.1 s.heap H locs → k4 + C4 = C0 → n4 + S4 = S0 → lv_has ls 6 [(0, .ref a0), (1, .int a1), (2, .int v22_2), (3, .int v22_3), (4, .int v22_4)] → tw_lp (fx_X1_worst_L22 a0 a1) (fun _ _ _ _ => none) n v22_2 v22_3 v22_4 t4 = some (r, tZ, C4, S4) → W p l e (headSpec (ws_ yX1_worst cX1_worst 6 (some (.int))) ({ frames := 8, cells := C0, slots := S0, locals := 3271 })).room s m ([.ref a0, .int a1] : List Value).toArray below meth c H locs k4 n4 (MQ below (gw_Qi K r tZ) ([.ref a0, .int a1] : List Value).toArray s C0 S0 K.2.2.2.1) (F0 m 22 ls []) := by
      intro n
      induction n with
      | zero => intro v22_2 v22_3 v22_4 t4 k4 n4 C4 S4 H locs ls hP hS hk hn hl hf; exact (tw_no hf).elim
      | succ n ih22 =>
        intro v22_2 v22_3 v22_4 t4 k4 n4 C4 S4 H locs ls hP hS hk hn hl hf
        obtain ⟨sf22, hs22⟩ : ∃ f, f = tw_lp (fx_X1_worst_L22 a0 a1) (fun _ _ _ _ => none) n := ⟨_, rfl⟩
        rw [← hs22] at ih22
        have hf : fx_X1_worst_L22 a0 a1 sf22 v22_2 v22_3 v22_4 t4 = some (r, tZ, C4, S4) := by rw [hs22]; exact hf
        clear hs22
        unfold fx_X1_worst_L22 at hf
        refine lv_iload hx hb dX1_worst_22 (lv_at hl 4 rfl) ?_
        refine lv_aload_n hx hb dX1_worst_24 rfl (lv_at hl 0 rfl) ?_
        obtain ⟨x5, t6, e7, hf⟩ := gw_b0E hf
        refine gw_rget (ci := 0) (k := 4) (T := TX1) C hP rfl in_X1 (by decide) e7 q394 rfl dX1_worst_25 (fun hP => ?_)
        obtain ⟨x8, t9, e10, hf⟩ := gw_b0E hf
        refine gw_igetN (ci := 1) (k := 3) (T := TX2) C hP rfl in_X2 (by decide) e10 q165 rfl dX1_worst_28 (fun hP => ?_)
        refine lv_icmp_ge (tgt := 163) hx hb dX1_worst_31 (by decide) (fun hc => ?_) (fun hc => ?_)
        · have hf := tw_ifT hc hf
          refine lv_iload_n hx hb dX1_worst_163 rfl (lv_at hl 2 rfl) ?_
          obtain ⟨h1, h2, h3, h4⟩ := gw_rcE hf hk hn
          exact gw_ireti h1 h2 h3 h4 C hr hP hS hlk dX1_worst_164
        · have hf := tw_ifF hc hf
          refine lv_aload_n hx hb dX1_worst_34 rfl (lv_at hl 0 rfl) ?_
          obtain ⟨x11, t12, e13, hf⟩ := gw_b0E hf
          refine gw_rget (ci := 0) (k := 11) (T := TX1) C hP rfl in_X1 (by decide) e13 q404 rfl dX1_worst_35 (fun hP => ?_)
          obtain ⟨x14, t15, e16, hf⟩ := gw_b0E hf
          refine gw_rgetN (ci := 2) (k := 3) (T := TX3) C hP rfl in_X3 (by decide) e16 q358 rfl dX1_worst_38 (fun hP => ?_)
          refine lv_iload hx hb dX1_worst_41 (lv_at hl 4 rfl) ?_
          obtain ⟨x17, t18, e19, hf⟩ := gw_b0E hf
          refine gw_aald C hP rfl e19 dX1_worst_43 (fun hP => ?_)
          obtain ⟨x20, t21, e22, hf⟩ := gw_b0E hf
          refine gw_igetN (ci := 4) (k := 11) (T := TX5) C hP rfl in_X5 (by decide) e22 q325 rfl dX1_worst_44 (fun hP => ?_)
          have k157 : ∀ (v157_2 : Int32) (v157_3 : Int32) (t23 : Hp) (k23 n23 C23 S23 : Nat) (H : Heap) (locs : List Loc) (ls : Array Slot), gw_P K t23 H → va_S K.2.2.2.1 s.heap H locs → k23 + C23 = C0 → n23 + S23 = S0 → lv_has ls 6 [(0, .ref a0), (1, .int a1), (2, .int v157_2), (3, .int v157_3), (4, .int v22_4)] → fx_X1_worst_J157 sf22 v22_4 v157_2 v157_3 t23 = some (r, tZ, C23, S23) → W p l e (headSpec (ws_ yX1_worst cX1_worst 6 (some (.int))) ({ frames := 8, cells := C0, slots := S0, locals := 3271 })).room s m ([.ref a0, .int a1] : List Value).toArray below meth c H locs k23 n23 (MQ below (gw_Qi K r tZ) ([.ref a0, .int a1] : List Value).toArray s C0 S0 K.2.2.2.1) (F0 m 157 ls []) := by
            intro v157_2 v157_3 t23 k23 n23 C23 S23 H locs ls hP hS hk hn hl hf
            unfold fx_X1_worst_J157 at hf
            refine lv_iinc (v := (v22_4 + (1 : Int32))) (lv' := [(4, .int (v22_4 + (1 : Int32))), (0, .ref a0), (1, .int a1), (2, .int v157_2), (3, .int v157_3)]) hx hb dX1_worst_157 hl (k := 4) rfl rfl (by decide) rfl (fun ls hl => ?_)
            refine lv_goto (tgt := 22) hx hb dX1_worst_160 (by decide) ?_
            exact ih22 _ _ _ _ _ _ _ _ _ _ _ hP hS hk hn (lv_sub hl [1, 2, 3, 4, 0] rfl) hf
          refine lv_if_ne (tgt := 53) hx hb dX1_worst_47 (by decide) (fun hc => ?_) (fun hc => ?_)
          · have hf := tw_ifF hc hf
            refine lv_aload_n hx hb dX1_worst_53 rfl (lv_at hl 0 rfl) ?_
            refine lv_iconst (v := (0 : Int32)) hx hb dX1_worst_54 (by decide) ?_
            obtain ⟨x24, t25, c25, s25, C25, S25, e26, hf, hk, hn⟩ := gw_bcE hf hk hn
            refine gw_cVr (As := [.int (0 : Int32)]) (rest := []) (ci := 0) (T := TX1) (N := 18) C hml hP hS rfl (gw_onE e26).1 (mx_X1_tried (l := l) (K := K) hA _ _ _ _ _ _ _ (gw_onE e26).2) (cwV 1 hts (lw_V q1202 q1204 qs34 q101 q1205) rfl rfl rfl hdX1_tried ⟨Nat.le_of_ble_eq_true rfl, Nat.le_of_ble_eq_true rfl⟩) rfl hl.1 rfl (Nat.le_of_ble_eq_true rfl) (Nat.le.intro hk) (Nat.le.intro hn) dX1_worst_55 (fun H locs hP hS => ?_)
            obtain ⟨x27, t28, e29, hf⟩ := gw_b0E hf
            refine gw_rgetN (ci := 2) (k := 3) (T := TX3) C hP rfl in_X3 (by decide) e29 q358 rfl dX1_worst_58 (fun hP => ?_)
            refine lv_iload hx hb dX1_worst_61 (lv_at hl 4 rfl) ?_
            obtain ⟨x30, t31, e32, hf⟩ := gw_b0E hf
            refine gw_aald C hP rfl e32 dX1_worst_63 (fun hP => ?_)
            refine lv_iconst (v := (0 : Int32)) hx hb dX1_worst_64 (by decide) ?_
            obtain ⟨x33, t34, e35, hf⟩ := gw_b0E hf
            refine gw_vputN (ci := 4) (k := 11) (T := TX5) C hP hS rfl in_X5 tyX5 tyX5_ok nmX5 (by decide) (gw_pzE e35).2 q325 rfl rfl (gw_zn (gw_pzE e35).1) (gw_zf (gw_pzE e35).1) dX1_worst_65 (fun H locs hP hS => ?_)
            refine lv_iconst (v := (0 : Int32)) hx hb dX1_worst_68 (by decide) ?_
            refine lv_istore (lv' := [(5, .int (0 : Int32)), (0, .ref a0), (1, .int a1), (2, .int v22_2), (3, .int v22_3), (4, .int v22_4)]) hx hb dX1_worst_69 hl (by decide) rfl (fun ls hl => ?_)
            have k71 : ∀ (n : Nat) (v71_5 : Int32) (t36 : Hp) (k36 n36 C36 S36 : Nat) (H : Heap) (locs : List Loc) (ls : Array Slot), gw_P K t36 H → va_S K.2.2.2.1 s.heap H locs → k36 + C36 = C0 → n36 + S36 = S0 → lv_has ls 6 [(0, .ref a0), (1, .int a1), (2, .int v22_2), (3, .int v22_3), (4, .int v22_4), (5, .int v71_5)] → tw_lp (fx_X1_worst_L71 a1 a0 v22_4 v22_2 sf22 v22_3) (fun _ _ => none) n v71_5 t36 = some (r, tZ, C36, S36) → W p l e (headSpec (ws_ yX1_worst cX1_worst 6 (some (.int))) ({ frames := 8, cells := C0, slots := S0, locals := 3271 })).room s m ([.ref a0, .int a1] : List Value).toArray below meth c H locs k36 n36 (MQ below (gw_Qi K r tZ) ([.ref a0, .int a1] : List Value).toArray s C0 S0 K.2.2.2.1) (F0 m 71 ls []) := by
              intro n
              induction n with
              | zero => intro v71_5 t36 k36 n36 C36 S36 H locs ls hP hS hk hn hl hf; exact (tw_no hf).elim
              | succ n ih71 =>
                intro v71_5 t36 k36 n36 C36 S36 H locs ls hP hS hk hn hl hf
                obtain ⟨sf71, hs71⟩ : ∃ f, f = tw_lp (fx_X1_worst_L71 a1 a0 v22_4 v22_2 sf22 v22_3) (fun _ _ => none) n := ⟨_, rfl⟩
                rw [← hs71] at ih71
                have hf : fx_X1_worst_L71 a1 a0 v22_4 v22_2 sf22 v22_3 sf71 v71_5 t36 = some (r, tZ, C36, S36) := by rw [hs71]; exact hf
                clear hs71
                unfold fx_X1_worst_L71 at hf
                refine lv_iload hx hb dX1_worst_71 (lv_at hl 5 rfl) ?_
                refine lv_iload_n hx hb dX1_worst_73 rfl (lv_at hl 1 rfl) ?_
                refine lv_icmp_ge (tgt := 91) hx hb dX1_worst_74 (by decide) (fun hc => ?_) (fun hc => ?_)
                · have hf := tw_ifT hc hf
                  refine lv_aload_n hx hb dX1_worst_91 rfl (lv_at hl 0 rfl) ?_
                  obtain ⟨x37, t38, e39, hf⟩ := gw_b0E hf
                  refine gw_rget (ci := 0) (k := 13) (T := TX1) C hP rfl in_X1 (by decide) e39 q406 rfl dX1_worst_92 (fun hP => ?_)
                  refine lv_iconst (v := (1 : Int32)) hx hb dX1_worst_95 (by decide) ?_
                  obtain ⟨x40, t41, e42, hf⟩ := gw_b0E hf
                  refine gw_cVi (As := [.int (1 : Int32)]) (rest := []) (ci := 2) (T := TX3) (N := 4) C hml hP hS rfl (gw_onE e42).1 (mx_X3_all (l := l) (K := K) hA _ _ _ _ _ (gw_onE e42).2) (cwV 1 hts (lw_V q1236 q1237 q1238 q103 q1239) rfl rfl rfl hdX3_all ⟨Nat.le_of_ble_eq_true rfl, Nat.le_of_ble_eq_true rfl⟩) rfl hl.1 rfl (Nat.le_of_ble_eq_true rfl) (Nat.le.intro hk) (Nat.le.intro hn) dX1_worst_96 (fun H locs hP hS => ?_)
                  refine lv_aload_n hx hb dX1_worst_99 rfl (lv_at hl 0 rfl) ?_
                  obtain ⟨x43, t44, e45, hf⟩ := gw_b0E hf
                  refine gw_rget (ci := 0) (k := 13) (T := TX1) C hP rfl in_X1 (by decide) e45 q406 rfl dX1_worst_100 (fun hP => ?_)
                  obtain ⟨x46, t47, e48, hf⟩ := gw_b0E hf
                  refine gw_rgetN (ci := 2) (k := 3) (T := TX3) C hP rfl in_X3 (by decide) e48 q358 rfl dX1_worst_103 (fun hP => ?_)
                  refine lv_iload hx hb dX1_worst_106 (lv_at hl 4 rfl) ?_
                  obtain ⟨x49, t50, e51, hf⟩ := gw_b0E hf
                  refine gw_aald C hP rfl e51 dX1_worst_108 (fun hP => ?_)
                  obtain ⟨x52, t53, e54, hf⟩ := gw_b0E hf
                  refine gw_igetN (ci := 4) (k := 3) (T := TX5) C hP rfl in_X5 (by decide) e54 q305 rfl dX1_worst_109 (fun hP => ?_)
                  refine lv_isub hx hb dX1_worst_112 ?_
                  refine lv_aload_n hx hb dX1_worst_113 rfl (lv_at hl 0 rfl) ?_
                  obtain ⟨x55, t56, e57, hf⟩ := gw_b0E hf
                  refine gw_rget (ci := 0) (k := 11) (T := TX1) C hP rfl in_X1 (by decide) e57 q404 rfl dX1_worst_114 (fun hP => ?_)
                  refine lv_iconst (v := (1 : Int32)) hx hb dX1_worst_117 (by decide) ?_
                  obtain ⟨x58, t59, e60, hf⟩ := gw_b0E hf
                  refine gw_cVi (As := [.int (1 : Int32)]) (rest := [.int (x40 - x52)]) (ci := 2) (T := TX3) (N := 4) C hml hP hS rfl (gw_onE e60).1 (mx_X3_all (l := l) (K := K) hA _ _ _ _ _ (gw_onE e60).2) (cwV 1 hts (lw_V q1236 q1237 q1238 q103 q1239) rfl rfl rfl hdX3_all ⟨Nat.le_of_ble_eq_true rfl, Nat.le_of_ble_eq_true rfl⟩) rfl hl.1 rfl (Nat.le_of_ble_eq_true rfl) (Nat.le.intro hk) (Nat.le.intro hn) dX1_worst_118 (fun H locs hP hS => ?_)
                  refine lv_isub hx hb dX1_worst_121 ?_
                  refine lv_aload_n hx hb dX1_worst_122 rfl (lv_at hl 0 rfl) ?_
                  obtain ⟨x61, t62, e63, hf⟩ := gw_b0E hf
                  refine gw_rget (ci := 0) (k := 11) (T := TX1) C hP rfl in_X1 (by decide) e63 q404 rfl dX1_worst_123 (fun hP => ?_)
                  obtain ⟨x64, t65, e66, hf⟩ := gw_b0E hf
                  refine gw_rgetN (ci := 2) (k := 3) (T := TX3) C hP rfl in_X3 (by decide) e66 q358 rfl dX1_worst_126 (fun hP => ?_)
                  refine lv_iload hx hb dX1_worst_129 (lv_at hl 4 rfl) ?_
                  obtain ⟨x67, t68, e69, hf⟩ := gw_b0E hf
                  refine gw_aald C hP rfl e69 dX1_worst_131 (fun hP => ?_)
                  obtain ⟨x70, t71, e72, hf⟩ := gw_b0E hf
                  refine gw_igetN (ci := 4) (k := 3) (T := TX5) C hP rfl in_X5 (by decide) e72 q305 rfl dX1_worst_132 (fun hP => ?_)
                  refine lv_iadd hx hb dX1_worst_135 ?_
                  refine lv_istore (lv' := [(5, .int (((x40 - x52) - x58) + x70)), (0, .ref a0), (1, .int a1), (2, .int v22_2), (3, .int v22_3), (4, .int v22_4)]) hx hb dX1_worst_136 hl (by decide) rfl (fun ls hl => ?_)
                  refine lv_iload_n hx hb dX1_worst_138 rfl (lv_at hl 3 rfl) ?_
                  have k151 : ∀  (t73 : Hp) (k73 n73 C73 S73 : Nat) (H : Heap) (locs : List Loc) (ls : Array Slot), gw_P K t73 H → va_S K.2.2.2.1 s.heap H locs → k73 + C73 = C0 → n73 + S73 = S0 → lv_has ls 6 [(0, .ref a0), (1, .int a1), (4, .int v22_4), (5, .int (((x40 - x52) - x58) + x70))] → fx_X1_worst_J151 sf22 v22_4 x40 x52 x58 x70  t73 = some (r, tZ, C73, S73) → W p l e (headSpec (ws_ yX1_worst cX1_worst 6 (some (.int))) ({ frames := 8, cells := C0, slots := S0, locals := 3271 })).room s m ([.ref a0, .int a1] : List Value).toArray below meth c H locs k73 n73 (MQ below (gw_Qi K r tZ) ([.ref a0, .int a1] : List Value).toArray s C0 S0 K.2.2.2.1) (F0 m 151 ls []) := by
                    intro t73 k73 n73 C73 S73 H locs ls hP hS hk hn hl hf
                    unfold fx_X1_worst_J151 at hf
                    refine lv_iload hx hb dX1_worst_151 (lv_at hl 2 rfl) ?_
                    refine lv_istore_n (lv' := [(2, .int v22_4), (0, .ref a0), (1, .int a1), (4, .int v22_4), (5, .int (((x40 - x52) - x58) + x70))]) hx hb dX1_worst_153 rfl hl (by decide) rfl (fun ls hl => ?_)
                    refine lv_iload hx hb dX1_worst_154 (lv_at hl 4 rfl) ?_
                    refine lv_istore_n (lv' := [(3, .int (((x40 - x52) - x58) + x70)), (2, .int v22_4), (0, .ref a0), (1, .int a1), (4, .int v22_4), (5, .int (((x40 - x52) - x58) + x70))]) hx hb dX1_worst_156 rfl hl (by decide) rfl (fun ls hl => ?_)
                    exact k157 _ _ _ _ _ _ _ _ _ _ hP hS hk hn (lv_sub hl [2, 3, 1, 0, 4] rfl) hf
                  refine lv_if_lt (tgt := 151) hx hb dX1_worst_139 (by decide) (fun hc => ?_) (fun hc => ?_)
                  · have hf := tw_ifT hc hf
                    exact k151 _ _ _ _ _ _ _ _ hP hS hk hn (lv_sub hl [1, 2, 5, 0] rfl) hf
                  · have hf := tw_ifF hc hf
                    refine lv_iload hx hb dX1_worst_142 (lv_at hl 0 rfl) ?_
                    refine lv_iload_n hx hb dX1_worst_144 rfl (lv_at hl 4 rfl) ?_
                    refine lv_icmp_gt (tgt := 151) hx hb dX1_worst_145 (by decide) (fun hc => ?_) (fun hc => ?_)
                    · have hf := tw_ifT hc hf
                      exact k151 _ _ _ _ _ _ _ _ hP hS hk hn (lv_sub hl [1, 2, 5, 0] rfl) hf
                    · have hf := tw_ifF hc hf
                      refine lv_goto (tgt := 157) hx hb dX1_worst_148 (by decide) ?_
                      exact k157 _ _ _ _ _ _ _ _ _ _ hP hS hk hn (lv_sub hl [1, 2, 3, 4, 5] rfl) hf
                · have hf := tw_ifF hc hf
                  refine lv_aload_n hx hb dX1_worst_77 rfl (lv_at hl 0 rfl) ?_
                  refine lv_aload_n hx hb dX1_worst_78 rfl (lv_at hl 0 rfl) ?_
                  obtain ⟨x74, t75, e76, hf⟩ := gw_b0E hf
                  refine gw_rget (ci := 0) (k := 13) (T := TX1) C hP rfl in_X1 (by decide) e76 q406 rfl dX1_worst_79 (fun hP => ?_)
                  obtain ⟨x77, t78, c78, s78, C78, S78, e79, hf, hk, hn⟩ := gw_bcE hf hk hn
                  refine gw_cVv (As := [.ref x74]) (rest := []) (ci := 0) (T := TX1) (N := 18) C hml hP hS rfl (gw_onE e79).1 (mx_X1_ticks (l := l) (K := K) hA _ _ _ _ _ _ _ (gw_onE e79).2) (cwV 1 hts (lw_V q852 q854 qs16 q101 q855) rfl rfl rfl hdX1_ticks ⟨Nat.le_of_ble_eq_true rfl, Nat.le_of_ble_eq_true rfl⟩) rfl hl.1 rfl (Nat.le_of_ble_eq_true rfl) (Nat.le.intro hk) (Nat.le.intro hn) dX1_worst_82 (fun H locs hP hS => ?_)
                  refine lv_iinc (v := (v71_5 + (1 : Int32))) (lv' := [(5, .int (v71_5 + (1 : Int32))), (0, .ref a0), (1, .int a1), (2, .int v22_2), (3, .int v22_3), (4, .int v22_4)]) hx hb dX1_worst_85 hl (k := 5) rfl rfl (by decide) rfl (fun ls hl => ?_)
                  refine lv_goto (tgt := 71) hx hb dX1_worst_88 (by decide) ?_
                  exact ih71 _ _ _ _ _ _ _ _ _ hP hS hk hn (lv_sub hl [1, 2, 3, 4, 5, 0] rfl) hf
            exact k71 _ _ _ _ _ _ _ _ _ _ hP hS hk hn (lv_sub hl [1, 2, 3, 4, 5, 0] rfl) hf
          · have hf := tw_ifT hc hf
            refine lv_goto (tgt := 157) hx hb dX1_worst_50 (by decide) ?_
            exact k157 _ _ _ _ _ _ _ _ _ _ hP hS hk hn (lv_sub hl [0, 1, 2, 3, 4] rfl) hf
    exact k22 _ _ _ _ _ _ _ _ _ _ _ _ hP hS hk hn (lv_sub hl [3, 4, 2, 1, 0] rfl) hf
  · have hf := tw_ifT hc hf
    refine lv_iconst (v := (-1 : Int32)) hx hb dX1_worst_12 (by decide) ?_
    obtain ⟨h1, h2, h3, h4⟩ := gw_rcE hf hk hn
    exact gw_ireti h1 h2 h3 h4 C hr hP hS hlk dX1_worst_13