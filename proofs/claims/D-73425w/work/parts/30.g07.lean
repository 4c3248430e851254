def fx_X13_lays_J136  (w136_0 : Int32) : HM Int32 :=
  tw_rz w136_0
def fx_X13_lays_J106 (sf29 : Int32 → Int32 → HM Int32) (v29_3 : Int32) (v106_2 : Int32) : HM Int32 :=
  sf29 v106_2 (v29_3 + (1 : Int32))
def fx_X13_lays_L29 (a0 : Nat) (a1 : Int32) (sf29 : Int32 → Int32 → HM Int32) (v29_2 : Int32) (v29_3 : Int32) : HM Int32 :=
  tw_bd (gw_gr 12 6 a0) fun x23 =>
  tw_bd (gw_gr 0 4 x23) fun x26 =>
  tw_bd (gw_gi 1 3 x26) fun x29 =>
  if x29 ≤ v29_3 then (tw_bd (gw_gl 12 5 a0) fun x32 =>
   tw_bd (gw_pl 12 5 a0 (x32 * ((if (1 : Int32) < v29_2 then v29_2 else (1 : Int32)).toInt64))) fun _ =>
  if v29_2 ≤ 0 then (fx_X13_lays_J136 (0 : Int32))
  else (fx_X13_lays_J136 (1 : Int32)))
  else (tw_bd (gw_on 12 a0 (fx_X13_goesBy a0 v29_3 a1)) fun x39 =>
  if x39 = 0 then (fx_X13_lays_J106 sf29 v29_3 v29_2)
  else (tw_bd (gw_gr 12 6 a0) fun x43 =>
  tw_bd (gw_gr 0 11 x43) fun x46 =>
  tw_bd (gw_gr 2 3 x46) fun x49 =>
  tw_bd (gw_lr 7 x49 v29_3) fun x52 =>
  tw_bd (gw_gi 4 11 x52) fun x55 =>
  if x55 = 0 then (fx_X13_lays_J106 sf29 v29_3 v29_2)
  else (tw_bd (gw_gi 12 2 a0) fun x58 =>
  tw_bd (fx_X1_has x58 v29_3) fun x61 =>
  if x61 = 0 then (fx_X13_lays_J106 sf29 v29_3 (v29_2 + (1 : Int32)))
  else (tw_bd (gw_gr 12 0 a0) fun x64 =>
  tw_bd (gw_ll x64 v29_3) fun x67 =>
  tw_bd (gw_gr 12 1 a0) fun x70 =>
  tw_bd (gw_ll x70 v29_3) fun x73 =>
  tw_bd (gw_on 12 a0 (fx_X13_less a0 x67 x73)) fun _ =>
 
  fx_X13_lays_J106 sf29 v29_3 v29_2))))
def fx_X13_lays (a0 : Nat) (a1 : Int32) : HM Int32 :=
  tw_bd (gw_gr 12 6 a0) fun x1 =>
  tw_bd (gw_gr 0 4 x1) fun x4 =>
  tw_bd (gw_gr 1 0 x4) fun x7 =>
  tw_bd (gw_lr 4 x7 a1) fun x10 =>
  tw_bd (gw_gi 8 1 x10) fun x13 =>
  tw_bd (gw_pl 12 4 a0 (x13.toInt64)) fun _ =>
  tw_bd (gw_pl 12 5 a0 (1 : Int64)) fun _ =>
 
  tw_lp (fx_X13_lays_L29 a0 a1) (fun _ _ _ => none) tw_fu (0 : Int32) (0 : Int32)
theorem hdX13_lays : yX13_lays.cls = "LosslessFabric$Fair" ∧ (yX13_lays.cls ≠ "java/lang/invoke/MethodHandle" ∧ yX13_lays.cls ≠ "java/lang/invoke/VarHandle" ∧ (parseMethodDescriptor yX13_lays.desc).map (fun d => d.parameters.length) = some 1) := by decide +kernel
set_option maxHeartbeats 4000000 in
theorem mx_X13_lays {l : Launch} {K : GK} (hA : gw_A K) (a0 : Nat) (a1 : Int32) (t0 tZ : Hp) (r : Int32) (hf : fx_X13_lays a0 a1 t0 = some (r, tZ)) : Met l yX13_lays (ws_ yX13_lays cX13_lays 4 (some (.boolean))) ({ frames := 4, cells := 0, slots := 0, locals := 67 }) (va_Pc [.ref a0, .int a1] (gw_W K t0)) (gw_Qi K r tZ) 0 0 K.2.2.2.1 := by
  refine Met.ofW (cc := cX13_lays) (maxL := 4) (ret := some (.boolean)) (by decide) rfl ?_
  intro p e s m args below meth c s₁ B hml hv
  obtain ⟨rfl, hP, hK, hX, hN, hL⟩ := hv
  have hx := B.exec
  have hb := B.bytes
  have hr := B.returns
  have hts := atoms_spec (ws := (ws_ yX13_lays cX13_lays 4 (some (.boolean)))) B.pre
  have hts : ∀ w ∈ lw_all, w.before _ s = true := fun w h => hts w (List.mem_cons_of_mem _ h)
  have hown : s.vm.findClass "LosslessFabric$Fair" = some m.cls := findClass_of_methodNamed B.named
  have hlk := B.notSynchronized
  have C : gw_C K "LosslessFabric$Fair" p s m _ c cX13_lays := ⟨hx, hb, hts, hown, hK, hA, hX, hN, hL⟩
  have hS : va_S K.2.2.2.1 s.heap s.heap [] := va_S.rf
  have hl := lv_entry ([.ref a0, .int a1]) (n := 4) (Nat.le_of_ble_eq_true rfl)
  rw [lg_entry_eq]
  generalize (lg_sl ([.ref a0, .int a1]) ++ List.replicate (4 - (lg_sl ([.ref a0, .int a1])).length) Slot.unset).toArray = ls at hl ⊢
  have hl : lv_has ls 4 [(0, .ref a0), (1, .int a1)] := hl
  unfold fx_X13_lays at hf
  refine lv_iconst (v := (0 : Int32)) hx hb dX13_lays_0 (by decide) ?_
  refine lv_istore_n (lv' := [(2, .int (0 : Int32)), (0, .ref a0), (1, .int a1)]) hx hb dX13_lays_1 rfl hl (by decide) rfl (fun ls hl => ?_)
  refine lv_aload_n hx hb dX13_lays_2 rfl (lv_at hl 1 rfl) ?_
  refine lv_aload_n hx hb dX13_lays_3 rfl (lv_at hl 1 rfl) ?_
  obtain ⟨x1, t2, e3, hf⟩ := tw_bdE hf
  refine gw_rget (ci := 12) (k := 6) (T := TX13) C hP rfl in_X13 (by decide) e3 q1164 rfl dX13_lays_4 (fun hP => ?_)
  obtain ⟨x4, t5, e6, hf⟩ := tw_bdE hf
  refine gw_rgetN (ci := 0) (k := 4) (T := TX1) C hP rfl in_X1 (by decide) e6 q395 rfl dX13_lays_7 (fun hP => ?_)
  obtain ⟨x7, t8, e9, hf⟩ := tw_bdE hf
  refine gw_rgetN (ci := 1) (k := 0) (T := TX2) C hP rfl in_X2 (by decide) e9 q148 rfl dX13_lays_10 (fun hP => ?_)
  refine lv_iload_n hx hb dX13_lays_13 rfl (lv_at hl 2 rfl) ?_
  obtain ⟨x10, t11, e12, hf⟩ := tw_bdE hf
  refine gw_aald C hP rfl e12 dX13_lays_14 (fun hP => ?_)
  obtain ⟨x13, t14, e15, hf⟩ := tw_bdE hf
  refine gw_igetN (ci := 8) (k := 1) (T := TX9) C hP rfl in_X9 (by decide) e15 q731 rfl dX13_lays_15 (fun hP => ?_)
  refine lv_i2l hx hb dX13_lays_18 rfl ?_
  obtain ⟨x16, t17, e18, hf⟩ := tw_bdE hf
  refine gw_vput (ci := 12) (k := 4) (T := TX13) C hP hS rfl in_X13 tyX13 tyX13_ok nmX13 (by decide) e18 q1162 rfl rfl rfl rfl dX13_lays_19 (fun H locs hP hS => ?_)
  refine lv_aload_n hx hb dX13_lays_22 rfl (lv_at hl 1 rfl) ?_
  refine lv_lconst (v := (1 : Int64)) hx hb dX13_lays_23 (by decide) ?_
  obtain ⟨x19, t20, e21, hf⟩ := tw_bdE hf
  refine gw_vput (ci := 12) (k := 5) (T := TX13) C hP hS rfl in_X13 tyX13 tyX13_ok nmX13 (by decide) e21 q1163 rfl rfl rfl rfl dX13_lays_24 (fun H locs hP hS => ?_)
  refine lv_iconst (v := (0 : Int32)) hx hb dX13_lays_27 (by decide) ?_
  refine lv_istore_n (lv' := [(3, .int (0 : Int32)), (2, .int (0 : Int32)), (0, .ref a0), (1, .int a1)]) hx hb dX13_lays_28 rfl hl (by decide) rfl (fun ls hl => ?_)
  have k29 : ∀ (n : Nat) (v29_2 : Int32) (v29_3 : Int32) (t22 : Hp) (H : Heap) (locs : List Loc) (ls : Array Slot), gw_P K t22 H → va_S K.2.2.2.1 s.heap H locs → lv_has ls 4 [(0, .ref a0), (1, .int a1), (2, .int v29_2), (3, .int v29_3)] → tw_lp (fx_X13_lays_L29 a0 a1) (fun _ _ _ => none) n v29_2 v29_3 t22 = some (r, tZ) → W p l e (headSpec (ws_ yX13_lays cX13_lays 4 (some (.boolean))) ({ frames := 4, cells := 0, slots := 0, locals := 67 })).room s m ([.ref a0, .int a1] : List Value).toArray below meth c H locs 0 0 (MQ below (gw_Qi K r tZ) ([.ref a0, .int a1] : List Value).toArray s 0 0 K.2.2.2.1) (F0 m 29 ls []) := by
    intro n
    induction n with
    | zero => intro v29_2 v29_3 t22 H locs ls hP hS hl hf; exact (tw_no hf).elim
    | succ n ih29 =>
      intro v29_2 v29_3 t22 H locs ls hP hS hl hf
      obtain ⟨sf29, hs29⟩ : ∃ f, f = tw_lp (fx_X13_lays_L29 a0 a1) (fun _ _ _ => none) n := ⟨_, rfl⟩
      rw [← hs29] at ih29
      have hf : fx_X13_lays_L29 a0 a1 sf29 v29_2 v29_3 t22 = some (r, tZ) := by rw [hs29]; exact hf
      clear hs29
      unfold fx_X13_lays_L29 at hf
      refine lv_iload_n hx hb dX13_lays_29 rfl (lv_at hl 3 rfl) ?_
      refine lv_aload_n hx hb dX13_lays_30 rfl (lv_at hl 0 rfl) ?_
      obtain ⟨x23, t24, e25, hf⟩ := tw_bdE hf
      refine gw_rget (ci := 12) (k := 6) (T := TX13) C hP rfl in_X13 (by decide) e25 q1164 rfl dX13_lays_31 (fun hP => ?_)
      obtain ⟨x26, t27, e28, hf⟩ := tw_bdE hf
      refine gw_rgetN (ci := 0) (k := 4) (T := TX1) C hP rfl in_X1 (by decide) e28 q395 rfl dX13_lays_34 (fun hP => ?_)
      obtain ⟨x29, t30, e31, hf⟩ := tw_bdE hf
      refine gw_igetN (ci := 1) (k := 3) (T := TX2) C hP rfl in_X2 (by decide) e31 q162 rfl dX13_lays_37 (fun hP => ?_)
      refine lv_icmp_ge (tgt := 112) hx hb dX13_lays_40 (by decide) (fun hc => ?_) (fun hc => ?_)
      · have hf := tw_ifT hc hf
        refine lv_aload_n hx hb dX13_lays_112 rfl (lv_at hl 0 rfl) ?_
        refine lv_dup hx hb dX13_lays_113 rfl ?_
        obtain ⟨x32, t33, e34, hf⟩ := tw_bdE hf
        refine gw_lget (ci := 12) (k := 5) (T := TX13) C hP rfl in_X13 (by decide) e34 q1163 rfl dX13_lays_114 (fun hP => ?_)
        refine lv_iconst (v := (1 : Int32)) hx hb dX13_lays_117 (by decide) ?_
        refine lv_iload_n hx hb dX13_lays_118 rfl (lv_at hl 2 rfl) ?_
        refine va_mmax (rest := [.long x32, .ref a0]) hx hb (hml.trans hl.1.symm) hown (hts _ q1154) (hts _ q521) (hts _ q110) (hts _ q522) (Nat.le_of_ble_eq_true rfl) (Nat.le_of_ble_eq_true rfl) (Nat.zero_le _) (Nat.zero_le _) dX13_lays_119 ?_
        refine lv_i2l hx hb dX13_lays_122 rfl ?_
        refine lv_lmul hx hb dX13_lays_123 ?_
        obtain ⟨x35, t36, e37, hf⟩ := tw_bdE hf
        refine gw_vput (ci := 12) (k := 5) (T := TX13) C hP hS rfl in_X13 tyX13 tyX13_ok nmX13 (by decide) e37 q1163 rfl rfl rfl rfl dX13_lays_124 (fun H locs hP hS => ?_)
        refine lv_iload_n hx hb dX13_lays_127 rfl (lv_at hl 2 rfl) ?_
        have k136 : ∀ (w136_0 : Int32) (t38 : Hp) (H : Heap) (locs : List Loc) (ls : Array Slot), gw_P K t38 H → va_S K.2.2.2.1 s.heap H locs → lv_has ls 4 [] → fx_X13_lays_J136 w136_0 t38 = some (r, tZ) → W p l e (headSpec (ws_ yX13_lays cX13_lays 4 (some (.boolean))) ({ frames := 4, cells := 0, slots := 0, locals := 67 })).room s m ([.ref a0, .int a1] : List Value).toArray below meth c H locs 0 0 (MQ below (gw_Qi K r tZ) ([.ref a0, .int a1] : List Value).toArray s 0 0 K.2.2.2.1) (F0 m 136 ls [.int w136_0]) := by
          intro w136_0 t38 H locs ls hP hS hl hf
          unfold fx_X13_lays_J136 at hf
          obtain ⟨h0, h1, h2⟩ := tw_rzE hf
          exact gw_iretz h0 h1 h2 rfl rfl C hr hP hS hlk dX13_lays_136
        refine lv_if_le (tgt := 135) hx hb dX13_lays_128 (by decide) (fun hc => ?_) (fun hc => ?_)
        · have hf := tw_ifT hc hf
          refine lv_iconst (v := (0 : Int32)) hx hb dX13_lays_135 (by decide) ?_
          exact k136 _ _ _ _ _ hP hS (lv_sub hl [] rfl) hf
        · have hf := tw_ifF hc hf
          refine lv_iconst (v := (1 : Int32)) hx hb dX13_lays_131 (by decide) ?_
          refine lv_goto (tgt := 136) hx hb dX13_lays_132 (by decide) ?_
          exact k136 _ _ _ _ _ hP hS (lv_sub hl [] rfl) hf
      · have hf := tw_ifF hc hf
        refine lv_aload_n hx hb dX13_lays_43 rfl (lv_at hl 0 rfl) ?_
        refine lv_iload_n hx hb dX13_lays_44 rfl (lv_at hl 3 rfl) ?_
        refine lv_iload_n hx hb dX13_lays_45 rfl (lv_at hl 1 rfl) ?_
        obtain ⟨x39, t40, e41, hf⟩ := tw_bdE hf
        refine gw_cVi (As := [.int v29_3, .int a1]) (rest := []) (ci := 12) (T := TX13) (N := 7) C hml hP hS rfl (gw_onE e41).1 (mx_X13_goesBy (l := l) (K := K) hA _ _ _ _ _ _ (gw_onE e41).2) (cwV 2 hts (lw_V q1139 q1141 qs32 q127 q1142) rfl rfl rfl hdX13_goesBy ⟨Nat.le_of_ble_eq_true rfl, Nat.le_of_ble_eq_true rfl⟩) rfl hl.1 rfl (Nat.le_of_ble_eq_true rfl) (Nat.zero_le _) (Nat.zero_le _) dX13_lays_46 (fun H locs hP hS => ?_)
        have k106 : ∀ (v106_2 : Int32) (t42 : Hp) (H : Heap) (locs : List Loc) (ls : Array Slot), gw_P K t42 H → va_S K.2.2.2.1 s.heap H locs → lv_has ls 4 [(0, .ref a0), (1, .int a1), (2, .int v106_2), (3, .int v29_3)] → fx_X13_lays_J106 sf29 v29_3 v106_2 t42 = some (r, tZ) → W p l e (headSpec (ws_ yX13_lays cX13_lays 4 (some (.boolean))) ({ frames := 4, cells := 0, slots := 0, locals := 67 })).room s m ([.ref a0, .int a1] : List Value).toArray below meth c H locs 0 0 (MQ below (gw_Qi K r tZ) ([.ref a0, .int a1] : List Value).toArray s 0 0 K.2.2.2.1) (F0 m 106 ls []) := by
          intro v106_2 t42 H locs ls hP hS hl hf
          unfold fx_X13_lays_J106 at hf
          refine lv_iinc (v := (v29_3 + (1 : Int32))) (lv' := [(3, .int (v29_3 + (1 : Int32))), (0, .ref a0), (1, .int a1), (2, .int v106_2)]) hx hb dX13_lays_106 hl (k := 3) rfl rfl (by decide) rfl (fun ls hl => ?_)
          refine lv_goto (tgt := 29) hx hb dX13_lays_109 (by decide) ?_
          exact ih29 _ _ _ _ _ _ hP hS (lv_sub hl [1, 2, 3, 0] rfl) hf
        refine lv_if_eq (tgt := 106) hx hb dX13_lays_49 (by decide) (fun hc => ?_) (fun hc => ?_)
        · have hf := tw_ifT hc hf
          exact k106 _ _ _ _ _ hP hS (lv_sub hl [0, 1, 2, 3] rfl) hf
        · have hf := tw_ifF hc hf
          refine lv_aload_n hx hb dX13_lays_52 rfl (lv_at hl 0 rfl) ?_
          obtain ⟨x43, t44, e45, hf⟩ := tw_bdE hf
          refine gw_rget (ci := 12) (k := 6) (T := TX13) C hP rfl in_X13 (by decide) e45 q1164 rfl dX13_lays_53 (fun hP => ?_)
          obtain ⟨x46, t47, e48, hf⟩ := tw_bdE hf
          refine gw_rgetN (ci := 0) (k := 11) (T := TX1) C hP rfl in_X1 (by decide) e48 q403 rfl dX13_lays_56 (fun hP => ?_)
          obtain ⟨x49, t50, e51, hf⟩ := tw_bdE hf
          refine gw_rgetN (ci := 2) (k := 3) (T := TX3) C hP rfl in_X3 (by decide) e51 q357 rfl dX13_lays_59 (fun hP => ?_)
          refine lv_iload_n hx hb dX13_lays_62 rfl (lv_at hl 3 rfl) ?_
          obtain ⟨x52, t53, e54, hf⟩ := tw_bdE hf
          refine gw_aald C hP rfl e54 dX13_lays_63 (fun hP => ?_)
          obtain ⟨x55, t56, e57, hf⟩ := tw_bdE hf
          refine gw_igetN (ci := 4) (k := 11) (T := TX5) C hP rfl in_X5 (by decide) e57 q323 rfl dX13_lays_64 (fun hP => ?_)
          refine lv_if_ne (tgt := 73) hx hb dX13_lays_67 (by decide) (fun hc => ?_) (fun hc => ?_)
          · have hf := tw_ifF hc hf
            refine lv_aload_n hx hb dX13_lays_73 rfl (lv_at hl 0 rfl) ?_
            obtain ⟨x58, t59, e60, hf⟩ := tw_bdE hf
            refine gw_iget (ci := 12) (k := 2) (T := TX13) C hP rfl in_X13 (by decide) e60 q1159 rfl dX13_lays_74 (fun hP => ?_)
            refine lv_iload_n hx hb dX13_lays_77 rfl (lv_at hl 3 rfl) ?_
            obtain ⟨x61, t62, e63, hf⟩ := tw_bdE hf
            refine gw_cKi (As := [.int x58, .int v29_3]) (rest := []) C hml hP hS (mx_X1_has (l := l) (K := K) hA _ _ _ _ _ e63) ⟨va_cnB 2 hts (lw_meth q1146) rfl rfl rfl (hN _ q1144 rfl) (hts _ q101) hdX1_has ⟨Nat.le_of_ble_eq_true rfl, Nat.le_of_ble_eq_true rfl⟩, hts _ q1145, trivial⟩ rfl hl.1 rfl (Nat.le_of_ble_eq_true rfl) (Nat.zero_le _) (Nat.zero_le _) dX13_lays_78 (fun H locs hP hS => ?_)
            refine lv_if_ne (tgt := 90) hx hb dX13_lays_81 (by decide) (fun hc => ?_) (fun hc => ?_)
            · have hf := tw_ifF hc hf
              refine lv_aload_n hx hb dX13_lays_90 rfl (lv_at hl 0 rfl) ?_
              refine lv_aload_n hx hb dX13_lays_91 rfl (lv_at hl 0 rfl) ?_
              obtain ⟨x64, t65, e66, hf⟩ := tw_bdE hf
              refine gw_rget (ci := 12) (k := 0) (T := TX13) C hP rfl in_X13 (by decide) e66 q1155 rfl dX13_lays_92 (fun hP => ?_)
              refine lv_iload_n hx hb dX13_lays_95 rfl (lv_at hl 3 rfl) ?_
              obtain ⟨x67, t68, e69, hf⟩ := tw_bdE hf
              refine gw_lald C hP e69 dX13_lays_96 (fun hP => ?_)
              refine lv_aload_n hx hb dX13_lays_97 rfl (lv_at hl 0 rfl) ?_
              obtain ⟨x70, t71, e72, hf⟩ := tw_bdE hf
              refine gw_rget (ci := 12) (k := 1) (T := TX13) C hP rfl in_X13 (by decide) e72 q1157 rfl dX13_lays_98 (fun hP => ?_)
              refine lv_iload_n hx hb dX13_lays_101 rfl (lv_at hl 3 rfl) ?_
              obtain ⟨x73, t74, e75, hf⟩ := tw_bdE hf
              refine gw_lald C hP e75 dX13_lays_102 (fun hP => ?_)
              obtain ⟨x76, t77, e78, hf⟩ := tw_bdE hf
              refine gw_cVv (As := [.long x67, .long x73]) (rest := []) (ci := 12) (T := TX13) (N := 7) C hml hP hS rfl (gw_onE e78).1 (mx_X13_less (l := l) (K := K) hA _ _ _ _ _ _ (gw_onE e78).2) (cwV 2 hts (lw_V q1147 q1149 qs33 q127 q1150) rfl rfl rfl hdX13_less ⟨Nat.le_of_ble_eq_true rfl, Nat.le_of_ble_eq_true rfl⟩) rfl hl.1 rfl (Nat.le_of_ble_eq_true rfl) (Nat.zero_le _) (Nat.zero_le _) dX13_lays_103 (fun H locs hP hS => ?_)
              exact k106 _ _ _ _ _ hP hS (lv_sub hl [0, 1, 2, 3] rfl) hf
            · have hf := tw_ifT hc hf
              refine lv_iinc (v := (v29_2 + (1 : Int32))) (lv' := [(2, .int (v29_2 + (1 : Int32))), (0, .ref a0), (1, .int a1), (3, .int v29_3)]) hx hb dX13_lays_84 hl (k := 2) rfl rfl (by decide) rfl (fun ls hl => ?_)
              refine lv_goto (tgt := 106) hx hb dX13_lays_87 (by decide) ?_
              exact k106 _ _ _ _ _ hP hS (lv_sub hl [1, 2, 0, 3] rfl) hf
          · have hf := tw_ifT hc hf
            refine lv_goto (tgt := 106) hx hb dX13_lays_70 (by decide) ?_
            exact k106 _ _ _ _ _ hP hS (lv_sub hl [0, 1, 2, 3] rfl) hf
  exact k29 _ _ _ _ _ _ _ hP hS (lv_sub hl [2, 3, 1, 0] rfl) hf
def fx_X13_grows_J167 (sf89 : Int32 → HM Unit) (v89_8 : Int32)  : HM Unit :=
  sf89 (v89_8 + (1 : Int32))
def fx_X13_grows_L89 (a0 : Nat) (v10_1 : Int32) (x11 : Int64) (v10_2 : Int64) (v10_4 : Int64) (sf89 : Int32 → HM Unit) (v89_8 : Int32) : HM Unit :=
  tw_bd (gw_gr 12 6 a0) fun x15 =>
  tw_bd (gw_gr 0 4 x15) fun x18 =>
  tw_bd (gw_gi 1 3 x18) fun x21 =>
  if x21 ≤ v89_8 then (tw_rt ())
  else (tw_bd (gw_gi 12 2 a0) fun x24 =>
  tw_bd (fx_X1_has x24 v89_8) fun x27 =>
  if x27 = 0 then (tw_bd (gw_on 12 a0 (fx_X13_goesBy a0 v89_8 v10_1)) fun x31 =>
  if x31 = 0 then (fx_X13_grows_J167 sf89 v89_8)
  else (tw_bd (gw_gr 12 0 a0) fun x34 =>
  tw_bd (tw_nl x11) fun _ =>
  tw_bd (gw_sl x34 v89_8 (v10_2 / x11)) fun _ =>
  tw_bd (gw_gr 12 1 a0) fun x43 =>
  tw_bd (tw_nl x11) fun _ =>
  tw_bd (gw_sl x43 v89_8 (v10_4 / x11)) fun _ =>
  tw_bd (gw_gi 12 2 a0) fun x52 =>
   tw_bd (gw_bt v89_8) fun x55 =>
  tw_bd (gw_pi 12 2 a0 (x52 ||| x55)) fun _ =>
 
  fx_X13_grows_J167 sf89 v89_8))
  else (fx_X13_grows_J167 sf89 v89_8))
def fx_X13_grows_J72 (sf10 : Int32 → Int64 → Int64 → Int32 → HM Unit) (v10_6 : Int32) (v72_1 : Int32) (v72_2 : Int64) (v72_4 : Int64) : HM Unit :=
  sf10 v72_1 v72_2 v72_4 (v10_6 + (1 : Int32))
def fx_X13_grows_J58 (a0 : Nat) (sf10 : Int32 → Int64 → Int64 → Int32 → HM Unit) (v10_6 : Int32)  : HM Unit :=
  tw_bd (gw_gl 12 4 a0) fun x66 =>
  tw_bd (gw_gl 12 5 a0) fun x69 =>
 
  fx_X13_grows_J72 sf10 v10_6 v10_6 x66 x69
def fx_X13_grows_L10 (a0 : Nat) (sf10 : Int32 → Int64 → Int64 → Int32 → HM Unit) (v10_1 : Int32) (v10_2 : Int64) (v10_4 : Int64) (v10_6 : Int32) : HM Unit :=
  tw_bd (gw_gr 12 6 a0) fun x2 =>
  tw_bd (gw_gr 0 4 x2) fun x5 =>
  tw_bd (gw_gi 1 2 x5) fun x8 =>
  if x8 ≤ v10_6 then (tw_bd (fx_X1_common v10_4 v10_2) fun x11 =>
 
  tw_lp (fx_X13_grows_L89 a0 v10_1 x11 v10_2 v10_4) (fun _ _ => none) tw_fu (0 : Int32))
  else (tw_bd (gw_on 12 a0 (fx_X13_lays a0 v10_6)) fun x61 =>
  if x61 = 0 then (fx_X13_grows_J72 sf10 v10_6 v10_1 v10_2 v10_4)
  else (if v10_1 < 0 then (fx_X13_grows_J58 a0 sf10 v10_6)
  else (tw_bd (gw_gl 12 4 a0) fun x72 =>
  tw_bd (gw_gl 12 5 a0) fun x75 =>
  if (lg_cmp (x72 * v10_4) (v10_2 * x75)) < 0 then (fx_X13_grows_J58 a0 sf10 v10_6)
  else (fx_X13_grows_J72 sf10 v10_6 v10_1 v10_2 v10_4))))
def fx_X13_grows (a0 : Nat) : HM Unit :=
  tw_lp (fx_X13_grows_L10 a0) (fun _ _ _ _ _ => none) tw_fu (-1 : Int32) (0 : Int64) (1 : Int64) (0 : Int32)
theorem hdX13_grows : yX13_grows.cls = "LosslessFabric$Fair" ∧ (yX13_grows.cls ≠ "java/lang/invoke/MethodHandle" ∧ yX13_grows.cls ≠ "java/lang/invoke/VarHandle" ∧ (parseMethodDescriptor yX13_grows.desc).map (fun d => d.parameters.length) = some 0) := by decide +kernel
set_option maxHeartbeats 4000000 in
theorem mx_X13_grows {l : Launch} {K : GK} (hA : gw_A K) (a0 : Nat) (t0 tZ : Hp) (r : Unit) (hf : fx_X13_grows a0 t0 = some (r, tZ)) : Met l yX13_grows (ws_ yX13_grows cX13_grows 9 (none)) ({ frames := 5, cells := 0, slots := 0, locals := 90 }) (va_Pc [.ref a0] (gw_W K t0)) (gw_Qv K tZ) 0 0 K.2.2.2.1 := by
  refine Met.ofW (cc := cX13_grows) (maxL := 9) (ret := none) (by decide) rfl ?_
  intro p e s m args below meth c s₁ B hml hv
  obtain ⟨rfl, hP, hK, hX, hN, hL⟩ := hv
  have hx := B.exec
  have hb := B.bytes
  have hr := B.returns
  have hts := atoms_spec (ws := (ws_ yX13_grows cX13_grows 9 (none))) B.pre
  have hts : ∀ w ∈ lw_all, w.before _ s = true := fun w h => hts w (List.mem_cons_of_mem _ h)
  have hown : s.vm.findClass "LosslessFabric$Fair" = some m.cls := findClass_of_methodNamed B.named
  have hlk := B.notSynchronized
  have C : gw_C K "LosslessFabric$Fair" p s m _ c cX13_grows := ⟨hx, hb, hts, hown, hK, hA, hX, hN, hL⟩
  have hS : va_S K.2.2.2.1 s.heap s.heap [] := va_S.rf
  have hl := lv_entry ([.ref a0]) (n := 9) (Nat.le_of_ble_eq_true rfl)
  rw [lg_entry_eq]
  generalize (lg_sl ([.ref a0]) ++ List.replicate (9 - (lg_sl ([.ref a0])).length) Slot.unset).toArray = ls at hl ⊢
  have hl : lv_has ls 9 [(0, .ref a0)] := hl
  unfold fx_X13_grows at hf
  refine lv_iconst (v := (-1 : Int32)) hx hb dX13_grows_0 (by decide) ?_
  refine lv_istore_n (lv' := [(1, .int (-1 : Int32)), (0, .ref a0)]) hx hb dX13_grows_1 rfl hl (by decide) rfl (fun ls hl => ?_)
  refine lv_lconst (v := (0 : Int64)) hx hb dX13_grows_2 (by decide) ?_
  refine lv_lstore_n (lv' := [(2, .long (0 : Int64)), (1, .int (-1 : Int32)), (0, .ref a0)]) hx hb dX13_grows_3 rfl hl (by decide) rfl (fun ls hl => ?_)
  refine lv_lconst (v := (1 : Int64)) hx hb dX13_grows_4 (by decide) ?_
  refine lv_lstore (lv' := [(4, .long (1 : Int64)), (2, .long (0 : Int64)), (1, .int (-1 : Int32)), (0, .ref a0)]) hx hb dX13_grows_5 hl (by decide) rfl (fun ls hl => ?_)
  refine lv_iconst (v := (0 : Int32)) hx hb dX13_grows_7 (by decide) ?_
  refine lv_istore (lv' := [(6, .int (0 : Int32)), (4, .long (1 : Int64)), (2, .long (0 : Int64)), (1, .int (-1 : Int32)), (0, .ref a0)]) hx hb dX13_grows_8 hl (by decide) rfl (fun ls hl => ?_)
  have k10 : ∀ (n : Nat) (v10_1 : Int32) (v10_2 : Int64) (v10_4 : Int64) (v10_6 : Int32) (t1 : Hp) (H : Heap) (locs : List Loc) (ls : Array Slot), gw_P K t1 H → va_S K.2.2.2.1 s.heap H locs → lv_has ls 9 [(0, .ref a0), (1, .int v10_1), (2, .long v10_2), (4, .long v10_4), (6, .int v10_6)] → tw_lp (fx_X13_grows_L10 a0) (fun _ _ _ _ _ => none) n v10_1 v10_2 v10_4 v10_6 t1 = some (r, tZ) → W p l e (headSpec (ws_ yX13_grows cX13_grows 9 (none)) ({ frames := 5, cells := 0, slots := 0, locals := 90 })).room s m ([.ref a0] : List Value).toArray below meth c H locs 0 0 (MQ below (gw_Qv K tZ) ([.ref a0] : List Value).toArray s 0 0 K.2.2.2.1) (F0 m 10 ls []) := by
    intro n
    induction n with
    | zero => intro v10_1 v10_2 v10_4 v10_6 t1 H locs ls hP hS hl hf; exact (tw_no hf).elim
    | succ n ih10 =>
      intro v10_1 v10_2 v10_4 v10_6 t1 H locs ls hP hS hl hf
      obtain ⟨sf10, hs10⟩ : ∃ f, f = tw_lp (fx_X13_grows_L10 a0) (fun _ _ _ _ _ => none) n := ⟨_, rfl⟩
      rw [← hs10] at ih10
      have hf : fx_X13_grows_L10 a0 sf10 v10_1 v10_2 v10_4 v10_6 t1 = some (r, tZ) := by rw [hs10]; exact hf
      clear hs10
      unfold fx_X13_grows_L10 at hf
      refine lv_iload hx hb dX13_grows_10 (lv_at hl 4 rfl) ?_
      refine lv_aload_n hx hb dX13_grows_12 rfl (lv_at hl 0 rfl) ?_
      obtain ⟨x2, t3, e4, hf⟩ := tw_bdE hf
      refine gw_rget (ci := 12) (k := 6) (T := TX13) C hP rfl in_X13 (by decide) e4 q1164 rfl dX13_grows_13 (fun hP => ?_)
      obtain ⟨x5, t6, e7, hf⟩ := tw_bdE hf
      refine gw_rgetN (ci := 0) (k := 4) (T := TX1) C hP rfl in_X1 (by decide) e7 q395 rfl dX13_grows_16 (fun hP => ?_)
      obtain ⟨x8, t9, e10, hf⟩ := tw_bdE hf
      refine gw_igetN (ci := 1) (k := 2) (T := TX2) C hP rfl in_X2 (by decide) e10 q159 rfl dX13_grows_19 (fun hP => ?_)
      refine lv_icmp_ge (tgt := 78) hx hb dX13_grows_22 (by decide) (fun hc => ?_) (fun hc => ?_)
      · have hf := tw_ifT hc hf
        refine lv_lload hx hb dX13_grows_78 (lv_at hl 3 rfl) ?_
        refine lv_lload_n hx hb dX13_grows_80 rfl (lv_at hl 2 rfl) ?_
        obtain ⟨x11, t12, e13, hf⟩ := tw_bdE hf
        refine gw_cKl (As := [.long v10_4, .long v10_2]) (rest := []) C hml hP hS (mx_X1_common (l := l) (K := K) hA _ _ _ _ _ e13) ⟨va_cnB 2 hts (lw_meth q1153) rfl rfl rfl (hN _ q1151 rfl) (hts _ q101) hdX1_common ⟨Nat.le_of_ble_eq_true rfl, Nat.le_of_ble_eq_true rfl⟩, hts _ q1152, trivial⟩ rfl hl.1 rfl (Nat.le_of_ble_eq_true rfl) (Nat.zero_le _) (Nat.zero_le _) dX13_grows_81 (fun H locs hP hS => ?_)
        refine lv_lstore (lv' := [(6, .long x11), (0, .ref a0), (1, .int v10_1), (2, .long v10_2), (4, .long v10_4)]) hx hb dX13_grows_84 hl (by decide) rfl (fun ls hl => ?_)
        refine lv_iconst (v := (0 : Int32)) hx hb dX13_grows_86 (by decide) ?_
        refine lv_istore (lv' := [(8, .int (0 : Int32)), (6, .long x11), (0, .ref a0), (1, .int v10_1), (2, .long v10_2), (4, .long v10_4)]) hx hb dX13_grows_87 hl (by decide) rfl (fun ls hl => ?_)
        have k89 : ∀ (n : Nat) (v89_8 : Int32) (t14 : Hp) (H : Heap) (locs : List Loc) (ls : Array Slot), gw_P K t14 H → va_S K.2.2.2.1 s.heap H locs → lv_has ls 9 [(0, .ref a0), (1, .int v10_1), (2, .long v10_2), (4, .long v10_4), (6, .long x11), (8, .int v89_8)] → tw_lp (fx_X13_grows_L89 a0 v10_1 x11 v10_2 v10_4) (fun _ _ => none) n v89_8 t14 = some (r, tZ) → W p l e (headSpec (ws_ yX13_grows cX13_grows 9 (none)) ({ frames := 5, cells := 0, slots := 0, locals := 90 })).room s m ([.ref a0] : List Value).toArray below meth c H locs 0 0 (MQ below (gw_Qv K tZ) ([.ref a0] : List Value).toArray s 0 0 K.2.2.2.1) (F0 m 89 ls []) := by
          intro n
          induction n with
          | zero => intro v89_8 t14 H locs ls hP hS hl hf; exact (tw_no hf).elim
          | succ n ih89 =>
            intro v89_8 t14 H locs ls hP hS hl hf
            obtain ⟨sf89, hs89⟩ : ∃ f, f = tw_lp (fx_X13_grows_L89 a0 v10_1 x11 v10_2 v10_4) (fun _ _ => none) n := ⟨_, rfl⟩
            rw [← hs89] at ih89
            have hf : fx_X13_grows_L89 a0 v10_1 x11 v10_2 v10_4 sf89 v89_8 t14 = some (r, tZ) := by rw [hs89]; exact hf
            clear hs89
            unfold fx_X13_grows_L89 at hf
            refine lv_iload hx hb dX13_grows_89 (lv_at hl 5 rfl) ?_
            refine lv_aload_n hx hb dX13_grows_91 rfl (lv_at hl 0 rfl) ?_
            obtain ⟨x15, t16, e17, hf⟩ := tw_bdE hf
            refine gw_rget (ci := 12) (k := 6) (T := TX13) C hP rfl in_X13 (by decide) e17 q1164 rfl dX13_grows_92 (fun hP => ?_)
            obtain ⟨x18, t19, e20, hf⟩ := tw_bdE hf
            refine gw_rgetN (ci := 0) (k := 4) (T := TX1) C hP rfl in_X1 (by decide) e20 q395 rfl dX13_grows_95 (fun hP => ?_)
            obtain ⟨x21, t22, e23, hf⟩ := tw_bdE hf
            refine gw_igetN (ci := 1) (k := 3) (T := TX2) C hP rfl in_X2 (by decide) e23 q162 rfl dX13_grows_98 (fun hP => ?_)
            refine lv_icmp_ge (tgt := 173) hx hb dX13_grows_101 (by decide) (fun hc => ?_) (fun hc => ?_)
            · have hf := tw_ifT hc hf
              exact gw_iretv (tw_rtE hf).2 rfl rfl C hr hP hS hlk dX13_grows_173
            · have hf := tw_ifF hc hf
              refine lv_aload_n hx hb dX13_grows_104 rfl (lv_at hl 0 rfl) ?_
              obtain ⟨x24, t25, e26, hf⟩ := tw_bdE hf
              refine gw_iget (ci := 12) (k := 2) (T := TX13) C hP rfl in_X13 (by decide) e26 q1159 rfl dX13_grows_105 (fun hP => ?_)
              refine lv_iload hx hb dX13_grows_108 (lv_at hl 5 rfl) ?_
              obtain ⟨x27, t28, e29, hf⟩ := tw_bdE hf
              refine gw_cKi (As := [.int x24, .int v89_8]) (rest := []) C hml hP hS (mx_X1_has (l := l) (K := K) hA _ _ _ _ _ e29) ⟨va_cnB 2 hts (lw_meth q1146) rfl rfl rfl (hN _ q1144 rfl) (hts _ q101) hdX1_has ⟨Nat.le_of_ble_eq_true rfl, Nat.le_of_ble_eq_true rfl⟩, hts _ q1145, trivial⟩ rfl hl.1 rfl (Nat.le_of_ble_eq_true rfl) (Nat.zero_le _) (Nat.zero_le _) dX13_grows_110 (fun H locs hP hS => ?_)
              have k167 : ∀  (t30 : Hp) (H : Heap) (locs : List Loc) (ls : Array Slot), gw_P K t30 H → va_S K.2.2.2.1 s.heap H locs → lv_has ls 9 [(0, .ref a0), (1, .int v10_1), (2, .long v10_2), (4, .long v10_4), (6, .long x11), (8, .int v89_8)] → fx_X13_grows_J167 sf89 v89_8  t30 = some (r, tZ) → W p l e (headSpec (ws_ yX13_grows cX13_grows 9 (none)) ({ frames := 5, cells := 0, slots := 0, locals := 90 })).room s m ([.ref a0] : List Value).toArray below meth c H locs 0 0 (MQ below (gw_Qv K tZ) ([.ref a0] : List Value).toArray s 0 0 K.2.2.2.1) (F0 m 167 ls []) := by
                intro t30 H locs ls hP hS hl hf
                unfold fx_X13_grows_J167 at hf
                refine lv_iinc (v := (v89_8 + (1 : Int32))) (lv' := [(8, .int (v89_8 + (1 : Int32))), (0, .ref a0), (1, .int v10_1), (2, .long v10_2), (4, .long v10_4), (6, .long x11)]) hx hb dX13_grows_167 hl (k := 5) rfl rfl (by decide) rfl (fun ls hl => ?_)
                refine lv_goto (tgt := 89) hx hb dX13_grows_170 (by decide) ?_
                exact ih89 _ _ _ _ _ hP hS (lv_sub hl [1, 2, 3, 4, 5, 0] rfl) hf
              refine lv_if_ne (tgt := 167) hx hb dX13_grows_113 (by decide) (fun hc => ?_) (fun hc => ?_)
              · have hf := tw_ifF hc hf
                exact k167 _ _ _ _ hP hS (lv_sub hl [0, 1, 2, 3, 4, 5] rfl) hf
              · have hf := tw_ifT hc hf
                refine lv_aload_n hx hb dX13_grows_116 rfl (lv_at hl 0 rfl) ?_
                refine lv_iload hx hb dX13_grows_117 (lv_at hl 5 rfl) ?_
                refine lv_iload_n hx hb dX13_grows_119 rfl (lv_at hl 1 rfl) ?_
                obtain ⟨x31, t32, e33, hf⟩ := tw_bdE hf
                refine gw_cVi (As := [.int v89_8, .int v10_1]) (rest := []) (ci := 12) (T := TX13) (N := 7) C hml hP hS rfl (gw_onE e33).1 (mx_X13_goesBy (l := l) (K := K) hA _ _ _ _ _ _ (gw_onE e33).2) (cwV 2 hts (lw_V q1139 q1141 qs32 q127 q1142) rfl rfl rfl hdX13_goesBy ⟨Nat.le_of_ble_eq_true rfl, Nat.le_of_ble_eq_true rfl⟩) rfl hl.1 rfl (Nat.le_of_ble_eq_true rfl) (Nat.zero_le _) (Nat.zero_le _) dX13_grows_120 (fun H locs hP hS => ?_)
                refine lv_if_ne (tgt := 129) hx hb dX13_grows_123 (by decide) (fun hc => ?_) (fun hc => ?_)
                · have hf := tw_ifF hc hf
                  refine lv_aload_n hx hb dX13_grows_129 rfl (lv_at hl 0 rfl) ?_
                  obtain ⟨x34, t35, e36, hf⟩ := tw_bdE hf
                  refine gw_rget (ci := 12) (k := 0) (T := TX13) C hP rfl in_X13 (by decide) e36 q1155 rfl dX13_grows_130 (fun hP => ?_)
                  refine lv_iload hx hb dX13_grows_133 (lv_at hl 5 rfl) ?_
                  refine lv_lload_n hx hb dX13_grows_135 rfl (lv_at hl 2 rfl) ?_
                  refine lv_lload hx hb dX13_grows_136 (lv_at hl 4 rfl) ?_
                  obtain ⟨w37, t38, e39, hf⟩ := tw_bdE hf
                  rw [← (tw_nlE e39).2] at hf
                  refine lv_ldiv hx hb dX13_grows_138 (tw_nlE e39).1 ?_
                  obtain ⟨x40, t41, e42, hf⟩ := tw_bdE hf
                  refine gw_last C hP hS e42 dX13_grows_139 (fun H locs hP hS => ?_)
                  refine lv_aload_n hx hb dX13_grows_140 rfl (lv_at hl 0 rfl) ?_
                  obtain ⟨x43, t44, e45, hf⟩ := tw_bdE hf
                  refine gw_rget (ci := 12) (k := 1) (T := TX13) C hP rfl in_X13 (by decide) e45 q1157 rfl dX13_grows_141 (fun hP => ?_)
                  refine lv_iload hx hb dX13_grows_144 (lv_at hl 5 rfl) ?_
                  refine lv_lload hx hb dX13_grows_146 (lv_at hl 3 rfl) ?_
                  refine lv_lload hx hb dX13_grows_148 (lv_at hl 4 rfl) ?_
                  obtain ⟨w46, t47, e48, hf⟩ := tw_bdE hf
                  rw [← (tw_nlE e48).2] at hf
                  refine lv_ldiv hx hb dX13_grows_150 (tw_nlE e48).1 ?_
                  obtain ⟨x49, t50, e51, hf⟩ := tw_bdE hf
                  refine gw_last C hP hS e51 dX13_grows_151 (fun H locs hP hS => ?_)
                  refine lv_aload_n hx hb dX13_grows_152 rfl (lv_at hl 0 rfl) ?_
                  refine lv_dup hx hb dX13_grows_153 rfl ?_
                  obtain ⟨x52, t53, e54, hf⟩ := tw_bdE hf
                  refine gw_iget (ci := 12) (k := 2) (T := TX13) C hP rfl in_X13 (by decide) e54 q1159 rfl dX13_grows_154 (fun hP => ?_)
                  refine va_getsN hx hb hX.2.2.2.2.2.1 hS hown (gw_Nw hN q1130 rfl rfl) (fun _ h => h) dX13_grows_157 ?_
                  refine lv_iload hx hb dX13_grows_160 (lv_at hl 5 rfl) ?_
                  obtain ⟨x55, t56, e57, hf⟩ := tw_bdE hf
                  refine gw_bits C hS e57 dX13_grows_162 (fun ht => ?_)
                  rw [ht] at hP
                  refine lv_ior hx hb dX13_grows_163 ?_
                  obtain ⟨x58, t59, e60, hf⟩ := tw_bdE hf
                  refine gw_vput (ci := 12) (k := 2) (T := TX13) C hP hS rfl in_X13 tyX13 tyX13_ok nmX13 (by decide) e60 q1159 rfl rfl (vp_nar_int _) rfl dX13_grows_164 (fun H locs hP hS => ?_)
                  exact k167 _ _ _ _ hP hS (lv_sub hl [0, 1, 2, 3, 4, 5] rfl) hf
                · have hf := tw_ifT hc hf
                  refine lv_goto (tgt := 167) hx hb dX13_grows_126 (by decide) ?_
                  exact k167 _ _ _ _ hP hS (lv_sub hl [0, 1, 2, 3, 4, 5] rfl) hf
        exact k89 _ _ _ _ _ _ hP hS (lv_sub hl [2, 3, 4, 5, 1, 0] rfl) hf
      · have hf := tw_ifF hc hf
        refine lv_aload_n hx hb dX13_grows_25 rfl (lv_at hl 0 rfl) ?_
        refine lv_iload hx hb dX13_grows_26 (lv_at hl 4 rfl) ?_
        obtain ⟨x61, t62, e63, hf⟩ := tw_bdE hf
        refine gw_cVi (As := [.int v10_6]) (rest := []) (ci := 12) (T := TX13) (N := 7) C hml hP hS rfl (gw_onE e63).1 (mx_X13_lays (l := l) (K := K) hA _ _ _ _ _ (gw_onE e63).2) (cwV 1 hts (lw_V q1135 q1137 qs31 q127 q1138) rfl rfl rfl hdX13_lays ⟨Nat.le_of_ble_eq_true rfl, Nat.le_of_ble_eq_true rfl⟩) rfl hl.1 rfl (Nat.le_of_ble_eq_true rfl) (Nat.zero_le _) (Nat.zero_le _) dX13_grows_28 (fun H locs hP hS => ?_)
        have k72 : ∀ (v72_1 : Int32) (v72_2 : Int64) (v72_4 : Int64) (t64 : Hp) (H : Heap) (locs : List Loc) (ls : Array Slot), gw_P K t64 H → va_S K.2.2.2.1 s.heap H locs → lv_has ls 9 [(0, .ref a0), (1, .int v72_1), (2, .long v72_2), (4, .long v72_4), (6, .int v10_6)] → fx_X13_grows_J72 sf10 v10_6 v72_1 v72_2 v72_4 t64 = some (r, tZ) → W p l e (headSpec (ws_ yX13_grows cX13_grows 9 (none)) ({ frames := 5, cells := 0, slots := 0, locals := 90 })).room s m ([.ref a0] : List Value).toArray below meth c H locs 0 0 (MQ below (gw_Qv K tZ) ([.ref a0] : List Value).toArray s 0 0 K.2.2.2.1) (F0 m 72 ls []) := by
          intro v72_1 v72_2 v72_4 t64 H locs ls hP hS hl hf
          unfold fx_X13_grows_J72 at hf
          refine lv_iinc (v := (v10_6 + (1 : Int32))) (lv' := [(6, .int (v10_6 + (1 : Int32))), (0, .ref a0), (1, .int v72_1), (2, .long v72_2), (4, .long v72_4)]) hx hb dX13_grows_72 hl (k := 4) rfl rfl (by decide) rfl (fun ls hl => ?_)
          refine lv_goto (tgt := 10) hx hb dX13_grows_75 (by decide) ?_
          exact ih10 _ _ _ _ _ _ _ _ hP hS (lv_sub hl [1, 2, 3, 4, 0] rfl) hf
        refine lv_if_eq (tgt := 72) hx hb dX13_grows_31 (by decide) (fun hc => ?_) (fun hc => ?_)
        · have hf := tw_ifT hc hf
          exact k72 _ _ _ _ _ _ _ hP hS (lv_sub hl [0, 1, 2, 3, 4] rfl) hf
        · have hf := tw_ifF hc hf
          refine lv_iload_n hx hb dX13_grows_34 rfl (lv_at hl 1 rfl) ?_
          have k58 : ∀  (t65 : Hp) (H : Heap) (locs : List Loc) (ls : Array Slot), gw_P K t65 H → va_S K.2.2.2.1 s.heap H locs → lv_has ls 9 [(0, .ref a0), (6, .int v10_6)] → fx_X13_grows_J58 a0 sf10 v10_6  t65 = some (r, tZ) → W p l e (headSpec (ws_ yX13_grows cX13_grows 9 (none)) ({ frames := 5, cells := 0, slots := 0, locals := 90 })).room s m ([.ref a0] : List Value).toArray below meth c H locs 0 0 (MQ below (gw_Qv K tZ) ([.ref a0] : List Value).toArray s 0 0 K.2.2.2.1) (F0 m 58 ls []) := by
            intro t65 H locs ls hP hS hl hf
            unfold fx_X13_grows_J58 at hf
            refine lv_iload hx hb dX13_grows_58 (lv_at hl 1 rfl) ?_
            refine lv_istore_n (lv' := [(1, .int v10_6), (0, .ref a0), (6, .int v10_6)]) hx hb dX13_grows_60 rfl hl (by decide) rfl (fun ls hl => ?_)
            refine lv_aload_n hx hb dX13_grows_61 rfl (lv_at hl 1 rfl) ?_
            obtain ⟨x66, t67, e68, hf⟩ := tw_bdE hf
            refine gw_lget (ci := 12) (k := 4) (T := TX13) C hP rfl in_X13 (by decide) e68 q1162 rfl dX13_grows_62 (fun hP => ?_)
            refine lv_lstore_n (lv' := [(2, .long x66), (1, .int v10_6), (0, .ref a0), (6, .int v10_6)]) hx hb dX13_grows_65 rfl hl (by decide) rfl (fun ls hl => ?_)
            refine lv_aload_n hx hb dX13_grows_66 rfl (lv_at hl 2 rfl) ?_
            obtain ⟨x69, t70, e71, hf⟩ := tw_bdE hf
            refine gw_lget (ci := 12) (k := 5) (T := TX13) C hP rfl in_X13 (by decide) e71 q1163 rfl dX13_grows_67 (fun hP => ?_)
            refine lv_lstore (lv' := [(4, .long x69), (2, .long x66), (1, .int v10_6), (0, .ref a0), (6, .int v10_6)]) hx hb dX13_grows_70 hl (by decide) rfl (fun ls hl => ?_)
            exact k72 _ _ _ _ _ _ _ hP hS (lv_sub hl [3, 2, 1, 0, 4] rfl) hf
          refine lv_if_lt (tgt := 58) hx hb dX13_grows_35 (by decide) (fun hc => ?_) (fun hc => ?_)
          · have hf := tw_ifT hc hf
            exact k58 _ _ _ _ hP hS (lv_sub hl [0, 4] rfl) hf
          · have hf := tw_ifF hc hf
            refine lv_aload_n hx hb dX13_grows_38 rfl (lv_at hl 0 rfl) ?_
            obtain ⟨x72, t73, e74, hf⟩ := tw_bdE hf
            refine gw_lget (ci := 12) (k := 4) (T := TX13) C hP rfl in_X13 (by decide) e74 q1162 rfl dX13_grows_39 (fun hP => ?_)
            refine lv_lload hx hb dX13_grows_42 (lv_at hl 3 rfl) ?_
            refine lv_lmul hx hb dX13_grows_44 ?_
            refine lv_lload_n hx hb dX13_grows_45 rfl (lv_at hl 2 rfl) ?_
            refine lv_aload_n hx hb dX13_grows_46 rfl (lv_at hl 0 rfl) ?_
            obtain ⟨x75, t76, e77, hf⟩ := tw_bdE hf
            refine gw_lget (ci := 12) (k := 5) (T := TX13) C hP rfl in_X13 (by decide) e77 q1163 rfl dX13_grows_47 (fun hP => ?_)
            refine lv_lmul hx hb dX13_grows_50 ?_
            refine W.lcmp hx hb dX13_grows_51 ?_
            refine lv_if_lt (tgt := 58) hx hb dX13_grows_52 (by decide) (fun hc => ?_) (fun hc => ?_)
            · have hf := tw_ifT hc hf
              exact k58 _ _ _ _ hP hS (lv_sub hl [0, 4] rfl) hf
            · have hf := tw_ifF hc hf
              refine lv_goto (tgt := 72) hx hb dX13_grows_55 (by decide) ?_
              exact k72 _ _ _ _ _ _ _ hP hS (lv_sub hl [0, 1, 2, 3, 4] rfl) hf
  exact k10 _ _ _ _ _ _ _ _ _ hP hS (lv_sub hl [4, 3, 2, 1, 0] rfl) hf
def fx_X13_init_L86 (a0 : Nat) (sf86 : gM Unit)  : gM Unit :=
  gw_b0 (gw_gi 12 2 a0) fun x18 =>
  if x18 = (255 : Int32) then (gw_rc ())
  else (gw_b0 (gw_on 12 a0 (fx_X13_grows a0)) fun _ =>
 
  sf86)
def fx_X13_init_J80 (sf27 : Int32 → gM Unit) (v27_2 : Int32)  : gM Unit :=
  sf27 (v27_2 + (1 : Int32))
def fx_X13_init_J66 (a0 : Nat) (v27_2 : Int32) (sf27 : Int32 → gM Unit)  : gM Unit :=
  gw_b0 (gw_gi 12 2 a0) fun x38 =>
   gw_b0 (gw_bt v27_2) fun x41 =>
  gw_b0 (gw_pi 12 2 a0 (x38 ||| x41)) fun _ =>
 
  fx_X13_init_J80 sf27 v27_2
def fx_X13_init_L27 (a0 : Nat) (a1 : Nat) (sf27 : Int32 → gM Unit) (v27_2 : Int32) : gM Unit :=
  if (8 : Int32) ≤ v27_2 then (tw_lp (fx_X13_init_L86 a0) (fun _ => none) tw_fu)
  else (gw_b0 (gw_gr 12 1 a0) fun x24 =>
  gw_b0 (gw_sl x24 v27_2 (1 : Int64)) fun _ =>
  gw_b0 (gw_gr 0 4 a1) fun x30 =>
  gw_b0 (gw_gi 1 3 x30) fun x33 =>
  if x33 ≤ v27_2 then (fx_X13_init_J66 a0 v27_2 sf27)
  else (gw_b0 (gw_gr 0 11 a1) fun x47 =>
  gw_b0 (gw_gr 2 3 x47) fun x50 =>
  gw_b0 (gw_lr 7 x50 v27_2) fun x53 =>
  gw_b0 (gw_gi 4 11 x53) fun x56 =>
  if x56 = 0 then (fx_X13_init_J66 a0 v27_2 sf27)
  else (fx_X13_init_J80 sf27 v27_2)))
def fx_X13_init (a0 : Nat) (a1 : Nat) : gM Unit :=
  gw_b0 (gw_pr 12 6 a0 a1) fun _ =>
   gw_bc (gw_nl (8 : Int32)) fun x4 =>
  gw_b0 (gw_pr 12 0 a0 x4) fun _ =>
  gw_bc (gw_nl (8 : Int32)) fun x10 =>
  gw_b0 (gw_pr 12 1 a0 x10) fun _ =>
 
  tw_lp (fx_X13_init_L27 a0 a1) (fun _ _ => none) tw_fu (0 : Int32)
theorem hdX13_init : yX13_init.cls = "LosslessFabric$Fair" ∧ (yX13_init.cls ≠ "java/lang/invoke/MethodHandle" ∧ yX13_init.cls ≠ "java/lang/invoke/VarHandle" ∧ (parseMethodDescriptor yX13_init.desc).map (fun d => d.parameters.length) = some 1) := by decide +kernel
set_option maxHeartbeats 4000000 in
theorem mx_X13_init {l : Launch} {K : GK} (hA : gw_A K) (a0 : Nat) (a1 : Nat) (t0 tZ : Hp) (r : Unit) (C0 S0 : Nat) (hf : fx_X13_init a0 a1 t0 = some (r, tZ, C0, S0)) : Met l yX13_init (ws_ yX13_init cX13_init 3 (none)) ({ frames := 6, cells := C0, slots := S0, locals := 118 }) (va_Pc [.ref a0, .ref a1] (gw_W K t0)) (gw_Qv K tZ) C0 S0 K.2.2.2.1 := by
  refine Met.ofW (cc := cX13_init) (maxL := 3) (ret := none) (by decide) rfl ?_
  intro p e s m args below meth c s₁ B hml hv
  obtain ⟨rfl, hP, hK, hX, hN, hL⟩ := hv
  have hx := B.exec
  have hb := B.bytes
  have hr := B.returns
  have hts := atoms_spec (ws := (ws_ yX13_init cX13_init 3 (none))) B.pre
  have hts : ∀ w ∈ lw_all, w.before _ s = true := fun w h => hts w (List.mem_cons_of_mem _ h)
  have hown : s.vm.findClass "LosslessFabric$Fair" = some m.cls := findClass_of_methodNamed B.named
  have hlk := B.notSynchronized
  have hin : meth.name = "<init>" := (name_of_methodNamed B.named B.method).1
  have C : gw_C K "LosslessFabric$Fair" p s m _ c cX13_init := ⟨hx, hb, hts, hown, hK, hA, hX, hN, hL⟩
  have hk : 0 + C0 = C0 := Nat.zero_add _
  have hn : 0 + S0 = S0 := Nat.zero_add _
  have hS : va_S K.2.2.2.1 s.heap s.heap [] := va_S.rf
  have hl := lv_entry ([.ref a0, .ref a1]) (n := 3) (Nat.le_of_ble_eq_true rfl)
  rw [lg_entry_eq]
  generalize (lg_sl ([.ref a0, .ref a1]) ++ List.replicate (3 - (lg_sl ([.ref a0, .ref a1])).length) Slot.unset).toArray = ls at hl ⊢
  have hl : lv_has ls 3 [(0, .ref a0), (1, .ref a1)] := hl
  unfold fx_X13_init at hf
  refine lv_aload_n hx hb dX13_init_0 rfl (lv_at hl 0 rfl) ?_
  refine lv_aload_n hx hb dX13_init_1 rfl (lv_at hl 1 rfl) ?_
  obtain ⟨x1, t2, e3, hf⟩ := gw_b0E hf
  refine gw_vputF (ci := 12) (k := 6) (T := TX13) C hP hS rfl in_X13 tyX13 tyX13_ok nmX13 (by decide) e3 q1164 rfl rfl hin rfl rfl rfl dX13_init_2 (fun H locs hP hS => ?_)
  refine lv_aload_n hx hb dX13_init_5 rfl (lv_at hl 0 rfl) ?_
  refine W.objInit (rest := []) hx hb hown (hts _ q1129) (hts _ q134) (hts _ q135) rfl (by rw [hml]; exact hl.1) rfl dX13_init_6 (Nat.le_of_ble_eq_true rfl) (Nat.le_of_ble_eq_true rfl) ?_
  refine W.eq (g2 := F0 m 9 ls []) rfl ?_
  refine lv_aload_n hx hb dX13_init_9 rfl (lv_at hl 0 rfl) ?_
  refine lv_bipush (v := (8 : Int32)) hx hb dX13_init_10 (by decide) ?_
  obtain ⟨x4, t5, c5, s5, C5, S5, e6, hf, hk, hn⟩ := gw_bcE hf hk hn
  refine gw_newl C hP hS e6 q1180 (Nat.le.intro hk) (Nat.le.intro hn) dX13_init_12 (fun H hP hS => ?_)
  obtain ⟨x7, t8, e9, hf⟩ := gw_b0E hf
  refine gw_vputF (ci := 12) (k := 0) (T := TX13) C hP hS rfl in_X13 tyX13 tyX13_ok nmX13 (by decide) e9 q1155 rfl rfl hin rfl rfl rfl dX13_init_14 (fun H locs hP hS => ?_)
  refine lv_aload_n hx hb dX13_init_17 rfl (lv_at hl 0 rfl) ?_
  refine lv_bipush (v := (8 : Int32)) hx hb dX13_init_18 (by decide) ?_
  obtain ⟨x10, t11, c11, s11, C11, S11, e12, hf, hk, hn⟩ := gw_bcE hf hk hn
  refine gw_newl C hP hS e12 q1180 (Nat.le.intro hk) (Nat.le.intro hn) dX13_init_20 (fun H hP hS => ?_)
  obtain ⟨x13, t14, e15, hf⟩ := gw_b0E hf
  refine gw_vputF (ci := 12) (k := 1) (T := TX13) C hP hS rfl in_X13 tyX13 tyX13_ok nmX13 (by decide) e15 q1157 rfl rfl hin rfl rfl rfl dX13_init_22 (fun H locs hP hS => ?_)
  refine lv_iconst (v := (0 : Int32)) hx hb dX13_init_25 (by decide) ?_
  refine lv_istore_n (lv' := [(2, .int (0 : Int32)), (0, .ref a0), (1, .ref a1)]) hx hb dX13_init_26 rfl hl (by decide) rfl (fun ls hl => ?_)
  have k27 : ∀ (n : Nat) (v27_2 : Int32) (t16 : Hp) (k16 n16 C16 S16 : Nat) (H : Heap) (locs : List Loc) (ls : Array Slot), gw_P K t16 H → va_S K.2.2.2.1 s.heap H locs → k16 + C16 = C0 → n16 + S16 = S0 → lv_has ls 3 [(0, .ref a0), (1, .ref a1), (2, .int v27_2)] → tw_lp (fx_X13_init_L27 a0 a1) (fun _ _ => none) n v27_2 t16 = some (r, tZ, C16, S16) → W p l e (headSpec (ws_ yX13_init cX13_init 3 (none)) ({ frames := 6, cells := C0, slots := S0, locals := 118 })).room s m ([.ref a0, .ref a1] : List Value).toArray below meth c H locs k16 n16 (MQ below (gw_Qv K tZ) ([.ref a0, .ref a1] : List Value).toArray s C0 S0 K.2.2.2.1) (F0 m 27 ls []) := by
    intro n
    induction n with
    | zero => intro v27_2 t16 k16 n16 C16 S16 H locs ls hP hS hk hn hl hf; exact (tw_no hf).elim
    | succ n ih27 =>
      intro v27_2 t16 k16 n16 C16 S16 H locs ls hP hS hk hn hl hf
      obtain ⟨sf27, hs27⟩ : ∃ f, f = tw_lp (fx_X13_init_L27 a0 a1) (fun _ _ => none) n := ⟨_, rfl⟩
      rw [← hs27] at ih27
      have hf : fx_X13_init_L27 a0 a1 sf27 v27_2 t16 = some (r, tZ, C16, S16) := by rw [hs27]; exact hf
      clear hs27
      unfold fx_X13_init_L27 at hf
      refine lv_iload_n hx hb dX13_init_27 rfl (lv_at hl 2 rfl) ?_
      refine lv_bipush (v := (8 : Int32)) hx hb dX13_init_28 (by decide) ?_
      refine lv_icmp_ge (tgt := 86) hx hb dX13_init_30 (by decide) (fun hc => ?_) (fun hc => ?_)
      · have hf := tw_ifT hc hf
        have k86 : ∀ (n : Nat)  (t17 : Hp) (k17 n17 C17 S17 : Nat) (H : Heap) (locs : List Loc) (ls : Array Slot), gw_P K t17 H → va_S K.2.2.2.1 s.heap H locs → k17 + C17 = C0 → n17 + S17 = S0 → lv_has ls 3 [(0, .ref a0)] → tw_lp (fx_X13_init_L86 a0) (fun _ => none) n  t17 = some (r, tZ, C17, S17) → W p l e (headSpec (ws_ yX13_init cX13_init 3 (none)) ({ frames := 6, cells := C0, slots := S0, locals := 118 })).room s m ([.ref a0, .ref a1] : List Value).toArray below meth c H locs k17 n17 (MQ below (gw_Qv K tZ) ([.ref a0, .ref a1] : List Value).toArray s C0 S0 K.2.2.2.1) (F0 m 86 ls []) := by
          intro n
          induction n with
          | zero => intro t17 k17 n17 C17 S17 H locs ls hP hS hk hn hl hf; exact (tw_no hf).elim
          | succ n ih86 =>
            intro t17 k17 n17 C17 S17 H locs ls hP hS hk hn hl hf
            obtain ⟨sf86, hs86⟩ : ∃ f, f = tw_lp (fx_X13_init_L86 a0) (fun _ => none) n := ⟨_, rfl⟩
            rw [← hs86] at ih86
            have hf : fx_X13_init_L86 a0 sf86  t17 = some (r, tZ, C17, S17) := by rw [hs86]; exact hf
            clear hs86
            unfold fx_X13_init_L86 at hf
            refine lv_aload_n hx hb dX13_init_86 rfl (lv_at hl 0 rfl) ?_
            obtain ⟨x18, t19, e20, hf⟩ := gw_b0E hf
            refine gw_iget (ci := 12) (k := 2) (T := TX13) C hP rfl in_X13 (by decide) e20 q1159 rfl dX13_init_87 (fun hP => ?_)
            refine lv_sipush (v := (255 : Int32)) hx hb dX13_init_90 (by decide) ?_
            refine lv_icmp_eq (tgt := 103) hx hb dX13_init_93 (by decide) (fun hc => ?_) (fun hc => ?_)
            · have hf := tw_ifT hc hf
              obtain ⟨h1, h2, h3, h4⟩ := gw_rcE hf hk hn
              exact gw_iretv h2 h3 h4 C hr hP hS hlk dX13_init_103
            · have hf := tw_ifF hc hf
              refine lv_aload_n hx hb dX13_init_96 rfl (lv_at hl 0 rfl) ?_
              obtain ⟨x21, t22, e23, hf⟩ := gw_b0E hf
              refine gw_cVv (As := []) (rest := []) (ci := 12) (T := TX13) (N := 7) C hml hP hS rfl (gw_onE e23).1 (mx_X13_grows (l := l) (K := K) hA _ _ _ _ (gw_onE e23).2) (cwV 0 hts (lw_V q1131 q1133 qs30 q127 q1134) rfl rfl rfl hdX13_grows ⟨Nat.le_of_ble_eq_true rfl, Nat.le_of_ble_eq_true rfl⟩) rfl hl.1 rfl (Nat.le_of_ble_eq_true rfl) (Nat.le.intro hk) (Nat.le.intro hn) dX13_init_97 (fun H locs hP hS => ?_)
              refine lv_goto (tgt := 86) hx hb dX13_init_100 (by decide) ?_
              exact ih86 _ _ _ _ _ _ _ _ hP hS hk hn (lv_sub hl [0] rfl) hf
        exact k86 _ _ _ _ _ _ _ _ _ hP hS hk hn (lv_sub hl [0] rfl) hf
      · have hf := tw_ifF hc hf
        refine lv_aload_n hx hb dX13_init_33 rfl (lv_at hl 0 rfl) ?_
        obtain ⟨x24, t25, e26, hf⟩ := gw_b0E hf
        refine gw_rget (ci := 12) (k := 1) (T := TX13) C hP rfl in_X13 (by decide) e26 q1157 rfl dX13_init_34 (fun hP => ?_)
        refine lv_iload_n hx hb dX13_init_37 rfl (lv_at hl 2 rfl) ?_
        refine lv_lconst (v := (1 : Int64)) hx hb dX13_init_38 (by decide) ?_
        obtain ⟨x27, t28, e29, hf⟩ := gw_b0E hf
        refine gw_last C hP hS e29 dX13_init_39 (fun H locs hP hS => ?_)
        refine lv_iload_n hx hb dX13_init_40 rfl (lv_at hl 2 rfl) ?_
        refine lv_aload_n hx hb dX13_init_41 rfl (lv_at hl 1 rfl) ?_
        obtain ⟨x30, t31, e32, hf⟩ := gw_b0E hf
        refine gw_rgetN (ci := 0) (k := 4) (T := TX1) C hP rfl in_X1 (by decide) e32 q395 rfl dX13_init_42 (fun hP => ?_)
        obtain ⟨x33, t34, e35, hf⟩ := gw_b0E hf
        refine gw_igetN (ci := 1) (k := 3) (T := TX2) C hP rfl in_X2 (by decide) e35 q162 rfl dX13_init_45 (fun hP => ?_)
        have k80 : ∀  (t36 : Hp) (k36 n36 C36 S36 : Nat) (H : Heap) (locs : List Loc) (ls : Array Slot), gw_P K t36 H → va_S K.2.2.2.1 s.heap H locs → k36 + C36 = C0 → n36 + S36 = S0 → lv_has ls 3 [(0, .ref a0), (1, .ref a1), (2, .int v27_2)] → fx_X13_init_J80 sf27 v27_2  t36 = some (r, tZ, C36, S36) → W p l e (headSpec (ws_ yX13_init cX13_init 3 (none)) ({ frames := 6, cells := C0, slots := S0, locals := 118 })).room s m ([.ref a0, .ref a1] : List Value).toArray below meth c H locs k36 n36 (MQ below (gw_Qv K tZ) ([.ref a0, .ref a1] : List Value).toArray s C0 S0 K.2.2.2.1) (F0 m 80 ls []) := by
          intro t36 k36 n36 C36 S36 H locs ls hP hS hk hn hl hf
          unfold fx_X13_init_J80 at hf
          refine lv_iinc (v := (v27_2 + (1 : Int32))) (lv' := [(2, .int (v27_2 + (1 : Int32))), (0, .ref a0), (1, .ref a1)]) hx hb dX13_init_80 hl (k := 2) rfl rfl (by decide) rfl (fun ls hl => ?_)
          refine lv_goto (tgt := 27) hx hb dX13_init_83 (by decide) ?_
          exact ih27 _ _ _ _ _ _ _ _ _ hP hS hk hn (lv_sub hl [1, 2, 0] rfl) hf
        have k66 : ∀  (t37 : Hp) (k37 n37 C37 S37 : Nat) (H : Heap) (locs : List Loc) (ls : Array Slot), gw_P K t37 H → va_S K.2.2.2.1 s.heap H locs → k37 + C37 = C0 → n37 + S37 = S0 → lv_has ls 3 [(0, .ref a0), (1, .ref a1), (2, .int v27_2)] → fx_X13_init_J66 a0 v27_2 sf27  t37 = some (r, tZ, C37, S37) → W p l e (headSpec (ws_ yX13_init cX13_init 3 (none)) ({ frames := 6, cells := C0, slots := S0, locals := 118 })).room s m ([.ref a0, .ref a1] : List Value).toArray below meth c H locs k37 n37 (MQ below (gw_Qv K tZ) ([.ref a0, .ref a1] : List Value).toArray s C0 S0 K.2.2.2.1) (F0 m 66 ls []) := by
          intro t37 k37 n37 C37 S37 H locs ls hP hS hk hn hl hf
          unfold fx_X13_init_J66 at hf
          refine lv_aload_n hx hb dX13_init_66 rfl (lv_at hl 0 rfl) ?_
          refine lv_dup hx hb dX13_init_67 rfl ?_
          obtain ⟨x38, t39, e40, hf⟩ := gw_b0E hf
          refine gw_iget (ci := 12) (k := 2) (T := TX13) C hP rfl in_X13 (by decide) e40 q1159 rfl dX13_init_68 (fun hP => ?_)
          refine va_getsN hx hb hX.2.2.2.2.2.1 hS hown (gw_Nw hN q1130 rfl rfl) (fun _ h => h) dX13_init_71 ?_
          refine lv_iload_n hx hb dX13_init_74 rfl (lv_at hl 2 rfl) ?_
          obtain ⟨x41, t42, e43, hf⟩ := gw_b0E hf
          refine gw_bits C hS e43 dX13_init_75 (fun ht => ?_)
          rw [ht] at hP
          refine lv_ior hx hb dX13_init_76 ?_
          obtain ⟨x44, t45, e46, hf⟩ := gw_b0E hf
          refine gw_vput (ci := 12) (k := 2) (T := TX13) C hP hS rfl in_X13 tyX13 tyX13_ok nmX13 (by decide) e46 q1159 rfl rfl (vp_nar_int _) rfl dX13_init_77 (fun H locs hP hS => ?_)
          exact k80 _ _ _ _ _ _ _ _ hP hS hk hn (lv_sub hl [0, 1, 2] rfl) hf
        refine lv_icmp_ge (tgt := 66) hx hb dX13_init_48 (by decide) (fun hc => ?_) (fun hc => ?_)
        · have hf := tw_ifT hc hf
          exact k66 _ _ _ _ _ _ _ _ hP hS hk hn (lv_sub hl [0, 1, 2] rfl) hf
        · have hf := tw_ifF hc hf
          refine lv_aload_n hx hb dX13_init_51 rfl (lv_at hl 1 rfl) ?_
          obtain ⟨x47, t48, e49, hf⟩ := gw_b0E hf
          refine gw_rgetN (ci := 0) (k := 11) (T := TX1) C hP rfl in_X1 (by decide) e49 q403 rfl dX13_init_52 (fun hP => ?_)
          obtain ⟨x50, t51, e52, hf⟩ := gw_b0E hf
          refine gw_rgetN (ci := 2) (k := 3) (T := TX3) C hP rfl in_X3 (by decide) e52 q357 rfl dX13_init_55 (fun hP => ?_)
          refine lv_iload_n hx hb dX13_init_58 rfl (lv_at hl 2 rfl) ?_
          obtain ⟨x53, t54, e55, hf⟩ := gw_b0E hf
          refine gw_aald C hP rfl e55 dX13_init_59 (fun hP => ?_)
          obtain ⟨x56, t57, e58, hf⟩ := gw_b0E hf
          refine gw_igetN (ci := 4) (k := 11) (T := TX5) C hP rfl in_X5 (by decide) e58 q323 rfl dX13_init_60 (fun hP => ?_)
          refine lv_if_ne (tgt := 80) hx hb dX13_init_63 (by decide) (fun hc => ?_) (fun hc => ?_)
          · have hf := tw_ifF hc hf
            exact k80 _ _ _ _ _ _ _ _ hP hS hk hn (lv_sub hl [0, 1, 2] rfl) hf
          · have hf := tw_ifT hc hf
            exact k66 _ _ _ _ _ _ _ _ hP hS hk hn (lv_sub hl [0, 1, 2] rfl) hf
  exact k27 _ _ _ _ _ _ _ _ _ _ hP hS hk hn (lv_sub hl [1, 2, 0] rfl) hf
def fx_X1_fair_J40  (w40_0 : Int64) : gM Int64 :=
  gw_rc w40_0
def fx_X1_fair (a0 : Nat) (a1 : Int32) (a2 : Int32) : gM Int64 :=
  gw_bc (gw_on 0 a0 (fx_X1_isFlow a0 a1)) fun x1 =>
  if x1 = 0 then (gw_rc (-1 : Int64))
  else (gw_bc (gw_nw 12 7 tyX13) fun x4 =>
  gw_bc (fx_X13_init x4 a0) fun _ =>
  if a2 = 0 then (gw_b0 (gw_gr 12 0 x4) fun x11 =>
  gw_b0 (gw_ll x11 a1) fun x14 =>
 
  fx_X1_fair_J40 x14)
  else (gw_b0 (gw_gr 12 1 x4) fun x17 =>
  gw_b0 (gw_ll x17 a1) fun x20 =>
 
  fx_X1_fair_J40 x20))
theorem hdX1_fair : yX1_fair.cls = "LosslessFabric" ∧ (yX1_fair.cls ≠ "java/lang/invoke/MethodHandle" ∧ yX1_fair.cls ≠ "java/lang/invoke/VarHandle" ∧ (parseMethodDescriptor yX1_fair.desc).map (fun d => d.parameters.length) = some 2) := by decide +kernel
set_option maxHeartbeats 4000000 in
theorem mx_X1_fair {l : Launch} {K : GK} (hA : gw_A K) (a0 : Nat) (a1 : Int32) (a2 : Int32) (t0 tZ : Hp) (r : Int64) (C0 S0 : Nat) (hf : fx_X1_fair a0 a1 a2 t0 = some (r, tZ, C0, S0)) : Met l yX1_fair (ws_ yX1_fair cX1_fair 4 (some (.long))) ({ frames := 7, cells := C0, slots := S0, locals := 140 }) (va_Pc [.ref a0, .int a1, .int a2] (gw_W K t0)) (gw_Ql K r tZ) C0 S0 K.2.2.2.1 := by
  refine Met.ofW (cc := cX1_fair) (maxL := 4) (ret := some (.long)) (by decide) rfl ?_
  intro p e s m args below meth c s₁ B hml hv
  obtain ⟨rfl, hP, hK, hX, hN, hL⟩ := hv
  have hx := B.exec
  have hb := B.bytes
  have hr := B.returns
  have hts := atoms_spec (ws := (ws_ yX1_fair cX1_fair 4 (some (.long)))) B.pre
  have hts : ∀ w ∈ lw_all, w.before _ s = true := fun w h => hts w (List.mem_cons_of_mem _ h)
  have hown : s.vm.findClass "LosslessFabric" = some m.cls := findClass_of_methodNamed B.named
  have hlk := B.notSynchronized
  have C : gw_C K "LosslessFabric" p s m _ c cX1_fair := ⟨hx, hb, hts, hown, hK, hA, hX, hN, hL⟩
  have hk : 0 + C0 = C0 := Nat.zero_add _
  have hn : 0 + S0 = S0 := Nat.zero_add _
  have hS : va_S K.2.2.2.1 s.heap s.heap [] := va_S.rf
  have hl := lv_entry ([.ref a0, .int a1, .int a2]) (n := 4) (Nat.le_of_ble_eq_true rfl)
  rw [lg_entry_eq]
  generalize (lg_sl ([.ref a0, .int a1, .int a2]) ++ List.replicate (4 - (lg_sl ([.ref a0, .int a1, .int a2])).length) Slot.unset).toArray = ls at hl ⊢
  have hl : lv_has ls 4 [(0, .ref a0), (1, .int a1), (2, .int a2)] := hl
  unfold fx_X1_fair at hf
  refine lv_aload_n hx hb dX1_fair_0 rfl (lv_at hl 0 rfl) ?_
  refine lv_iload_n hx hb dX1_fair_1 rfl (lv_at hl 1 rfl) ?_
  obtain ⟨x1, t2, c2, s2, C2, S2, e3, hf, hk, hn⟩ := gw_bcE hf hk hn
  refine gw_cVi (As := [.int a1]) (rest := []) (ci := 0) (T := TX1) (N := 18) C hml hP hS rfl (gw_onE e3).1 (mx_X1_isFlow (l := l) (K := K) hA _ _ _ _ _ _ _ (gw_onE e3).2) (cwV 1 hts (lw_V q952 q954 qs21 q101 q955) rfl rfl rfl hdX1_isFlow ⟨Nat.le_of_ble_eq_true rfl, Nat.le_of_ble_eq_true rfl⟩) rfl hl.1 rfl (Nat.le_of_ble_eq_true rfl) (Nat.le.intro hk) (Nat.le.intro hn) dX1_fair_2 (fun H locs hP hS => ?_)
  refine lv_if_ne (tgt := 12) hx hb dX1_fair_5 (by decide) (fun hc => ?_) (fun hc => ?_)
  · have hf := tw_ifF hc hf
    obtain ⟨x4, t5, c5, s5, C5, S5, e6, hf, hk, hn⟩ := gw_bcE hf hk hn
    refine gw_new (T := TX13) C hP hS rfl in_X13 tyX13_ok e6 q1124 q1125 q127 (Nat.le.intro hk) (Nat.le.intro hn) dX1_fair_12 (fun H hP hS => ?_)
    refine lv_dup hx hb dX1_fair_15 rfl ?_
    refine lv_aload_n hx hb dX1_fair_16 rfl (lv_at hl 0 rfl) ?_
    obtain ⟨x7, t8, c8, s8, C8, S8, e9, hf, hk, hn⟩ := gw_bcE hf hk hn
    refine gw_cIv (As := [.ref a0]) (rest := [.ref x4]) C hml hP hS (mx_X13_init (l := l) (K := K) hA _ _ _ _ _ _ _ e9) (cwI 1 hts (lw_meth q1128) rfl rfl rfl (hts _ q127) (hts _ q1126) (hts _ q1127) rfl hdX13_init.2 ⟨Nat.le_of_ble_eq_true rfl, Nat.le_of_ble_eq_true rfl⟩) rfl hl.1 rfl (Nat.le_of_ble_eq_true rfl) (Nat.le.intro hk) (Nat.le.intro hn) dX1_fair_17 (fun H locs hP hS => ?_)
    refine lv_astore_n (lv' := [(3, .ref x4), (0, .ref a0), (1, .int a1), (2, .int a2)]) hx hb dX1_fair_20 rfl hl (by decide) rfl (fun ls hl => ?_)
    refine lv_iload_n hx hb dX1_fair_21 rfl (lv_at hl 3 rfl) ?_
    have k40 : ∀ (w40_0 : Int64) (t10 : Hp) (k10 n10 C10 S10 : Nat) (H : Heap) (locs : List Loc) (ls : Array Slot), gw_P K t10 H → va_S K.2.2.2.1 s.heap H locs → k10 + C10 = C0 → n10 + S10 = S0 → lv_has ls 4 [] → fx_X1_fair_J40 w40_0 t10 = some (r, tZ, C10, S10) → W p l e (headSpec (ws_ yX1_fair cX1_fair 4 (some (.long))) ({ frames := 7, cells := C0, slots := S0, locals := 140 })).room s m ([.ref a0, .int a1, .int a2] : List Value).toArray below meth c H locs k10 n10 (MQ below (gw_Ql K r tZ) ([.ref a0, .int a1, .int a2] : List Value).toArray s C0 S0 K.2.2.2.1) (F0 m 40 ls [.long w40_0]) := by
      intro w40_0 t10 k10 n10 C10 S10 H locs ls hP hS hk hn hl hf
      unfold fx_X1_fair_J40 at hf
      obtain ⟨h1, h2, h3, h4⟩ := gw_rcE hf hk hn
      exact gw_iretl h1 h2 h3 h4 C hr hP hS hlk dX1_fair_40
    refine lv_if_eq (tgt := 34) hx hb dX1_fair_22 (by decide) (fun hc => ?_) (fun hc => ?_)
    · have hf := tw_ifT hc hf
      refine lv_aload_n hx hb dX1_fair_34 rfl (lv_at hl 0 rfl) ?_
      obtain ⟨x11, t12, e13, hf⟩ := gw_b0E hf
      refine gw_rgetN (ci := 12) (k := 0) (T := TX13) C hP rfl in_X13 (by decide) e13 q1156 rfl dX1_fair_35 (fun hP => ?_)
      refine lv_iload_n hx hb dX1_fair_38 rfl (lv_at hl 2 rfl) ?_
      obtain ⟨x14, t15, e16, hf⟩ := gw_b0E hf
      refine gw_lald C hP e16 dX1_fair_39 (fun hP => ?_)
      exact k40 _ _ _ _ _ _ _ _ _ hP hS hk hn (lv_sub hl [] rfl) hf
    · have hf := tw_ifF hc hf
      refine lv_aload_n hx hb dX1_fair_25 rfl (lv_at hl 0 rfl) ?_
      obtain ⟨x17, t18, e19, hf⟩ := gw_b0E hf
      refine gw_rgetN (ci := 12) (k := 1) (T := TX13) C hP rfl in_X13 (by decide) e19 q1158 rfl dX1_fair_26 (fun hP => ?_)
      refine lv_iload_n hx hb dX1_fair_29 rfl (lv_at hl 2 rfl) ?_
      obtain ⟨x20, t21, e22, hf⟩ := gw_b0E hf
      refine gw_lald C hP e22 dX1_fair_30 (fun hP => ?_)
      refine lv_goto (tgt := 40) hx hb dX1_fair_31 (by decide) ?_
      exact k40 _ _ _ _ _ _ _ _ _ hP hS hk hn (lv_sub hl [] rfl) hf
  · have hf := tw_ifT hc hf
    refine lv_ldc2 hx hb hown (hts _ q1123) dX1_fair_8 ?_
    obtain ⟨h1, h2, h3, h4⟩ := gw_rcE hf hk hn
    exact gw_iretl h1 h2 h3 h4 C hr hP hS hlk dX1_fair_11
def fx_X1_fault_J24  (w24_0 : Int32) : HM Int32 :=
  tw_rt w24_0
def fx_X1_fault (a0 : Nat) (a1 : Int32) : HM Int32 :=
  if a1 = 0 then (tw_bd (gw_gi 0 2 a0) fun x5 =>
 
  fx_X1_fault_J24 x5)
  else (if a1 = (1 : Int32) then (tw_bd (gw_gi 0 3 a0) fun x2 =>
 
  fx_X1_fault_J24 x2)
  else (fx_X1_fault_J24 (-1 : Int32)))
theorem hdX1_fault : yX1_fault.cls = "LosslessFabric" ∧ (yX1_fault.cls ≠ "java/lang/invoke/MethodHandle" ∧ yX1_fault.cls ≠ "java/lang/invoke/VarHandle" ∧ (parseMethodDescriptor yX1_fault.desc).map (fun d => d.parameters.length) = some 1) := by decide +kernel
set_option maxHeartbeats 4000000 in
theorem mx_X1_fault {l : Launch} {K : GK} (hA : gw_A K) (a0 : Nat) (a1 : Int32) (t0 tZ : Hp) (r : Int32) (hf : fx_X1_fault a0 a1 t0 = some (r, tZ)) : Met l yX1_fault (ws_ yX1_fault cX1_fault 2 (some (.int))) ({ frames := 2, cells := 0, slots := 0, locals := 12 }) (va_Pc [.ref a0, .int a1] (gw_W K t0)) (gw_Qi K r tZ) 0 0 K.2.2.2.1 := by
  refine Met.ofW (cc := cX1_fault) (maxL := 2) (ret := some (.int)) (by decide) rfl ?_
  intro p e s m args below meth c s₁ B hml hv
  obtain ⟨rfl, hP, hK, hX, hN, hL⟩ := hv
  have hx := B.exec
  have hb := B.bytes
  have hr := B.returns
  have hts := atoms_spec (ws := (ws_ yX1_fault cX1_fault 2 (some (.int)))) B.pre
  have hts : ∀ w ∈ lw_all, w.before _ s = true := fun w h => hts w (List.mem_cons_of_mem _ h)
  have hown : s.vm.findClass "LosslessFabric" = some m.cls := findClass_of_methodNamed B.named
  have hlk := B.notSynchronized
  have C : gw_C K "LosslessFabric" p s m _ c cX1_fault := ⟨hx, hb, hts, hown, hK, hA, hX, hN, hL⟩
  have hS : va_S K.2.2.2.1 s.heap s.heap [] := va_S.rf
  have hl := lv_entry ([.ref a0, .int a1]) (n := 2) (Nat.le_of_ble_eq_true rfl)
  rw [lg_entry_eq]
  generalize (lg_sl ([.ref a0, .int a1]) ++ List.replicate (2 - (lg_sl ([.ref a0, .int a1])).length) Slot.unset).toArray = ls at hl ⊢
  have hl : lv_has ls 2 [(0, .ref a0), (1, .int a1)] := hl
  unfold fx_X1_fault at hf
  refine lv_iload_n hx hb dX1_fault_0 rfl (lv_at hl 1 rfl) ?_
  have k24 : ∀ (w24_0 : Int32) (t1 : Hp) (H : Heap) (locs : List Loc) (ls : Array Slot), gw_P K t1 H → va_S K.2.2.2.1 s.heap H locs → lv_has ls 2 [] → fx_X1_fault_J24 w24_0 t1 = some (r, tZ) → W p l e (headSpec (ws_ yX1_fault cX1_fault 2 (some (.int))) ({ frames := 2, cells := 0, slots := 0, locals := 12 })).room s m ([.ref a0, .int a1] : List Value).toArray below meth c H locs 0 0 (MQ below (gw_Qi K r tZ) ([.ref a0, .int a1] : List Value).toArray s 0 0 K.2.2.2.1) (F0 m 24 ls [.int w24_0]) := by
    intro w24_0 t1 H locs ls hP hS hl hf
    unfold fx_X1_fault_J24 at hf
    exact gw_ireti (tw_rtE hf).1 (tw_rtE hf).2 rfl rfl C hr hP hS hlk dX1_fault_24
  refine lv_if_ne (tgt := 11) hx hb dX1_fault_1 (by decide) (fun hc => ?_) (fun hc => ?_)
  · have hf := tw_ifF hc hf
    refine lv_iload_n hx hb dX1_fault_11 rfl (lv_at hl 1 rfl) ?_
    refine lv_iconst (v := (1 : Int32)) hx hb dX1_fault_12 (by decide) ?_
    refine lv_icmp_ne (tgt := 23) hx hb dX1_fault_13 (by decide) (fun hc => ?_) (fun hc => ?_)
    · have hf := tw_ifF hc hf
      refine lv_iconst (v := (-1 : Int32)) hx hb dX1_fault_23 (by decide) ?_
      exact k24 _ _ _ _ _ hP hS (lv_sub hl [] rfl) hf
    · have hf := tw_ifT hc hf
      refine lv_aload_n hx hb dX1_fault_16 rfl (lv_at hl 0 rfl) ?_
      obtain ⟨x2, t3, e4, hf⟩ := tw_bdE hf
      refine gw_iget (ci := 0) (k := 3) (T := TX1) C hP rfl in_X1 (by decide) e4 q393 rfl dX1_fault_17 (fun hP => ?_)
      refine lv_goto (tgt := 24) hx hb dX1_fault_20 (by decide) ?_
      exact k24 _ _ _ _ _ hP hS (lv_sub hl [] rfl) hf
  · have hf := tw_ifT hc hf
    refine lv_aload_n hx hb dX1_fault_4 rfl (lv_at hl 0 rfl) ?_
    obtain ⟨x5, t6, e7, hf⟩ := tw_bdE hf
    refine gw_iget (ci := 0) (k := 2) (T := TX1) C hP rfl in_X1 (by decide) e7 q392 rfl dX1_fault_5 (fun hP => ?_)
    refine lv_goto (tgt := 24) hx hb dX1_fault_8 (by decide) ?_
    exact k24 _ _ _ _ _ hP hS (lv_sub hl [] rfl) hf
def fx_X1_feed_J71 (a0 : Nat) (v18_6 : Int32) (sf18 : Int32 → HM Int32) (w71_0 : Int32) : HM Int32 :=
  tw_bd (gw_gr 0 0 a0) fun x15 =>
  tw_bd (gw_gi 0 1 a0) fun x18 =>
  tw_bd (tw_nz (4 : Int32)) fun _ =>
  tw_bd (gw_sb x15 (x18 + v18_6) ((w71_0 >>> (((24 : Int32) - ((8 : Int32) * (v18_6 - v18_6 / (4 : Int32) * (4 : Int32)))) &&& 31)).toInt8.toInt32)) fun _ =>
 
  sf18 (v18_6 + (1 : Int32))
def fx_X1_feed_L18 (a0 : Nat) (a5 : Int32) (a4 : Int32) (a3 : Int32) (a2 : Int32) (a1 : Int32) (sf18 : Int32 → HM Int32) (v18_6 : Int32) : HM Int32 :=
  if (20 : Int32) ≤ v18_6 then (tw_bd (gw_gi 0 1 a0) fun x5 =>
  tw_bd (gw_pi 0 1 a0 (x5 + (20 : Int32))) fun _ =>
  tw_bd (gw_gi 0 1 a0) fun x11 =>
  tw_rt x11)
  else (if (4 : Int32) ≤ v18_6 then (if (8 : Int32) ≤ v18_6 then (if (12 : Int32) ≤ v18_6 then (if (16 : Int32) ≤ v18_6 then (fx_X1_feed_J71 a0 v18_6 sf18 a5)
  else (fx_X1_feed_J71 a0 v18_6 sf18 a4))
  else (fx_X1_feed_J71 a0 v18_6 sf18 a3))
  else (fx_X1_feed_J71 a0 v18_6 sf18 a2))
  else (fx_X1_feed_J71 a0 v18_6 sf18 a1))
def fx_X1_feed (a0 : Nat) (a1 : Int32) (a2 : Int32) (a3 : Int32) (a4 : Int32) (a5 : Int32) : HM Int32 :=
  tw_bd (gw_gi 0 1 a0) fun x1 =>
  if (x1 + (20 : Int32)) ≤ (700 : Int32) then (tw_lp (fx_X1_feed_L18 a0 a5 a4 a3 a2 a1) (fun _ _ => none) tw_fu (0 : Int32))
  else (tw_rt (-1 : Int32))
theorem hdX1_feed : yX1_feed.cls = "LosslessFabric" ∧ (yX1_feed.cls ≠ "java/lang/invoke/MethodHandle" ∧ yX1_feed.cls ≠ "java/lang/invoke/VarHandle" ∧ (parseMethodDescriptor yX1_feed.desc).map (fun d => d.parameters.length) = some 5) := by decide +kernel
set_option maxHeartbeats 4000000 in
theorem mx_X1_feed {l : Launch} {K : GK} (hA : gw_A K) (a0 : Nat) (a1 : Int32) (a2 : Int32) (a3 : Int32) (a4 : Int32) (a5 : Int32) (t0 tZ : Hp) (r : Int32) (hf : fx_X1_feed a0 a1 a2 a3 a4 a5 t0 = some (r, tZ)) : Met l yX1_feed (ws_ yX1_feed cX1_feed 8 (some (.int))) ({ frames := 2, cells := 0, slots := 0, locals := 12 }) (va_Pc [.ref a0, .int a1, .int a2, .int a3, .int a4, .int a5] (gw_W K t0)) (gw_Qi K r tZ) 0 0 K.2.2.2.1 := by
  refine Met.ofW (cc := cX1_feed) (maxL := 8) (ret := some (.int)) (by decide) rfl ?_
  intro p e s m args below meth c s₁ B hml hv
  obtain ⟨rfl, hP, hK, hX, hN, hL⟩ := hv
  have hx := B.exec
  have hb := B.bytes
  have hr := B.returns
  have hts := atoms_spec (ws := (ws_ yX1_feed cX1_feed 8 (some (.int)))) B.pre
  have hts : ∀ w ∈ lw_all, w.before _ s = true := fun w h => hts w (List.mem_cons_of_mem _ h)
  have hown : s.vm.findClass "LosslessFabric" = some m.cls := findClass_of_methodNamed B.named
  have hlk := B.notSynchronized
  have C : gw_C K "LosslessFabric" p s m _ c cX1_feed := ⟨hx, hb, hts, hown, hK, hA, hX, hN, hL⟩
  have hS : va_S K.2.2.2.1 s.heap s.heap [] := va_S.rf
  have hl := lv_entry ([.ref a0, .int a1, .int a2, .int a3, .int a4, .int a5]) (n := 8) (Nat.le_of_ble_eq_true rfl)
  rw [lg_entry_eq]
  generalize (lg_sl ([.ref a0, .int a1, .int a2, .int a3, .int a4, .int a5]) ++ List.replicate (8 - (lg_sl ([.ref a0, .int a1, .int a2, .int a3, .int a4, .int a5])).length) Slot.unset).toArray = ls at hl ⊢
  have hl : lv_has ls 8 [(0, .ref a0), (1, .int a1), (2, .int a2), (3, .int a3), (4, .int a4), (5, .int a5)] := hl
  unfold fx_X1_feed at hf
  refine lv_aload_n hx hb dX1_feed_0 rfl (lv_at hl 0 rfl) ?_
  obtain ⟨x1, t2, e3, hf⟩ := tw_bdE hf
  refine gw_iget (ci := 0) (k := 1) (T := TX1) C hP rfl in_X1 (by decide) e3 q391 rfl dX1_feed_1 (fun hP => ?_)
  refine lv_bipush (v := (20 : Int32)) hx hb dX1_feed_4 (by decide) ?_
  refine lv_iadd hx hb dX1_feed_6 ?_
  refine lv_sipush (v := (700 : Int32)) hx hb dX1_feed_7 (by decide) ?_
  refine lv_icmp_le (tgt := 15) hx hb dX1_feed_10 (by decide) (fun hc => ?_) (fun hc => ?_)
  · have hf := tw_ifT hc hf
    refine lv_iconst (v := (0 : Int32)) hx hb dX1_feed_15 (by decide) ?_
    refine lv_istore (lv' := [(6, .int (0 : Int32)), (0, .ref a0), (1, .int a1), (2, .int a2), (3, .int a3), (4, .int a4), (5, .int a5)]) hx hb dX1_feed_16 hl (by decide) rfl (fun ls hl => ?_)
    have k18 : ∀ (n : Nat) (v18_6 : Int32) (t4 : Hp) (H : Heap) (locs : List Loc) (ls : Array Slot), gw_P K t4 H → va_S K.2.2.2.1 s.heap H locs → lv_has ls 8 [(0, .ref a0), (1, .int a1), (2, .int a2), (3, .int a3), (4, .int a4), (5, .int a5), (6, .int v18_6)] → tw_lp (fx_X1_feed_L18 a0 a5 a4 a3 a2 a1) (fun _ _ => none) n v18_6 t4 = some (r, tZ) → W p l e (headSpec (ws_ yX1_feed cX1_feed 8 (some (.int))) ({ frames := 2, cells := 0, slots := 0, locals := 12 })).room s m ([.ref a0, .int a1, .int a2, .int a3, .int a4, .int a5] : List Value).toArray below meth c H locs 0 0 (MQ below (gw_Qi K r tZ) ([.ref a0, .int a1, .int a2, .int a3, .int a4, .int a5] : List Value).toArray s 0 0 K.2.2.2.1) (F0 m 18 ls []) := by
      intro n
      induction n with
      | zero => intro v18_6 t4 H locs ls hP hS hl hf; exact (tw_no hf).elim
      | succ n ih18 =>
        intro v18_6 t4 H locs ls hP hS hl hf
        obtain ⟨sf18, hs18⟩ : ∃ f, f = tw_lp (fx_X1_feed_L18 a0 a5 a4 a3 a2 a1) (fun _ _ => none) n := ⟨_, rfl⟩
        rw [← hs18] at ih18
        have hf : fx_X1_feed_L18 a0 a5 a4 a3 a2 a1 sf18 v18_6 t4 = some (r, tZ) := by rw [hs18]; exact hf
        clear hs18
        unfold fx_X1_feed_L18 at hf
        refine lv_iload hx hb dX1_feed_18 (lv_at hl 6 rfl) ?_
        refine lv_bipush (v := (20 : Int32)) hx hb dX1_feed_20 (by decide) ?_
        refine lv_icmp_ge (tgt := 105) hx hb dX1_feed_22 (by decide) (fun hc => ?_) (fun hc => ?_)
        · have hf := tw_ifT hc hf
          refine lv_aload_n hx hb dX1_feed_105 rfl (lv_at hl 0 rfl) ?_
          refine lv_dup hx hb dX1_feed_106 rfl ?_
          obtain ⟨x5, t6, e7, hf⟩ := tw_bdE hf
          refine gw_iget (ci := 0) (k := 1) (T := TX1) C hP rfl in_X1 (by decide) e7 q391 rfl dX1_feed_107 (fun hP => ?_)
          refine lv_bipush (v := (20 : Int32)) hx hb dX1_feed_110 (by decide) ?_
          refine lv_iadd hx hb dX1_feed_112 ?_
          obtain ⟨x8, t9, e10, hf⟩ := tw_bdE hf
          refine gw_vput (ci := 0) (k := 1) (T := TX1) C hP hS rfl in_X1 tyX1 tyX1_ok nmX1 (by decide) e10 q391 rfl rfl (vp_nar_int _) rfl dX1_feed_113 (fun H locs hP hS => ?_)
          refine lv_aload_n hx hb dX1_feed_116 rfl (lv_at hl 0 rfl) ?_
          obtain ⟨x11, t12, e13, hf⟩ := tw_bdE hf
          refine gw_iget (ci := 0) (k := 1) (T := TX1) C hP rfl in_X1 (by decide) e13 q391 rfl dX1_feed_117 (fun hP => ?_)
          exact gw_ireti (tw_rtE hf).1 (tw_rtE hf).2 rfl rfl C hr hP hS hlk dX1_feed_120
        · have hf := tw_ifF hc hf
          refine lv_iload hx hb dX1_feed_25 (lv_at hl 6 rfl) ?_
          refine lv_iconst (v := (4 : Int32)) hx hb dX1_feed_27 (by decide) ?_
          have k71 : ∀ (w71_0 : Int32) (t14 : Hp) (H : Heap) (locs : List Loc) (ls : Array Slot), gw_P K t14 H → va_S K.2.2.2.1 s.heap H locs → lv_has ls 8 [(0, .ref a0), (1, .int a1), (2, .int a2), (3, .int a3), (4, .int a4), (5, .int a5), (6, .int v18_6)] → fx_X1_feed_J71 a0 v18_6 sf18 w71_0 t14 = some (r, tZ) → W p l e (headSpec (ws_ yX1_feed cX1_feed 8 (some (.int))) ({ frames := 2, cells := 0, slots := 0, locals := 12 })).room s m ([.ref a0, .int a1, .int a2, .int a3, .int a4, .int a5] : List Value).toArray below meth c H locs 0 0 (MQ below (gw_Qi K r tZ) ([.ref a0, .int a1, .int a2, .int a3, .int a4, .int a5] : List Value).toArray s 0 0 K.2.2.2.1) (F0 m 71 ls [.int w71_0]) := by
            intro w71_0 t14 H locs ls hP hS hl hf
            unfold fx_X1_feed_J71 at hf
            refine lv_istore (lv' := [(7, .int w71_0), (0, .ref a0), (1, .int a1), (2, .int a2), (3, .int a3), (4, .int a4), (5, .int a5), (6, .int v18_6)]) hx hb dX1_feed_71 hl (by decide) rfl (fun ls hl => ?_)
            refine lv_aload_n hx hb dX1_feed_73 rfl (lv_at hl 1 rfl) ?_
            obtain ⟨x15, t16, e17, hf⟩ := tw_bdE hf
            refine gw_rget (ci := 0) (k := 0) (T := TX1) C hP rfl in_X1 (by decide) e17 q389 rfl dX1_feed_74 (fun hP => ?_)
            refine lv_aload_n hx hb dX1_feed_77 rfl (lv_at hl 1 rfl) ?_
            obtain ⟨x18, t19, e20, hf⟩ := tw_bdE hf
            refine gw_iget (ci := 0) (k := 1) (T := TX1) C hP rfl in_X1 (by decide) e20 q391 rfl dX1_feed_78 (fun hP => ?_)
            refine lv_iload hx hb dX1_feed_81 (lv_at hl 7 rfl) ?_
            refine lv_iadd hx hb dX1_feed_83 ?_
            refine lv_iload hx hb dX1_feed_84 (lv_at hl 0 rfl) ?_
            refine lv_bipush (v := (24 : Int32)) hx hb dX1_feed_86 (by decide) ?_
            refine lv_bipush (v := (8 : Int32)) hx hb dX1_feed_88 (by decide) ?_
            refine lv_iload hx hb dX1_feed_90 (lv_at hl 7 rfl) ?_
            refine lv_iconst (v := (4 : Int32)) hx hb dX1_feed_92 (by decide) ?_
            obtain ⟨w21, t22, e23, hf⟩ := tw_bdE hf
            rw [← (tw_nzE e23).2] at hf
            refine lv_irem hx hb dX1_feed_93 (tw_nzE e23).1 ?_
            refine lv_imul hx hb dX1_feed_94 ?_
            refine lv_isub hx hb dX1_feed_95 ?_
            refine lv_ishr hx hb dX1_feed_96 ?_
            refine lv_i2b hx hb dX1_feed_97 rfl ?_
            obtain ⟨x24, t25, e26, hf⟩ := tw_bdE hf
            refine gw_bast C hP hS e26 dX1_feed_98 (fun H locs hP hS => ?_)
            refine lv_iinc (v := (v18_6 + (1 : Int32))) (lv' := [(6, .int (v18_6 + (1 : Int32))), (7, .int w71_0), (0, .ref a0), (1, .int a1), (2, .int a2), (3, .int a3), (4, .int a4), (5, .int a5)]) hx hb dX1_feed_99 hl (k := 7) rfl rfl (by decide) rfl (fun ls hl => ?_)
            refine lv_goto (tgt := 18) hx hb dX1_feed_102 (by decide) ?_
            exact ih18 _ _ _ _ _ hP hS (lv_sub hl [2, 3, 4, 5, 6, 7, 0] rfl) hf
          refine lv_icmp_ge (tgt := 35) hx hb dX1_feed_28 (by decide) (fun hc => ?_) (fun hc => ?_)
          · have hf := tw_ifT hc hf
            refine lv_iload hx hb dX1_feed_35 (lv_at hl 6 rfl) ?_
            refine lv_bipush (v := (8 : Int32)) hx hb dX1_feed_37 (by decide) ?_
            refine lv_icmp_ge (tgt := 46) hx hb dX1_feed_39 (by decide) (fun hc => ?_) (fun hc => ?_)
            · have hf := tw_ifT hc hf
              refine lv_iload hx hb dX1_feed_46 (lv_at hl 6 rfl) ?_
              refine lv_bipush (v := (12 : Int32)) hx hb dX1_feed_48 (by decide) ?_
              refine lv_icmp_ge (tgt := 57) hx hb dX1_feed_50 (by decide) (fun hc => ?_) (fun hc => ?_)
              · have hf := tw_ifT hc hf
                refine lv_iload hx hb dX1_feed_57 (lv_at hl 6 rfl) ?_
                refine lv_bipush (v := (16 : Int32)) hx hb dX1_feed_59 (by decide) ?_
                refine lv_icmp_ge (tgt := 69) hx hb dX1_feed_61 (by decide) (fun hc => ?_) (fun hc => ?_)
                · have hf := tw_ifT hc hf
                  refine lv_iload hx hb dX1_feed_69 (lv_at hl 5 rfl) ?_
                  exact k71 _ _ _ _ _ hP hS (lv_sub hl [0, 1, 2, 3, 4, 5, 6] rfl) hf
                · have hf := tw_ifF hc hf
                  refine lv_iload hx hb dX1_feed_64 (lv_at hl 4 rfl) ?_
                  refine lv_goto (tgt := 71) hx hb dX1_feed_66 (by decide) ?_
                  exact k71 _ _ _ _ _ hP hS (lv_sub hl [0, 1, 2, 3, 4, 5, 6] rfl) hf
              · have hf := tw_ifF hc hf
                refine lv_iload_n hx hb dX1_feed_53 rfl (lv_at hl 3 rfl) ?_
                refine lv_goto (tgt := 71) hx hb dX1_feed_54 (by decide) ?_
                exact k71 _ _ _ _ _ hP hS (lv_sub hl [0, 1, 2, 3, 4, 5, 6] rfl) hf
            · have hf := tw_ifF hc hf
              refine lv_iload_n hx hb dX1_feed_42 rfl (lv_at hl 2 rfl) ?_
              refine lv_goto (tgt := 71) hx hb dX1_feed_43 (by decide) ?_
              exact k71 _ _ _ _ _ hP hS (lv_sub hl [0, 1, 2, 3, 4, 5, 6] rfl) hf
          · have hf := tw_ifF hc hf
            refine lv_iload_n hx hb dX1_feed_31 rfl (lv_at hl 1 rfl) ?_
            refine lv_goto (tgt := 71) hx hb dX1_feed_32 (by decide) ?_
            exact k71 _ _ _ _ _ hP hS (lv_sub hl [0, 1, 2, 3, 4, 5, 6] rfl) hf
    exact k18 _ _ _ _ _ _ hP hS (lv_sub hl [1, 2, 3, 4, 5, 6, 0] rfl) hf
  · have hf := tw_ifF hc hf
    refine lv_iconst (v := (-1 : Int32)) hx hb dX1_feed_13 (by decide) ?_
    exact gw_ireti (tw_rtE hf).1 (tw_rtE hf).2 rfl rfl C hr hP hS hlk dX1_feed_14
def fx_X1_feedback_J22  (w22_0 : Int32) : gM Int32 :=
  gw_rc w22_0
def fx_X1_feedback (a0 : Nat) (a1 : Int32) : gM Int32 :=
  gw_bc (gw_on 0 a0 (fx_X1_isLink a0 a1)) fun x1 =>
  if x1 = 0 then (fx_X1_feedback_J22 (-2147483648 : Int32))
  else (gw_b0 (gw_gr 0 11 a0) fun x5 =>
  gw_b0 (gw_on 2 x5 (fx_X3_feedback x5 a1)) fun x8 =>
 
  fx_X1_feedback_J22 x8)
theorem hdX1_feedback : yX1_feedback.cls = "LosslessFabric" ∧ (yX1_feedback.cls ≠ "java/lang/invoke/MethodHandle" ∧ yX1_feedback.cls ≠ "java/lang/invoke/VarHandle" ∧ (parseMethodDescriptor yX1_feedback.desc).map (fun d => d.parameters.length) = some 1) := by decide +kernel
set_option maxHeartbeats 4000000 in
theorem mx_X1_feedback {l : Launch} {K : GK} (hA : gw_A K) (a0 : Nat) (a1 : Int32) (t0 tZ : Hp) (r : Int32) (C0 S0 : Nat) (hf : fx_X1_feedback a0 a1 t0 = some (r, tZ, C0, S0)) : Met l yX1_feedback (ws_ yX1_feedback cX1_feedback 2 (some (.int))) ({ frames := 4, cells := C0, slots := S0, locals := 60 }) (va_Pc [.ref a0, .int a1] (gw_W K t0)) (gw_Qi K r tZ) C0 S0 K.2.2.2.1 := by
  refine Met.ofW (cc := cX1_feedback) (maxL := 2) (ret := some (.int)) (by decide) rfl ?_
  intro p e s m args below meth c s₁ B hml hv
  obtain ⟨rfl, hP, hK, hX, hN, hL⟩ := hv
  have hx := B.exec
  have hb := B.bytes
  have hr := B.returns
  have hts := atoms_spec (ws := (ws_ yX1_feedback cX1_feedback 2 (some (.int)))) B.pre
  have hts : ∀ w ∈ lw_all, w.before _ s = true := fun w h => hts w (List.mem_cons_of_mem _ h)
  have hown : s.vm.findClass "LosslessFabric" = some m.cls := findClass_of_methodNamed B.named
  have hlk := B.notSynchronized
  have C : gw_C K "LosslessFabric" p s m _ c cX1_feedback := ⟨hx, hb, hts, hown, hK, hA, hX, hN, hL⟩
  have hk : 0 + C0 = C0 := Nat.zero_add _
  have hn : 0 + S0 = S0 := Nat.zero_add _
  have hS : va_S K.2.2.2.1 s.heap s.heap [] := va_S.rf
  have hl := lv_entry ([.ref a0, .int a1]) (n := 2) (Nat.le_of_ble_eq_true rfl)
  rw [lg_entry_eq]
  generalize (lg_sl ([.ref a0, .int a1]) ++ List.replicate (2 - (lg_sl ([.ref a0, .int a1])).length) Slot.unset).toArray = ls at hl ⊢
  have hl : lv_has ls 2 [(0, .ref a0), (1, .int a1)] := hl
  unfold fx_X1_feedback at hf
  refine lv_aload_n hx hb dX1_feedback_0 rfl (lv_at hl 0 rfl) ?_
  refine lv_iload_n hx hb dX1_feedback_1 rfl (lv_at hl 1 rfl) ?_
  obtain ⟨x1, t2, c2, s2, C2, S2, e3, hf, hk, hn⟩ := gw_bcE hf hk hn
  refine gw_cVi (As := [.int a1]) (rest := []) (ci := 0) (T := TX1) (N := 18) C hml hP hS rfl (gw_onE e3).1 (mx_X1_isLink (l := l) (K := K) hA _ _ _ _ _ _ _ (gw_onE e3).2) (cwV 1 hts (lw_V q968 q970 qs22 q101 q971) rfl rfl rfl hdX1_isLink ⟨Nat.le_of_ble_eq_true rfl, Nat.le_of_ble_eq_true rfl⟩) rfl hl.1 rfl (Nat.le_of_ble_eq_true rfl) (Nat.le.intro hk) (Nat.le.intro hn) dX1_feedback_2 (fun H locs hP hS => ?_)
  have k22 : ∀ (w22_0 : Int32) (t4 : Hp) (k4 n4 C4 S4 : Nat) (H : Heap) (locs : List Loc) (ls : Array Slot), gw_P K t4 H → va_S K.2.2.2.1 s.heap H locs → k4 + C4 = C0 → n4 + S4 = S0 → lv_has ls 2 [] → fx_X1_feedback_J22 w22_0 t4 = some (r, tZ, C4, S4) → W p l e (headSpec (ws_ yX1_feedback cX1_feedback 2 (some (.int))) ({ frames := 4, cells := C0, slots := S0, locals := 60 })).room s m ([.ref a0, .int a1] : List Value).toArray below meth c H locs k4 n4 (MQ below (gw_Qi K r tZ) ([.ref a0, .int a1] : List Value).toArray s C0 S0 K.2.2.2.1) (F0 m 22 ls [.int w22_0]) := by
    intro w22_0 t4 k4 n4 C4 S4 H locs ls hP hS hk hn hl hf
    unfold fx_X1_feedback_J22 at hf
    obtain ⟨h1, h2, h3, h4⟩ := gw_rcE hf hk hn
    exact gw_ireti h1 h2 h3 h4 C hr hP hS hlk dX1_feedback_22
  refine lv_if_eq (tgt := 19) hx hb dX1_feedback_5 (by decide) (fun hc => ?_) (fun hc => ?_)
  · have hf := tw_ifT hc hf
    refine lv_ldcw hx hb hown (hts _ q998) dX1_feedback_19 ?_
    exact k22 _ _ _ _ _ _ _ _ _ hP hS hk hn (lv_sub hl [] rfl) hf
  · have hf := tw_ifF hc hf
    refine lv_aload_n hx hb dX1_feedback_8 rfl (lv_at hl 0 rfl) ?_
    obtain ⟨x5, t6, e7, hf⟩ := gw_b0E hf
    refine gw_rget (ci := 0) (k := 11) (T := TX1) C hP rfl in_X1 (by decide) e7 q404 rfl dX1_feedback_9 (fun hP => ?_)
    refine lv_iload_n hx hb dX1_feedback_12 rfl (lv_at hl 1 rfl) ?_
    obtain ⟨x8, t9, e10, hf⟩ := gw_b0E hf
    refine gw_cVi (As := [.int a1]) (rest := []) (ci := 2) (T := TX3) (N := 4) C hml hP hS rfl (gw_onE e10).1 (mx_X3_feedback (l := l) (K := K) hA _ _ _ _ _ (gw_onE e10).2) (cwV 1 hts (lw_V q897 q898 q899 q103 q900) rfl rfl rfl hdX3_feedback ⟨Nat.le_of_ble_eq_true rfl, Nat.le_of_ble_eq_true rfl⟩) rfl hl.1 rfl (Nat.le_of_ble_eq_true rfl) (Nat.le.intro hk) (Nat.le.intro hn) dX1_feedback_13 (fun H locs hP hS => ?_)
    refine lv_goto (tgt := 22) hx hb dX1_feedback_16 (by decide) ?_
    exact k22 _ _ _ _ _ _ _ _ _ hP hS hk hn (lv_sub hl [] rfl) hf