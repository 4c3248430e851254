def fx_X4_like (a0 : Nat) (a1 : Nat) : HM Unit :=
  tw_bd (gw_gr 3 0 a1) fun x1 =>
  tw_bd (gw_gr 3 0 a0) fun x4 =>
  tw_bd (gw_ci x1 (0 : Int32) x4 (0 : Int32) (8 : Int32)) fun _ =>
  tw_bd (gw_gi 3 1 a1) fun x10 =>
  tw_bd (gw_pi 3 1 a0 x10) fun _ =>
  tw_bd (gw_gi 3 2 a1) fun x16 =>
  tw_bd (gw_pi 3 2 a0 x16) fun _ =>
  tw_bd (gw_gi 3 3 a1) fun x22 =>
  tw_bd (gw_pi 3 3 a0 x22) fun _ =>
  tw_bd (gw_gi 3 4 a1) fun x28 =>
  tw_bd (gw_pi 3 4 a0 x28) fun _ =>
  tw_bd (gw_gi 3 5 a1) fun x34 =>
  tw_bd (gw_pi 3 5 a0 x34) fun _ =>
  tw_bd (gw_gi 3 6 a1) fun x40 =>
  tw_bd (gw_pi 3 6 a0 x40) fun _ =>
  tw_bd (gw_gi 3 7 a1) fun x46 =>
  tw_bd (gw_pi 3 7 a0 x46) fun _ =>
  tw_bd (gw_gi 3 8 a1) fun x52 =>
  tw_bd (gw_pi 3 8 a0 x52) fun _ =>
  tw_bd (gw_gi 3 9 a1) fun x58 =>
  tw_bd (gw_pi 3 9 a0 x58) fun _ =>
  tw_bd (gw_gi 3 10 a1) fun x64 =>
  tw_bd (gw_pi 3 10 a0 x64) fun _ =>
  tw_bd (gw_gi 3 11 a1) fun x70 =>
  tw_bd (gw_pi 3 11 a0 x70) fun _ =>
  tw_rt ()
theorem hdX4_like : yX4_like.cls = "LosslessFabric$End" ∧ (yX4_like.cls ≠ "java/lang/invoke/MethodHandle" ∧ yX4_like.cls ≠ "java/lang/invoke/VarHandle" ∧ (parseMethodDescriptor yX4_like.desc).map (fun d => d.parameters.length) = some 1) := by decide +kernel
set_option maxHeartbeats 4000000 in
theorem mx_X4_like {l : Launch} {K : GK} (hA : gw_A K) (a0 : Nat) (a1 : Nat) (t0 tZ : Hp) (r : Unit) (hf : fx_X4_like a0 a1 t0 = some (r, tZ)) : Met l yX4_like (ws_ yX4_like cX4_like 2 (none)) ({ frames := 2, cells := 0, slots := 0, locals := 60 }) (va_Pc [.ref a0, .ref a1] (gw_W K t0)) (gw_Qv K tZ) 0 0 K.2.2.2.1 := by
  refine Met.ofW (cc := cX4_like) (maxL := 2) (ret := none) (by decide) rfl ?_
  intro p e s m args below meth c s₁ B hml hv
  obtain ⟨rfl, hP, hK, hX, hN, hL⟩ := hv
  have hx := B.exec
  have hb := B.bytes
  have hr := B.returns
  have hts := atoms_spec (ws := (ws_ yX4_like cX4_like 2 (none))) B.pre
  have hts : ∀ w ∈ lw_all, w.before _ s = true := fun w h => hts w (List.mem_cons_of_mem _ h)
  have hown : s.vm.findClass "LosslessFabric$End" = some m.cls := findClass_of_methodNamed B.named
  have hlk := B.notSynchronized
  have C : gw_C K "LosslessFabric$End" p s m _ c cX4_like := ⟨hx, hb, hts, hown, hK, hA, hX, hN, hL⟩
  have hS : va_S K.2.2.2.1 s.heap s.heap [] := va_S.rf
  have hl := lv_entry ([.ref a0, .ref a1]) (n := 2) (Nat.le_of_ble_eq_true rfl)
  rw [lg_entry_eq]
  generalize (lg_sl ([.ref a0, .ref a1]) ++ List.replicate (2 - (lg_sl ([.ref a0, .ref a1])).length) Slot.unset).toArray = ls at hl ⊢
  have hl : lv_has ls 2 [(0, .ref a0), (1, .ref a1)] := hl
  unfold fx_X4_like at hf
  refine lv_aload_n hx hb dX4_like_0 rfl (lv_at hl 1 rfl) ?_
  obtain ⟨x1, t2, e3, hf⟩ := tw_bdE hf
  refine gw_rget (ci := 3) (k := 0) (T := TX4) C hP rfl in_X4 (by decide) e3 q238 rfl dX4_like_1 (fun hP => ?_)
  refine lv_iconst (v := (0 : Int32)) hx hb dX4_like_4 (by decide) ?_
  refine lv_aload_n hx hb dX4_like_5 rfl (lv_at hl 0 rfl) ?_
  obtain ⟨x4, t5, e6, hf⟩ := tw_bdE hf
  refine gw_rget (ci := 3) (k := 0) (T := TX4) C hP rfl in_X4 (by decide) e6 q238 rfl dX4_like_6 (fun hP => ?_)
  refine lv_iconst (v := (0 : Int32)) hx hb dX4_like_9 (by decide) ?_
  refine lv_bipush (v := (8 : Int32)) hx hb dX4_like_10 (by decide) ?_
  obtain ⟨x7, t8, e9, hf⟩ := tw_bdE hf
  refine gw_copyi (rest := []) C (hml.trans hl.1.symm) hP hS e9 q827 q829 q828 q119 (Nat.le_of_ble_eq_true rfl) (Nat.le_of_ble_eq_true rfl) dX4_like_12 (fun H locs hP hS => ?_)
  refine lv_aload_n hx hb dX4_like_15 rfl (lv_at hl 0 rfl) ?_
  refine lv_aload_n hx hb dX4_like_16 rfl (lv_at hl 1 rfl) ?_
  obtain ⟨x10, t11, e12, hf⟩ := tw_bdE hf
  refine gw_iget (ci := 3) (k := 1) (T := TX4) C hP rfl in_X4 (by decide) e12 q241 rfl dX4_like_17 (fun hP => ?_)
  obtain ⟨x13, t14, e15, hf⟩ := tw_bdE hf
  refine gw_vput (ci := 3) (k := 1) (T := TX4) C hP hS rfl in_X4 tyX4 tyX4_ok nmX4 (by decide) e15 q241 rfl rfl (vp_nar_int _) rfl dX4_like_20 (fun H locs hP hS => ?_)
  refine lv_aload_n hx hb dX4_like_23 rfl (lv_at hl 0 rfl) ?_
  refine lv_aload_n hx hb dX4_like_24 rfl (lv_at hl 1 rfl) ?_
  obtain ⟨x16, t17, e18, hf⟩ := tw_bdE hf
  refine gw_iget (ci := 3) (k := 2) (T := TX4) C hP rfl in_X4 (by decide) e18 q243 rfl dX4_like_25 (fun hP => ?_)
  obtain ⟨x19, t20, e21, hf⟩ := tw_bdE hf
  refine gw_vput (ci := 3) (k := 2) (T := TX4) C hP hS rfl in_X4 tyX4 tyX4_ok nmX4 (by decide) e21 q243 rfl rfl (vp_nar_int _) rfl dX4_like_28 (fun H locs hP hS => ?_)
  refine lv_aload_n hx hb dX4_like_31 rfl (lv_at hl 0 rfl) ?_
  refine lv_aload_n hx hb dX4_like_32 rfl (lv_at hl 1 rfl) ?_
  obtain ⟨x22, t23, e24, hf⟩ := tw_bdE hf
  refine gw_iget (ci := 3) (k := 3) (T := TX4) C hP rfl in_X4 (by decide) e24 q245 rfl dX4_like_33 (fun hP => ?_)
  obtain ⟨x25, t26, e27, hf⟩ := tw_bdE hf
  refine gw_vput (ci := 3) (k := 3) (T := TX4) C hP hS rfl in_X4 tyX4 tyX4_ok nmX4 (by decide) e27 q245 rfl rfl (vp_nar_int _) rfl dX4_like_36 (fun H locs hP hS => ?_)
  refine lv_aload_n hx hb dX4_like_39 rfl (lv_at hl 0 rfl) ?_
  refine lv_aload_n hx hb dX4_like_40 rfl (lv_at hl 1 rfl) ?_
  obtain ⟨x28, t29, e30, hf⟩ := tw_bdE hf
  refine gw_iget (ci := 3) (k := 4) (T := TX4) C hP rfl in_X4 (by decide) e30 q247 rfl dX4_like_41 (fun hP => ?_)
  obtain ⟨x31, t32, e33, hf⟩ := tw_bdE hf
  refine gw_vput (ci := 3) (k := 4) (T := TX4) C hP hS rfl in_X4 tyX4 tyX4_ok nmX4 (by decide) e33 q247 rfl rfl (vp_nar_int _) rfl dX4_like_44 (fun H locs hP hS => ?_)
  refine lv_aload_n hx hb dX4_like_47 rfl (lv_at hl 0 rfl) ?_
  refine lv_aload_n hx hb dX4_like_48 rfl (lv_at hl 1 rfl) ?_
  obtain ⟨x34, t35, e36, hf⟩ := tw_bdE hf
  refine gw_iget (ci := 3) (k := 5) (T := TX4) C hP rfl in_X4 (by decide) e36 q250 rfl dX4_like_49 (fun hP => ?_)
  obtain ⟨x37, t38, e39, hf⟩ := tw_bdE hf
  refine gw_vput (ci := 3) (k := 5) (T := TX4) C hP hS rfl in_X4 tyX4 tyX4_ok nmX4 (by decide) e39 q250 rfl rfl (vp_nar_int _) rfl dX4_like_52 (fun H locs hP hS => ?_)
  refine lv_aload_n hx hb dX4_like_55 rfl (lv_at hl 0 rfl) ?_
  refine lv_aload_n hx hb dX4_like_56 rfl (lv_at hl 1 rfl) ?_
  obtain ⟨x40, t41, e42, hf⟩ := tw_bdE hf
  refine gw_iget (ci := 3) (k := 6) (T := TX4) C hP rfl in_X4 (by decide) e42 q252 rfl dX4_like_57 (fun hP => ?_)
  obtain ⟨x43, t44, e45, hf⟩ := tw_bdE hf
  refine gw_vput (ci := 3) (k := 6) (T := TX4) C hP hS rfl in_X4 tyX4 tyX4_ok nmX4 (by decide) e45 q252 rfl rfl (vp_nar_int _) rfl dX4_like_60 (fun H locs hP hS => ?_)
  refine lv_aload_n hx hb dX4_like_63 rfl (lv_at hl 0 rfl) ?_
  refine lv_aload_n hx hb dX4_like_64 rfl (lv_at hl 1 rfl) ?_
  obtain ⟨x46, t47, e48, hf⟩ := tw_bdE hf
  refine gw_iget (ci := 3) (k := 7) (T := TX4) C hP rfl in_X4 (by decide) e48 q254 rfl dX4_like_65 (fun hP => ?_)
  obtain ⟨x49, t50, e51, hf⟩ := tw_bdE hf
  refine gw_vput (ci := 3) (k := 7) (T := TX4) C hP hS rfl in_X4 tyX4 tyX4_ok nmX4 (by decide) e51 q254 rfl rfl (vp_nar_int _) rfl dX4_like_68 (fun H locs hP hS => ?_)
  refine lv_aload_n hx hb dX4_like_71 rfl (lv_at hl 0 rfl) ?_
  refine lv_aload_n hx hb dX4_like_72 rfl (lv_at hl 1 rfl) ?_
  obtain ⟨x52, t53, e54, hf⟩ := tw_bdE hf
  refine gw_iget (ci := 3) (k := 8) (T := TX4) C hP rfl in_X4 (by decide) e54 q256 rfl dX4_like_73 (fun hP => ?_)
  obtain ⟨x55, t56, e57, hf⟩ := tw_bdE hf
  refine gw_vput (ci := 3) (k := 8) (T := TX4) C hP hS rfl in_X4 tyX4 tyX4_ok nmX4 (by decide) e57 q256 rfl rfl (vp_nar_int _) rfl dX4_like_76 (fun H locs hP hS => ?_)
  refine lv_aload_n hx hb dX4_like_79 rfl (lv_at hl 0 rfl) ?_
  refine lv_aload_n hx hb dX4_like_80 rfl (lv_at hl 1 rfl) ?_
  obtain ⟨x58, t59, e60, hf⟩ := tw_bdE hf
  refine gw_iget (ci := 3) (k := 9) (T := TX4) C hP rfl in_X4 (by decide) e60 q258 rfl dX4_like_81 (fun hP => ?_)
  obtain ⟨x61, t62, e63, hf⟩ := tw_bdE hf
  refine gw_vput (ci := 3) (k := 9) (T := TX4) C hP hS rfl in_X4 tyX4 tyX4_ok nmX4 (by decide) e63 q258 rfl rfl (vp_nar_int _) rfl dX4_like_84 (fun H locs hP hS => ?_)
  refine lv_aload_n hx hb dX4_like_87 rfl (lv_at hl 0 rfl) ?_
  refine lv_aload_n hx hb dX4_like_88 rfl (lv_at hl 1 rfl) ?_
  obtain ⟨x64, t65, e66, hf⟩ := tw_bdE hf
  refine gw_iget (ci := 3) (k := 10) (T := TX4) C hP rfl in_X4 (by decide) e66 q260 rfl dX4_like_89 (fun hP => ?_)
  obtain ⟨x67, t68, e69, hf⟩ := tw_bdE hf
  refine gw_vput (ci := 3) (k := 10) (T := TX4) C hP hS rfl in_X4 tyX4 tyX4_ok nmX4 (by decide) e69 q260 rfl rfl (vp_nar_int _) rfl dX4_like_92 (fun H locs hP hS => ?_)
  refine lv_aload_n hx hb dX4_like_95 rfl (lv_at hl 0 rfl) ?_
  refine lv_aload_n hx hb dX4_like_96 rfl (lv_at hl 1 rfl) ?_
  obtain ⟨x70, t71, e72, hf⟩ := tw_bdE hf
  refine gw_iget (ci := 3) (k := 11) (T := TX4) C hP rfl in_X4 (by decide) e72 q262 rfl dX4_like_97 (fun hP => ?_)
  obtain ⟨x73, t74, e75, hf⟩ := tw_bdE hf
  refine gw_vput (ci := 3) (k := 11) (T := TX4) C hP hS rfl in_X4 tyX4 tyX4_ok nmX4 (by decide) e75 q262 rfl rfl (vp_nar_int _) rfl dX4_like_100 (fun H locs hP hS => ?_)
  exact gw_iretv (tw_rtE hf).2 rfl rfl C hr hP hS hlk dX4_like_103
def fx_X5_like (a0 : Nat) (a1 : Nat) : HM Unit :=
  tw_bd (gw_gi 4 0 a1) fun x1 =>
  tw_bd (gw_pi 4 0 a0 x1) fun _ =>
  tw_bd (gw_gi 4 1 a1) fun x7 =>
  tw_bd (gw_pi 4 1 a0 x7) fun _ =>
  tw_bd (gw_gi 4 2 a1) fun x13 =>
  tw_bd (gw_pi 4 2 a0 x13) fun _ =>
  tw_bd (gw_gi 4 3 a1) fun x19 =>
  tw_bd (gw_pi 4 3 a0 x19) fun _ =>
  tw_bd (gw_gi 4 4 a1) fun x25 =>
  tw_bd (gw_pi 4 4 a0 x25) fun _ =>
  tw_bd (gw_gi 4 5 a1) fun x31 =>
  tw_bd (gw_pi 4 5 a0 x31) fun _ =>
  tw_bd (gw_gi 4 6 a1) fun x37 =>
  tw_bd (gw_pi 4 6 a0 x37) fun _ =>
  tw_bd (gw_gi 4 7 a1) fun x43 =>
  tw_bd (gw_pi 4 7 a0 x43) fun _ =>
  tw_bd (gw_gi 4 8 a1) fun x49 =>
  tw_bd (gw_pi 4 8 a0 x49) fun _ =>
  tw_bd (gw_gr 4 10 a0) fun x55 =>
  tw_bd (gw_gr 4 10 a1) fun x58 =>
  tw_bd (gw_ld 0 x58 (0 : Int32)) fun x61 =>
  tw_bd (gw_st x55 (0 : Int32) x61) fun _ =>
  tw_bd (gw_gr 4 10 a0) fun x67 =>
  tw_bd (gw_gr 4 10 a1) fun x70 =>
  tw_bd (gw_ld 0 x70 (1 : Int32)) fun x73 =>
  tw_bd (gw_st x67 (1 : Int32) x73) fun _ =>
  tw_bd (gw_gi 4 11 a1) fun x79 =>
  tw_bd (gw_pz 4 11 a0 x79) fun _ =>
  tw_rt ()
theorem hdX5_like : yX5_like.cls = "LosslessFabric$Sender" ∧ (yX5_like.cls ≠ "java/lang/invoke/MethodHandle" ∧ yX5_like.cls ≠ "java/lang/invoke/VarHandle" ∧ (parseMethodDescriptor yX5_like.desc).map (fun d => d.parameters.length) = some 1) := by decide +kernel
set_option maxHeartbeats 4000000 in
theorem mx_X5_like {l : Launch} {K : GK} (hA : gw_A K) (a0 : Nat) (a1 : Nat) (t0 tZ : Hp) (r : Unit) (hf : fx_X5_like a0 a1 t0 = some (r, tZ)) : Met l yX5_like (ws_ yX5_like cX5_like 2 (none)) ({ frames := 2, cells := 0, slots := 0, locals := 12 }) (va_Pc [.ref a0, .ref a1] (gw_W K t0)) (gw_Qv K tZ) 0 0 K.2.2.2.1 := by
  refine Met.ofW (cc := cX5_like) (maxL := 2) (ret := none) (by decide) rfl ?_
  intro p e s m args below meth c s₁ B hml hv
  obtain ⟨rfl, hP, hK, hX, hN, hL⟩ := hv
  have hx := B.exec
  have hb := B.bytes
  have hr := B.returns
  have hts := atoms_spec (ws := (ws_ yX5_like cX5_like 2 (none))) B.pre
  have hts : ∀ w ∈ lw_all, w.before _ s = true := fun w h => hts w (List.mem_cons_of_mem _ h)
  have hown : s.vm.findClass "LosslessFabric$Sender" = some m.cls := findClass_of_methodNamed B.named
  have hlk := B.notSynchronized
  have C : gw_C K "LosslessFabric$Sender" p s m _ c cX5_like := ⟨hx, hb, hts, hown, hK, hA, hX, hN, hL⟩
  have hS : va_S K.2.2.2.1 s.heap s.heap [] := va_S.rf
  have hl := lv_entry ([.ref a0, .ref a1]) (n := 2) (Nat.le_of_ble_eq_true rfl)
  rw [lg_entry_eq]
  generalize (lg_sl ([.ref a0, .ref a1]) ++ List.replicate (2 - (lg_sl ([.ref a0, .ref a1])).length) Slot.unset).toArray = ls at hl ⊢
  have hl : lv_has ls 2 [(0, .ref a0), (1, .ref a1)] := hl
  unfold fx_X5_like at hf
  refine lv_aload_n hx hb dX5_like_0 rfl (lv_at hl 0 rfl) ?_
  refine lv_aload_n hx hb dX5_like_1 rfl (lv_at hl 1 rfl) ?_
  obtain ⟨x1, t2, e3, hf⟩ := tw_bdE hf
  refine gw_iget (ci := 4) (k := 0) (T := TX5) C hP rfl in_X5 (by decide) e3 q296 rfl dX5_like_2 (fun hP => ?_)
  obtain ⟨x4, t5, e6, hf⟩ := tw_bdE hf
  refine gw_vput (ci := 4) (k := 0) (T := TX5) C hP hS rfl in_X5 tyX5 tyX5_ok nmX5 (by decide) e6 q296 rfl rfl (vp_nar_int _) rfl dX5_like_5 (fun H locs hP hS => ?_)
  refine lv_aload_n hx hb dX5_like_8 rfl (lv_at hl 0 rfl) ?_
  refine lv_aload_n hx hb dX5_like_9 rfl (lv_at hl 1 rfl) ?_
  obtain ⟨x7, t8, e9, hf⟩ := tw_bdE hf
  refine gw_iget (ci := 4) (k := 1) (T := TX5) C hP rfl in_X5 (by decide) e9 q298 rfl dX5_like_10 (fun hP => ?_)
  obtain ⟨x10, t11, e12, hf⟩ := tw_bdE hf
  refine gw_vput (ci := 4) (k := 1) (T := TX5) C hP hS rfl in_X5 tyX5 tyX5_ok nmX5 (by decide) e12 q298 rfl rfl (vp_nar_int _) rfl dX5_like_13 (fun H locs hP hS => ?_)
  refine lv_aload_n hx hb dX5_like_16 rfl (lv_at hl 0 rfl) ?_
  refine lv_aload_n hx hb dX5_like_17 rfl (lv_at hl 1 rfl) ?_
  obtain ⟨x13, t14, e15, hf⟩ := tw_bdE hf
  refine gw_iget (ci := 4) (k := 2) (T := TX5) C hP rfl in_X5 (by decide) e15 q300 rfl dX5_like_18 (fun hP => ?_)
  obtain ⟨x16, t17, e18, hf⟩ := tw_bdE hf
  refine gw_vput (ci := 4) (k := 2) (T := TX5) C hP hS rfl in_X5 tyX5 tyX5_ok nmX5 (by decide) e18 q300 rfl rfl (vp_nar_int _) rfl dX5_like_21 (fun H locs hP hS => ?_)
  refine lv_aload_n hx hb dX5_like_24 rfl (lv_at hl 0 rfl) ?_
  refine lv_aload_n hx hb dX5_like_25 rfl (lv_at hl 1 rfl) ?_
  obtain ⟨x19, t20, e21, hf⟩ := tw_bdE hf
  refine gw_iget (ci := 4) (k := 3) (T := TX5) C hP rfl in_X5 (by decide) e21 q303 rfl dX5_like_26 (fun hP => ?_)
  obtain ⟨x22, t23, e24, hf⟩ := tw_bdE hf
  refine gw_vput (ci := 4) (k := 3) (T := TX5) C hP hS rfl in_X5 tyX5 tyX5_ok nmX5 (by decide) e24 q303 rfl rfl (vp_nar_int _) rfl dX5_like_29 (fun H locs hP hS => ?_)
  refine lv_aload_n hx hb dX5_like_32 rfl (lv_at hl 0 rfl) ?_
  refine lv_aload_n hx hb dX5_like_33 rfl (lv_at hl 1 rfl) ?_
  obtain ⟨x25, t26, e27, hf⟩ := tw_bdE hf
  refine gw_iget (ci := 4) (k := 4) (T := TX5) C hP rfl in_X5 (by decide) e27 q306 rfl dX5_like_34 (fun hP => ?_)
  obtain ⟨x28, t29, e30, hf⟩ := tw_bdE hf
  refine gw_vput (ci := 4) (k := 4) (T := TX5) C hP hS rfl in_X5 tyX5 tyX5_ok nmX5 (by decide) e30 q306 rfl rfl (vp_nar_int _) rfl dX5_like_37 (fun H locs hP hS => ?_)
  refine lv_aload_n hx hb dX5_like_40 rfl (lv_at hl 0 rfl) ?_
  refine lv_aload_n hx hb dX5_like_41 rfl (lv_at hl 1 rfl) ?_
  obtain ⟨x31, t32, e33, hf⟩ := tw_bdE hf
  refine gw_iget (ci := 4) (k := 5) (T := TX5) C hP rfl in_X5 (by decide) e33 q309 rfl dX5_like_42 (fun hP => ?_)
  obtain ⟨x34, t35, e36, hf⟩ := tw_bdE hf
  refine gw_vput (ci := 4) (k := 5) (T := TX5) C hP hS rfl in_X5 tyX5 tyX5_ok nmX5 (by decide) e36 q309 rfl rfl (vp_nar_int _) rfl dX5_like_45 (fun H locs hP hS => ?_)
  refine lv_aload_n hx hb dX5_like_48 rfl (lv_at hl 0 rfl) ?_
  refine lv_aload_n hx hb dX5_like_49 rfl (lv_at hl 1 rfl) ?_
  obtain ⟨x37, t38, e39, hf⟩ := tw_bdE hf
  refine gw_iget (ci := 4) (k := 6) (T := TX5) C hP rfl in_X5 (by decide) e39 q312 rfl dX5_like_50 (fun hP => ?_)
  obtain ⟨x40, t41, e42, hf⟩ := tw_bdE hf
  refine gw_vput (ci := 4) (k := 6) (T := TX5) C hP hS rfl in_X5 tyX5 tyX5_ok nmX5 (by decide) e42 q312 rfl rfl (vp_nar_int _) rfl dX5_like_53 (fun H locs hP hS => ?_)
  refine lv_aload_n hx hb dX5_like_56 rfl (lv_at hl 0 rfl) ?_
  refine lv_aload_n hx hb dX5_like_57 rfl (lv_at hl 1 rfl) ?_
  obtain ⟨x43, t44, e45, hf⟩ := tw_bdE hf
  refine gw_iget (ci := 4) (k := 7) (T := TX5) C hP rfl in_X5 (by decide) e45 q315 rfl dX5_like_58 (fun hP => ?_)
  obtain ⟨x46, t47, e48, hf⟩ := tw_bdE hf
  refine gw_vput (ci := 4) (k := 7) (T := TX5) C hP hS rfl in_X5 tyX5 tyX5_ok nmX5 (by decide) e48 q315 rfl rfl (vp_nar_int _) rfl dX5_like_61 (fun H locs hP hS => ?_)
  refine lv_aload_n hx hb dX5_like_64 rfl (lv_at hl 0 rfl) ?_
  refine lv_aload_n hx hb dX5_like_65 rfl (lv_at hl 1 rfl) ?_
  obtain ⟨x49, t50, e51, hf⟩ := tw_bdE hf
  refine gw_iget (ci := 4) (k := 8) (T := TX5) C hP rfl in_X5 (by decide) e51 q317 rfl dX5_like_66 (fun hP => ?_)
  obtain ⟨x52, t53, e54, hf⟩ := tw_bdE hf
  refine gw_vput (ci := 4) (k := 8) (T := TX5) C hP hS rfl in_X5 tyX5 tyX5_ok nmX5 (by decide) e54 q317 rfl rfl (vp_nar_int _) rfl dX5_like_69 (fun H locs hP hS => ?_)
  refine lv_aload_n hx hb dX5_like_72 rfl (lv_at hl 0 rfl) ?_
  obtain ⟨x55, t56, e57, hf⟩ := tw_bdE hf
  refine gw_rget (ci := 4) (k := 10) (T := TX5) C hP rfl in_X5 (by decide) e57 q321 rfl dX5_like_73 (fun hP => ?_)
  refine lv_iconst (v := (0 : Int32)) hx hb dX5_like_76 (by decide) ?_
  refine lv_aload_n hx hb dX5_like_77 rfl (lv_at hl 1 rfl) ?_
  obtain ⟨x58, t59, e60, hf⟩ := tw_bdE hf
  refine gw_rget (ci := 4) (k := 10) (T := TX5) C hP rfl in_X5 (by decide) e60 q321 rfl dX5_like_78 (fun hP => ?_)
  refine lv_iconst (v := (0 : Int32)) hx hb dX5_like_81 (by decide) ?_
  obtain ⟨x61, t62, e63, hf⟩ := tw_bdE hf
  refine gw_iald C hP e63 dX5_like_82 (fun hP => ?_)
  obtain ⟨x64, t65, e66, hf⟩ := tw_bdE hf
  refine gw_iast C hP hS e66 dX5_like_83 (fun H locs hP hS => ?_)
  refine lv_aload_n hx hb dX5_like_84 rfl (lv_at hl 0 rfl) ?_
  obtain ⟨x67, t68, e69, hf⟩ := tw_bdE hf
  refine gw_rget (ci := 4) (k := 10) (T := TX5) C hP rfl in_X5 (by decide) e69 q321 rfl dX5_like_85 (fun hP => ?_)
  refine lv_iconst (v := (1 : Int32)) hx hb dX5_like_88 (by decide) ?_
  refine lv_aload_n hx hb dX5_like_89 rfl (lv_at hl 1 rfl) ?_
  obtain ⟨x70, t71, e72, hf⟩ := tw_bdE hf
  refine gw_rget (ci := 4) (k := 10) (T := TX5) C hP rfl in_X5 (by decide) e72 q321 rfl dX5_like_90 (fun hP => ?_)
  refine lv_iconst (v := (1 : Int32)) hx hb dX5_like_93 (by decide) ?_
  obtain ⟨x73, t74, e75, hf⟩ := tw_bdE hf
  refine gw_iald C hP e75 dX5_like_94 (fun hP => ?_)
  obtain ⟨x76, t77, e78, hf⟩ := tw_bdE hf
  refine gw_iast C hP hS e78 dX5_like_95 (fun H locs hP hS => ?_)
  refine lv_aload_n hx hb dX5_like_96 rfl (lv_at hl 0 rfl) ?_
  refine lv_aload_n hx hb dX5_like_97 rfl (lv_at hl 1 rfl) ?_
  obtain ⟨x79, t80, e81, hf⟩ := tw_bdE hf
  refine gw_iget (ci := 4) (k := 11) (T := TX5) C hP rfl in_X5 (by decide) e81 q324 rfl dX5_like_98 (fun hP => ?_)
  obtain ⟨x82, t83, e84, hf⟩ := tw_bdE hf
  refine gw_vput (ci := 4) (k := 11) (T := TX5) C hP hS rfl in_X5 tyX5 tyX5_ok nmX5 (by decide) (gw_pzE e84).2 q324 rfl rfl (gw_zn (gw_pzE e84).1) (gw_zf (gw_pzE e84).1) dX5_like_101 (fun H locs hP hS => ?_)
  exact gw_iretv (tw_rtE hf).2 rfl rfl C hr hP hS hlk dX5_like_104
def fx_X3_like_L52 (a0 : Nat) (a1 : Nat) (sf52 : Int32 → HM Nat) (v52_2 : Int32) : HM Nat :=
  tw_bd (gw_gr 2 0 a0) fun x21 =>
  tw_bd (gw_gi 1 3 x21) fun x24 =>
  if x24 ≤ v52_2 then (tw_rt a0)
  else (tw_bd (gw_gr 2 3 a0) fun x27 =>
  tw_bd (gw_lr 7 x27 v52_2) fun x30 =>
  tw_bd (gw_gr 2 3 a1) fun x33 =>
  tw_bd (gw_lr 7 x33 v52_2) fun x36 =>
  tw_bd (gw_on 4 x30 (fx_X5_like x30 x36)) fun _ =>
 
  sf52 (v52_2 + (1 : Int32)))
def fx_X3_like_L18 (a0 : Nat) (a1 : Nat) (sf18 : Int32 → HM Nat) (v18_2 : Int32) : HM Nat :=
  tw_bd (gw_gr 2 0 a0) fun x14 =>
  tw_bd (gw_gi 1 2 x14) fun x17 =>
  if x17 ≤ v18_2 then (tw_lp (fx_X3_like_L52 a0 a1) (fun _ _ => none) tw_fu (0 : Int32))
  else (tw_bd (gw_gr 2 2 a0) fun x42 =>
  tw_bd (gw_lr 6 x42 v18_2) fun x45 =>
  tw_bd (gw_gr 2 2 a1) fun x48 =>
  tw_bd (gw_lr 6 x48 v18_2) fun x51 =>
  tw_bd (gw_on 3 x45 (fx_X4_like x45 x51)) fun _ =>
 
  sf18 (v18_2 + (1 : Int32)))
def fx_X3_like (a0 : Nat) (a1 : Nat) : HM Nat :=
  tw_bd (gw_gr 2 0 a1) fun x1 =>
  tw_bd (gw_pr 2 0 a0 x1) fun _ =>
  tw_bd (gw_gi 2 1 a1) fun x7 =>
  tw_bd (gw_pi 2 1 a0 x7) fun _ =>
 
  tw_lp (fx_X3_like_L18 a0 a1) (fun _ _ => none) tw_fu (0 : Int32)
theorem hdX3_like : yX3_like.cls = "LosslessFabric$State" ∧ (yX3_like.cls ≠ "java/lang/invoke/MethodHandle" ∧ yX3_like.cls ≠ "java/lang/invoke/VarHandle" ∧ (parseMethodDescriptor yX3_like.desc).map (fun d => d.parameters.length) = some 1) := by decide +kernel
set_option maxHeartbeats 4000000 in
theorem mx_X3_like {l : Launch} {K : GK} (hA : gw_A K) (a0 : Nat) (a1 : Nat) (t0 tZ : Hp) (r : Nat) (hf : fx_X3_like a0 a1 t0 = some (r, tZ)) : Met l yX3_like (ws_ yX3_like cX3_like 3 (some (.object "LosslessFabric$State"))) ({ frames := 3, cells := 0, slots := 0, locals := 81 }) (va_Pc [.ref a0, .ref a1] (gw_W K t0)) (gw_Qr K r tZ) 0 0 K.2.2.2.1 := by
  refine Met.ofW (cc := cX3_like) (maxL := 3) (ret := some (.object "LosslessFabric$State")) (by decide) rfl ?_
  intro p e s m args below meth c s₁ B hml hv
  obtain ⟨rfl, hP, hK, hX, hN, hL⟩ := hv
  have hx := B.exec
  have hb := B.bytes
  have hr := B.returns
  have hts := atoms_spec (ws := (ws_ yX3_like cX3_like 3 (some (.object "LosslessFabric$State")))) B.pre
  have hts : ∀ w ∈ lw_all, w.before _ s = true := fun w h => hts w (List.mem_cons_of_mem _ h)
  have hown : s.vm.findClass "LosslessFabric$State" = some m.cls := findClass_of_methodNamed B.named
  have hlk := B.notSynchronized
  have C : gw_C K "LosslessFabric$State" p s m _ c cX3_like := ⟨hx, hb, hts, hown, hK, hA, hX, hN, hL⟩
  have hS : va_S K.2.2.2.1 s.heap s.heap [] := va_S.rf
  have hl := lv_entry ([.ref a0, .ref a1]) (n := 3) (Nat.le_of_ble_eq_true rfl)
  rw [lg_entry_eq]
  generalize (lg_sl ([.ref a0, .ref a1]) ++ List.replicate (3 - (lg_sl ([.ref a0, .ref a1])).length) Slot.unset).toArray = ls at hl ⊢
  have hl : lv_has ls 3 [(0, .ref a0), (1, .ref a1)] := hl
  unfold fx_X3_like at hf
  refine lv_aload_n hx hb dX3_like_0 rfl (lv_at hl 0 rfl) ?_
  refine lv_aload_n hx hb dX3_like_1 rfl (lv_at hl 1 rfl) ?_
  obtain ⟨x1, t2, e3, hf⟩ := tw_bdE hf
  refine gw_rget (ci := 2) (k := 0) (T := TX3) C hP rfl in_X3 (by decide) e3 q351 rfl dX3_like_2 (fun hP => ?_)
  obtain ⟨x4, t5, e6, hf⟩ := tw_bdE hf
  refine gw_vput (ci := 2) (k := 0) (T := TX3) C hP hS rfl in_X3 tyX3 tyX3_ok nmX3 (by decide) e6 q351 rfl rfl rfl rfl dX3_like_5 (fun H locs hP hS => ?_)
  refine lv_aload_n hx hb dX3_like_8 rfl (lv_at hl 0 rfl) ?_
  refine lv_aload_n hx hb dX3_like_9 rfl (lv_at hl 1 rfl) ?_
  obtain ⟨x7, t8, e9, hf⟩ := tw_bdE hf
  refine gw_iget (ci := 2) (k := 1) (T := TX3) C hP rfl in_X3 (by decide) e9 q352 rfl dX3_like_10 (fun hP => ?_)
  obtain ⟨x10, t11, e12, hf⟩ := tw_bdE hf
  refine gw_vput (ci := 2) (k := 1) (T := TX3) C hP hS rfl in_X3 tyX3 tyX3_ok nmX3 (by decide) e12 q352 rfl rfl (vp_nar_int _) rfl dX3_like_13 (fun H locs hP hS => ?_)
  refine lv_iconst (v := (0 : Int32)) hx hb dX3_like_16 (by decide) ?_
  refine lv_istore_n (lv' := [(2, .int (0 : Int32)), (0, .ref a0), (1, .ref a1)]) hx hb dX3_like_17 rfl hl (by decide) rfl (fun ls hl => ?_)
  have k18 : ∀ (n : Nat) (v18_2 : Int32) (t13 : Hp) (H : Heap) (locs : List Loc) (ls : Array Slot), gw_P K t13 H → va_S K.2.2.2.1 s.heap H locs → lv_has ls 3 [(0, .ref a0), (1, .ref a1), (2, .int v18_2)] → tw_lp (fx_X3_like_L18 a0 a1) (fun _ _ => none) n v18_2 t13 = some (r, tZ) → W p l e (headSpec (ws_ yX3_like cX3_like 3 (some (.object "LosslessFabric$State"))) ({ frames := 3, cells := 0, slots := 0, locals := 81 })).room s m ([.ref a0, .ref a1] : List Value).toArray below meth c H locs 0 0 (MQ below (gw_Qr K r tZ) ([.ref a0, .ref a1] : List Value).toArray s 0 0 K.2.2.2.1) (F0 m 18 ls []) := by
    intro n
    induction n with
    | zero => intro v18_2 t13 H locs ls hP hS hl hf; exact (tw_no hf).elim
    | succ n ih18 =>
      intro v18_2 t13 H locs ls hP hS hl hf
      obtain ⟨sf18, hs18⟩ : ∃ f, f = tw_lp (fx_X3_like_L18 a0 a1) (fun _ _ => none) n := ⟨_, rfl⟩
      rw [← hs18] at ih18
      have hf : fx_X3_like_L18 a0 a1 sf18 v18_2 t13 = some (r, tZ) := by rw [hs18]; exact hf
      clear hs18
      unfold fx_X3_like_L18 at hf
      refine lv_iload_n hx hb dX3_like_18 rfl (lv_at hl 2 rfl) ?_
      refine lv_aload_n hx hb dX3_like_19 rfl (lv_at hl 0 rfl) ?_
      obtain ⟨x14, t15, e16, hf⟩ := tw_bdE hf
      refine gw_rget (ci := 2) (k := 0) (T := TX3) C hP rfl in_X3 (by decide) e16 q351 rfl dX3_like_20 (fun hP => ?_)
      obtain ⟨x17, t18, e19, hf⟩ := tw_bdE hf
      refine gw_igetN (ci := 1) (k := 2) (T := TX2) C hP rfl in_X2 (by decide) e19 q157 rfl dX3_like_23 (fun hP => ?_)
      refine lv_icmp_ge (tgt := 50) hx hb dX3_like_26 (by decide) (fun hc => ?_) (fun hc => ?_)
      · have hf := tw_ifT hc hf
        refine lv_iconst (v := (0 : Int32)) hx hb dX3_like_50 (by decide) ?_
        refine lv_istore_n (lv' := [(2, .int (0 : Int32)), (0, .ref a0), (1, .ref a1)]) hx hb dX3_like_51 rfl hl (by decide) rfl (fun ls hl => ?_)
        have k52 : ∀ (n : Nat) (v52_2 : Int32) (t20 : Hp) (H : Heap) (locs : List Loc) (ls : Array Slot), gw_P K t20 H → va_S K.2.2.2.1 s.heap H locs → lv_has ls 3 [(0, .ref a0), (1, .ref a1), (2, .int v52_2)] → tw_lp (fx_X3_like_L52 a0 a1) (fun _ _ => none) n v52_2 t20 = some (r, tZ) → W p l e (headSpec (ws_ yX3_like cX3_like 3 (some (.object "LosslessFabric$State"))) ({ frames := 3, cells := 0, slots := 0, locals := 81 })).room s m ([.ref a0, .ref a1] : List Value).toArray below meth c H locs 0 0 (MQ below (gw_Qr K r tZ) ([.ref a0, .ref a1] : List Value).toArray s 0 0 K.2.2.2.1) (F0 m 52 ls []) := by
          intro n
          induction n with
          | zero => intro v52_2 t20 H locs ls hP hS hl hf; exact (tw_no hf).elim
          | succ n ih52 =>
            intro v52_2 t20 H locs ls hP hS hl hf
            obtain ⟨sf52, hs52⟩ : ∃ f, f = tw_lp (fx_X3_like_L52 a0 a1) (fun _ _ => none) n := ⟨_, rfl⟩
            rw [← hs52] at ih52
            have hf : fx_X3_like_L52 a0 a1 sf52 v52_2 t20 = some (r, tZ) := by rw [hs52]; exact hf
            clear hs52
            unfold fx_X3_like_L52 at hf
            refine lv_iload_n hx hb dX3_like_52 rfl (lv_at hl 2 rfl) ?_
            refine lv_aload_n hx hb dX3_like_53 rfl (lv_at hl 0 rfl) ?_
            obtain ⟨x21, t22, e23, hf⟩ := tw_bdE hf
            refine gw_rget (ci := 2) (k := 0) (T := TX3) C hP rfl in_X3 (by decide) e23 q351 rfl dX3_like_54 (fun hP => ?_)
            obtain ⟨x24, t25, e26, hf⟩ := tw_bdE hf
            refine gw_igetN (ci := 1) (k := 3) (T := TX2) C hP rfl in_X2 (by decide) e26 q163 rfl dX3_like_57 (fun hP => ?_)
            refine lv_icmp_ge (tgt := 84) hx hb dX3_like_60 (by decide) (fun hc => ?_) (fun hc => ?_)
            · have hf := tw_ifT hc hf
              refine lv_aload_n hx hb dX3_like_84 rfl (lv_at hl 0 rfl) ?_
              exact gw_iretr (tw_rtE hf).1 (tw_rtE hf).2 rfl rfl C hr (Or.inl ⟨_, rfl⟩) hP hS hlk dX3_like_85
            · have hf := tw_ifF hc hf
              refine lv_aload_n hx hb dX3_like_63 rfl (lv_at hl 0 rfl) ?_
              obtain ⟨x27, t28, e29, hf⟩ := tw_bdE hf
              refine gw_rget (ci := 2) (k := 3) (T := TX3) C hP rfl in_X3 (by decide) e29 q356 rfl dX3_like_64 (fun hP => ?_)
              refine lv_iload_n hx hb dX3_like_67 rfl (lv_at hl 2 rfl) ?_
              obtain ⟨x30, t31, e32, hf⟩ := tw_bdE hf
              refine gw_aald C hP rfl e32 dX3_like_68 (fun hP => ?_)
              refine lv_aload_n hx hb dX3_like_69 rfl (lv_at hl 1 rfl) ?_
              obtain ⟨x33, t34, e35, hf⟩ := tw_bdE hf
              refine gw_rget (ci := 2) (k := 3) (T := TX3) C hP rfl in_X3 (by decide) e35 q356 rfl dX3_like_70 (fun hP => ?_)
              refine lv_iload_n hx hb dX3_like_73 rfl (lv_at hl 2 rfl) ?_
              obtain ⟨x36, t37, e38, hf⟩ := tw_bdE hf
              refine gw_aald C hP rfl e38 dX3_like_74 (fun hP => ?_)
              obtain ⟨x39, t40, e41, hf⟩ := tw_bdE hf
              refine gw_cVv (As := [.ref x36]) (rest := []) (ci := 4) (T := TX5) (N := 12) C hml hP hS rfl (gw_onE e41).1 (mx_X5_like (l := l) (K := K) hA _ _ _ _ _ (gw_onE e41).2) (cwV 1 hts (lw_V q830 q831 q832 q105 q833) rfl rfl rfl hdX5_like ⟨Nat.le_of_ble_eq_true rfl, Nat.le_of_ble_eq_true rfl⟩) rfl hl.1 rfl (Nat.le_of_ble_eq_true rfl) (Nat.zero_le _) (Nat.zero_le _) dX3_like_75 (fun H locs hP hS => ?_)
              refine lv_iinc (v := (v52_2 + (1 : Int32))) (lv' := [(2, .int (v52_2 + (1 : Int32))), (0, .ref a0), (1, .ref a1)]) hx hb dX3_like_78 hl (k := 2) rfl rfl (by decide) rfl (fun ls hl => ?_)
              refine lv_goto (tgt := 52) hx hb dX3_like_81 (by decide) ?_
              exact ih52 _ _ _ _ _ hP hS (lv_sub hl [1, 2, 0] rfl) hf
        exact k52 _ _ _ _ _ _ hP hS (lv_sub hl [1, 2, 0] rfl) hf
      · have hf := tw_ifF hc hf
        refine lv_aload_n hx hb dX3_like_29 rfl (lv_at hl 0 rfl) ?_
        obtain ⟨x42, t43, e44, hf⟩ := tw_bdE hf
        refine gw_rget (ci := 2) (k := 2) (T := TX3) C hP rfl in_X3 (by decide) e44 q354 rfl dX3_like_30 (fun hP => ?_)
        refine lv_iload_n hx hb dX3_like_33 rfl (lv_at hl 2 rfl) ?_
        obtain ⟨x45, t46, e47, hf⟩ := tw_bdE hf
        refine gw_aald C hP rfl e47 dX3_like_34 (fun hP => ?_)
        refine lv_aload_n hx hb dX3_like_35 rfl (lv_at hl 1 rfl) ?_
        obtain ⟨x48, t49, e50, hf⟩ := tw_bdE hf
        refine gw_rget (ci := 2) (k := 2) (T := TX3) C hP rfl in_X3 (by decide) e50 q354 rfl dX3_like_36 (fun hP => ?_)
        refine lv_iload_n hx hb dX3_like_39 rfl (lv_at hl 2 rfl) ?_
        obtain ⟨x51, t52, e53, hf⟩ := tw_bdE hf
        refine gw_aald C hP rfl e53 dX3_like_40 (fun hP => ?_)
        obtain ⟨x54, t55, e56, hf⟩ := tw_bdE hf
        refine gw_cVv (As := [.ref x51]) (rest := []) (ci := 3) (T := TX4) (N := 12) C hml hP hS rfl (gw_onE e56).1 (mx_X4_like (l := l) (K := K) hA _ _ _ _ _ (gw_onE e56).2) (cwV 1 hts (lw_V q823 q824 q825 q104 q826) rfl rfl rfl hdX4_like ⟨Nat.le_of_ble_eq_true rfl, Nat.le_of_ble_eq_true rfl⟩) rfl hl.1 rfl (Nat.le_of_ble_eq_true rfl) (Nat.zero_le _) (Nat.zero_le _) dX3_like_41 (fun H locs hP hS => ?_)
        refine lv_iinc (v := (v18_2 + (1 : Int32))) (lv' := [(2, .int (v18_2 + (1 : Int32))), (0, .ref a0), (1, .ref a1)]) hx hb dX3_like_44 hl (k := 2) rfl rfl (by decide) rfl (fun ls hl => ?_)
        refine lv_goto (tgt := 18) hx hb dX3_like_47 (by decide) ?_
        exact ih18 _ _ _ _ _ hP hS (lv_sub hl [1, 2, 0] rfl) hf
  exact k18 _ _ _ _ _ _ hP hS (lv_sub hl [1, 2, 0] rfl) hf
def fx_X1_ahead_J27   : gM Int32 :=
  gw_rc (-1 : Int32)
def fx_X1_ahead_J142  (w142_0 : Int32) : gM Int32 :=
  gw_rc w142_0
def fx_X1_ahead_L68 (a2 : Int32) (a0 : Nat) (a1 : Int32) (a3 : Int32) (sf68 : Int32 → gM Int32) (v68_4 : Int32) : gM Int32 :=
  if a2 ≤ v68_4 then (gw_b0 (gw_gr 0 13 a0) fun x45 =>
  gw_b0 (gw_gr 2 2 x45) fun x48 =>
  gw_b0 (gw_lr 6 x48 a1) fun x51 =>
  if a3 = 0 then (gw_b0 (gw_on 3 x51 (fx_X4_queue x51)) fun x73 =>
 
  fx_X1_ahead_J142 x73)
  else (if a3 = (1 : Int32) then (gw_b0 (gw_gi 3 6 x51) fun x70 =>
 
  fx_X1_ahead_J142 x70)
  else (gw_b0 (gw_gi 3 5 x51) fun x55 =>
  gw_b0 (gw_gr 0 11 a0) fun x58 =>
  gw_b0 (gw_gr 2 2 x58) fun x61 =>
  gw_b0 (gw_lr 6 x61 a1) fun x64 =>
  gw_b0 (gw_gi 3 5 x64) fun x67 =>
 
  fx_X1_ahead_J142 (x55 - x67))))
  else (gw_b0 (gw_gr 0 13 a0) fun x76 =>
  gw_bc (gw_on 0 a0 (fx_X1_ticks a0 x76)) fun _ =>
 
  sf68 (v68_4 + (1 : Int32)))
def fx_X1_ahead (a0 : Nat) (a1 : Int32) (a2 : Int32) (a3 : Int32) : gM Int32 :=
  gw_bc (gw_on 0 a0 (fx_X1_isLink a0 a1)) fun x1 =>
  if x1 = 0 then (fx_X1_ahead_J27)
  else (gw_b0 (fx_X1_isAhead a2) fun x5 =>
  if x5 = 0 then (fx_X1_ahead_J27)
  else (gw_b0 (fx_X1_isIn (a3.toInt64) (0 : Int64) (2 : Int64)) fun x8 =>
  if x8 = 0 then (fx_X1_ahead_J27)
  else (gw_b0 (gw_gr 0 13 a0) fun x11 =>
  gw_b0 (gw_gr 0 11 a0) fun x14 =>
  gw_b0 (gw_on 2 x11 (fx_X3_like x11 x14)) fun x17 =>
  gw_b0 (gw_gr 0 13 a0) fun x20 =>
  gw_b0 (gw_gr 2 2 x20) fun x23 =>
  gw_b0 (gw_lr 6 x23 a1) fun x26 =>
  gw_b0 (gw_gr 0 11 a0) fun x29 =>
  gw_b0 (gw_gr 2 2 x29) fun x32 =>
  gw_b0 (gw_lr 6 x32 a1) fun x35 =>
  gw_b0 (gw_on 3 x35 (fx_X4_queue x35)) fun x38 =>
  gw_b0 (gw_pi 3 6 x26 x38) fun _ =>
 
  tw_lp (fx_X1_ahead_L68 a2 a0 a1 a3) (fun _ _ => none) tw_fu (0 : Int32))))
theorem hdX1_ahead : yX1_ahead.cls = "LosslessFabric" ∧ (yX1_ahead.cls ≠ "java/lang/invoke/MethodHandle" ∧ yX1_ahead.cls ≠ "java/lang/invoke/VarHandle" ∧ (parseMethodDescriptor yX1_ahead.desc).map (fun d => d.parameters.length) = some 3) := by decide +kernel
set_option maxHeartbeats 4000000 in
theorem mx_X1_ahead {l : Launch} {K : GK} (hA : gw_A K) (a0 : Nat) (a1 : Int32) (a2 : Int32) (a3 : Int32) (t0 tZ : Hp) (r : Int32) (C0 S0 : Nat) (hf : fx_X1_ahead a0 a1 a2 a3 t0 = some (r, tZ, C0, S0)) : Met l yX1_ahead (ws_ yX1_ahead cX1_ahead 5 (some (.int))) ({ frames := 7, cells := C0, slots := S0, locals := 3249 }) (va_Pc [.ref a0, .int a1, .int a2, .int a3] (gw_W K t0)) (gw_Qi K r tZ) C0 S0 K.2.2.2.1 := by
  refine Met.ofW (cc := cX1_ahead) (maxL := 5) (ret := some (.int)) (by decide) rfl ?_
  intro p e s m args below meth c s₁ B hml hv
  obtain ⟨rfl, hP, hK, hX, hN, hL⟩ := hv
  have hx := B.exec
  have hb := B.bytes
  have hr := B.returns
  have hts := atoms_spec (ws := (ws_ yX1_ahead cX1_ahead 5 (some (.int)))) B.pre
  have hts : ∀ w ∈ lw_all, w.before _ s = true := fun w h => hts w (List.mem_cons_of_mem _ h)
  have hown : s.vm.findClass "LosslessFabric" = some m.cls := findClass_of_methodNamed B.named
  have hlk := B.notSynchronized
  have C : gw_C K "LosslessFabric" p s m _ c cX1_ahead := ⟨hx, hb, hts, hown, hK, hA, hX, hN, hL⟩
  have hk : 0 + C0 = C0 := Nat.zero_add _
  have hn : 0 + S0 = S0 := Nat.zero_add _
  have hS : va_S K.2.2.2.1 s.heap s.heap [] := va_S.rf
  have hl := lv_entry ([.ref a0, .int a1, .int a2, .int a3]) (n := 5) (Nat.le_of_ble_eq_true rfl)
  rw [lg_entry_eq]
  generalize (lg_sl ([.ref a0, .int a1, .int a2, .int a3]) ++ List.replicate (5 - (lg_sl ([.ref a0, .int a1, .int a2, .int a3])).length) Slot.unset).toArray = ls at hl ⊢
  have hl : lv_has ls 5 [(0, .ref a0), (1, .int a1), (2, .int a2), (3, .int a3)] := hl
  unfold fx_X1_ahead at hf
  refine lv_aload_n hx hb dX1_ahead_0 rfl (lv_at hl 0 rfl) ?_
  refine lv_iload_n hx hb dX1_ahead_1 rfl (lv_at hl 1 rfl) ?_
  obtain ⟨x1, t2, c2, s2, C2, S2, e3, hf, hk, hn⟩ := gw_bcE hf hk hn
  refine gw_cVi (As := [.int a1]) (rest := []) (ci := 0) (T := TX1) (N := 18) C hml hP hS rfl (gw_onE e3).1 (mx_X1_isLink (l := l) (K := K) hA _ _ _ _ _ _ _ (gw_onE e3).2) (cwV 1 hts (lw_V q968 q970 qs22 q101 q971) rfl rfl rfl hdX1_isLink ⟨Nat.le_of_ble_eq_true rfl, Nat.le_of_ble_eq_true rfl⟩) rfl hl.1 rfl (Nat.le_of_ble_eq_true rfl) (Nat.le.intro hk) (Nat.le.intro hn) dX1_ahead_2 (fun H locs hP hS => ?_)
  have k27 : ∀  (t4 : Hp) (k4 n4 C4 S4 : Nat) (H : Heap) (locs : List Loc) (ls : Array Slot), gw_P K t4 H → va_S K.2.2.2.1 s.heap H locs → k4 + C4 = C0 → n4 + S4 = S0 → lv_has ls 5 [] → fx_X1_ahead_J27  t4 = some (r, tZ, C4, S4) → W p l e (headSpec (ws_ yX1_ahead cX1_ahead 5 (some (.int))) ({ frames := 7, cells := C0, slots := S0, locals := 3249 })).room s m ([.ref a0, .int a1, .int a2, .int a3] : List Value).toArray below meth c H locs k4 n4 (MQ below (gw_Qi K r tZ) ([.ref a0, .int a1, .int a2, .int a3] : List Value).toArray s C0 S0 K.2.2.2.1) (F0 m 27 ls []) := by
    intro t4 k4 n4 C4 S4 H locs ls hP hS hk hn hl hf
    unfold fx_X1_ahead_J27 at hf
    refine lv_iconst (v := (-1 : Int32)) hx hb dX1_ahead_27 (by decide) ?_
    obtain ⟨h1, h2, h3, h4⟩ := gw_rcE hf hk hn
    exact gw_ireti h1 h2 h3 h4 C hr hP hS hlk dX1_ahead_28
  refine lv_if_eq (tgt := 27) hx hb dX1_ahead_5 (by decide) (fun hc => ?_) (fun hc => ?_)
  · have hf := tw_ifT hc hf
    exact k27 _ _ _ _ _ _ _ _ hP hS hk hn (lv_sub hl [] rfl) hf
  · have hf := tw_ifF hc hf
    refine lv_iload_n hx hb dX1_ahead_8 rfl (lv_at hl 2 rfl) ?_
    obtain ⟨x5, t6, e7, hf⟩ := gw_b0E hf
    refine gw_cSi (As := [.int a2]) (rest := []) C hml hP hS (mx_X1_isAhead (l := l) (K := K) hA _ _ _ _ e7) (va_cwS 1 hts (lw_S q1193 q1194 q101 q1195) rfl rfl rfl hdX1_isAhead ⟨Nat.le_of_ble_eq_true rfl, Nat.le_of_ble_eq_true rfl⟩) rfl hl.1 rfl (Nat.le_of_ble_eq_true rfl) (Nat.le.intro hk) (Nat.le.intro hn) dX1_ahead_9 (fun H locs hP hS => ?_)
    refine lv_if_eq (tgt := 27) hx hb dX1_ahead_12 (by decide) (fun hc => ?_) (fun hc => ?_)
    · have hf := tw_ifT hc hf
      exact k27 _ _ _ _ _ _ _ _ hP hS hk hn (lv_sub hl [] rfl) hf
    · have hf := tw_ifF hc hf
      refine lv_iload_n hx hb dX1_ahead_15 rfl (lv_at hl 3 rfl) ?_
      refine lv_i2l hx hb dX1_ahead_16 rfl ?_
      refine lv_lconst (v := (0 : Int64)) hx hb dX1_ahead_17 (by decide) ?_
      refine lv_ldc2 hx hb hown (hts _ q1197) dX1_ahead_18 ?_
      obtain ⟨x8, t9, e10, hf⟩ := gw_b0E hf
      refine gw_cSi (As := [.long (a3.toInt64), .long (0 : Int64), .long (2 : Int64)]) (rest := []) C hml hP hS (mx_X1_isIn (l := l) (K := K) hA _ _ _ _ _ _ e10) (va_cwS 3 hts (lw_S q457 q458 q101 q459) rfl rfl rfl hdX1_isIn ⟨Nat.le_of_ble_eq_true rfl, Nat.le_of_ble_eq_true rfl⟩) rfl hl.1 rfl (Nat.le_of_ble_eq_true rfl) (Nat.le.intro hk) (Nat.le.intro hn) dX1_ahead_21 (fun H locs hP hS => ?_)
      refine lv_if_ne (tgt := 29) hx hb dX1_ahead_24 (by decide) (fun hc => ?_) (fun hc => ?_)
      · have hf := tw_ifF hc hf
        refine lv_aload_n hx hb dX1_ahead_29 rfl (lv_at hl 0 rfl) ?_
        obtain ⟨x11, t12, e13, hf⟩ := gw_b0E hf
        refine gw_rget (ci := 0) (k := 13) (T := TX1) C hP rfl in_X1 (by decide) e13 q406 rfl dX1_ahead_30 (fun hP => ?_)
        refine lv_aload_n hx hb dX1_ahead_33 rfl (lv_at hl 0 rfl) ?_
        obtain ⟨x14, t15, e16, hf⟩ := gw_b0E hf
        refine gw_rget (ci := 0) (k := 11) (T := TX1) C hP rfl in_X1 (by decide) e16 q404 rfl dX1_ahead_34 (fun hP => ?_)
        obtain ⟨x17, t18, e19, hf⟩ := gw_b0E hf
        refine gw_cVr (As := [.ref x14]) (rest := []) (ci := 2) (T := TX3) (N := 4) C hml hP hS rfl (gw_onE e19).1 (mx_X3_like (l := l) (K := K) hA _ _ _ _ _ (gw_onE e19).2) (cwV 1 hts (lw_V q819 q820 q821 q103 q822) rfl rfl rfl hdX3_like ⟨Nat.le_of_ble_eq_true rfl, Nat.le_of_ble_eq_true rfl⟩) rfl hl.1 rfl (Nat.le_of_ble_eq_true rfl) (Nat.le.intro hk) (Nat.le.intro hn) dX1_ahead_37 (fun H locs hP hS => ?_)
        refine lv_pop hx hb dX1_ahead_40 rfl ?_
        refine lv_aload_n hx hb dX1_ahead_41 rfl (lv_at hl 0 rfl) ?_
        obtain ⟨x20, t21, e22, hf⟩ := gw_b0E hf
        refine gw_rget (ci := 0) (k := 13) (T := TX1) C hP rfl in_X1 (by decide) e22 q406 rfl dX1_ahead_42 (fun hP => ?_)
        obtain ⟨x23, t24, e25, hf⟩ := gw_b0E hf
        refine gw_rgetN (ci := 2) (k := 2) (T := TX3) C hP rfl in_X3 (by decide) e25 q355 rfl dX1_ahead_45 (fun hP => ?_)
        refine lv_iload_n hx hb dX1_ahead_48 rfl (lv_at hl 1 rfl) ?_
        obtain ⟨x26, t27, e28, hf⟩ := gw_b0E hf
        refine gw_aald C hP rfl e28 dX1_ahead_49 (fun hP => ?_)
        refine lv_aload_n hx hb dX1_ahead_50 rfl (lv_at hl 0 rfl) ?_
        obtain ⟨x29, t30, e31, hf⟩ := gw_b0E hf
        refine gw_rget (ci := 0) (k := 11) (T := TX1) C hP rfl in_X1 (by decide) e31 q404 rfl dX1_ahead_51 (fun hP => ?_)
        obtain ⟨x32, t33, e34, hf⟩ := gw_b0E hf
        refine gw_rgetN (ci := 2) (k := 2) (T := TX3) C hP rfl in_X3 (by decide) e34 q355 rfl dX1_ahead_54 (fun hP => ?_)
        refine lv_iload_n hx hb dX1_ahead_57 rfl (lv_at hl 1 rfl) ?_
        obtain ⟨x35, t36, e37, hf⟩ := gw_b0E hf
        refine gw_aald C hP rfl e37 dX1_ahead_58 (fun hP => ?_)
        obtain ⟨x38, t39, e40, hf⟩ := gw_b0E hf
        refine gw_cVi (As := []) (rest := [.ref x26]) (ci := 3) (T := TX4) (N := 12) C hml hP hS rfl (gw_onE e40).1 (mx_X4_queue (l := l) (K := K) hA _ _ _ _ (gw_onE e40).2) (cwV 0 hts (lw_V q883 q884 q885 q104 q886) rfl rfl rfl hdX4_queue ⟨Nat.le_of_ble_eq_true rfl, Nat.le_of_ble_eq_true rfl⟩) rfl hl.1 rfl (Nat.le_of_ble_eq_true rfl) (Nat.le.intro hk) (Nat.le.intro hn) dX1_ahead_59 (fun H locs hP hS => ?_)
        obtain ⟨x41, t42, e43, hf⟩ := gw_b0E hf
        refine gw_vputN (ci := 3) (k := 6) (T := TX4) C hP hS rfl in_X4 tyX4 tyX4_ok nmX4 (by decide) e43 q253 rfl rfl (vp_nar_int _) rfl dX1_ahead_62 (fun H locs hP hS => ?_)
        refine lv_iconst (v := (0 : Int32)) hx hb dX1_ahead_65 (by decide) ?_
        refine lv_istore (lv' := [(4, .int (0 : Int32)), (0, .ref a0), (1, .int a1), (2, .int a2), (3, .int a3)]) hx hb dX1_ahead_66 hl (by decide) rfl (fun ls hl => ?_)
        have k68 : ∀ (n : Nat) (v68_4 : Int32) (t44 : Hp) (k44 n44 C44 S44 : Nat) (H : Heap) (locs : List Loc) (ls : Array Slot), gw_P K t44 H → va_S K.2.2.2.1 s.heap H locs → k44 + C44 = C0 → n44 + S44 = S0 → lv_has ls 5 [(0, .ref a0), (1, .int a1), (2, .int a2), (3, .int a3), (4, .int v68_4)] → tw_lp (fx_X1_ahead_L68 a2 a0 a1 a3) (fun _ _ => none) n v68_4 t44 = some (r, tZ, C44, S44) → W p l e (headSpec (ws_ yX1_ahead cX1_ahead 5 (some (.int))) ({ frames := 7, cells := C0, slots := S0, locals := 3249 })).room s m ([.ref a0, .int a1, .int a2, .int a3] : List Value).toArray below meth c H locs k44 n44 (MQ below (gw_Qi K r tZ) ([.ref a0, .int a1, .int a2, .int a3] : List Value).toArray s C0 S0 K.2.2.2.1) (F0 m 68 ls []) := by
          intro n
          induction n with
          | zero => intro v68_4 t44 k44 n44 C44 S44 H locs ls hP hS hk hn hl hf; exact (tw_no hf).elim
          | succ n ih68 =>
            intro v68_4 t44 k44 n44 C44 S44 H locs ls hP hS hk hn hl hf
            obtain ⟨sf68, hs68⟩ : ∃ f, f = tw_lp (fx_X1_ahead_L68 a2 a0 a1 a3) (fun _ _ => none) n := ⟨_, rfl⟩
            rw [← hs68] at ih68
            have hf : fx_X1_ahead_L68 a2 a0 a1 a3 sf68 v68_4 t44 = some (r, tZ, C44, S44) := by rw [hs68]; exact hf
            clear hs68
            unfold fx_X1_ahead_L68 at hf
            refine lv_iload hx hb dX1_ahead_68 (lv_at hl 4 rfl) ?_
            refine lv_iload_n hx hb dX1_ahead_70 rfl (lv_at hl 2 rfl) ?_
            refine lv_icmp_ge (tgt := 88) hx hb dX1_ahead_71 (by decide) (fun hc => ?_) (fun hc => ?_)
            · have hf := tw_ifT hc hf
              refine lv_aload_n hx hb dX1_ahead_88 rfl (lv_at hl 0 rfl) ?_
              obtain ⟨x45, t46, e47, hf⟩ := gw_b0E hf
              refine gw_rget (ci := 0) (k := 13) (T := TX1) C hP rfl in_X1 (by decide) e47 q406 rfl dX1_ahead_89 (fun hP => ?_)
              obtain ⟨x48, t49, e50, hf⟩ := gw_b0E hf
              refine gw_rgetN (ci := 2) (k := 2) (T := TX3) C hP rfl in_X3 (by decide) e50 q355 rfl dX1_ahead_92 (fun hP => ?_)
              refine lv_iload_n hx hb dX1_ahead_95 rfl (lv_at hl 1 rfl) ?_
              obtain ⟨x51, t52, e53, hf⟩ := gw_b0E hf
              refine gw_aald C hP rfl e53 dX1_ahead_96 (fun hP => ?_)
              refine lv_astore (lv' := [(4, .ref x51), (0, .ref a0), (1, .int a1), (2, .int a2), (3, .int a3)]) hx hb dX1_ahead_97 hl (by decide) rfl (fun ls hl => ?_)
              refine lv_iload_n hx hb dX1_ahead_99 rfl (lv_at hl 4 rfl) ?_
              have k142 : ∀ (w142_0 : Int32) (t54 : Hp) (k54 n54 C54 S54 : Nat) (H : Heap) (locs : List Loc) (ls : Array Slot), gw_P K t54 H → va_S K.2.2.2.1 s.heap H locs → k54 + C54 = C0 → n54 + S54 = S0 → lv_has ls 5 [] → fx_X1_ahead_J142 w142_0 t54 = some (r, tZ, C54, S54) → W p l e (headSpec (ws_ yX1_ahead cX1_ahead 5 (some (.int))) ({ frames := 7, cells := C0, slots := S0, locals := 3249 })).room s m ([.ref a0, .int a1, .int a2, .int a3] : List Value).toArray below meth c H locs k54 n54 (MQ below (gw_Qi K r tZ) ([.ref a0, .int a1, .int a2, .int a3] : List Value).toArray s C0 S0 K.2.2.2.1) (F0 m 142 ls [.int w142_0]) := by
                intro w142_0 t54 k54 n54 C54 S54 H locs ls hP hS hk hn hl hf
                unfold fx_X1_ahead_J142 at hf
                obtain ⟨h1, h2, h3, h4⟩ := gw_rcE hf hk hn
                exact gw_ireti h1 h2 h3 h4 C hr hP hS hlk dX1_ahead_142
              refine lv_if_ne (tgt := 111) hx hb dX1_ahead_100 (by decide) (fun hc => ?_) (fun hc => ?_)
              · have hf := tw_ifF hc hf
                refine lv_iload_n hx hb dX1_ahead_111 rfl (lv_at hl 4 rfl) ?_
                refine lv_iconst (v := (1 : Int32)) hx hb dX1_ahead_112 (by decide) ?_
                refine lv_icmp_ne (tgt := 124) hx hb dX1_ahead_113 (by decide) (fun hc => ?_) (fun hc => ?_)
                · have hf := tw_ifF hc hf
                  refine lv_aload hx hb dX1_ahead_124 (lv_at hl 0 rfl) ?_
                  obtain ⟨x55, t56, e57, hf⟩ := gw_b0E hf
                  refine gw_igetN (ci := 3) (k := 5) (T := TX4) C hP rfl in_X4 (by decide) e57 q251 rfl dX1_ahead_126 (fun hP => ?_)
                  refine lv_aload_n hx hb dX1_ahead_129 rfl (lv_at hl 1 rfl) ?_
                  obtain ⟨x58, t59, e60, hf⟩ := gw_b0E hf
                  refine gw_rget (ci := 0) (k := 11) (T := TX1) C hP rfl in_X1 (by decide) e60 q404 rfl dX1_ahead_130 (fun hP => ?_)
                  obtain ⟨x61, t62, e63, hf⟩ := gw_b0E hf
                  refine gw_rgetN (ci := 2) (k := 2) (T := TX3) C hP rfl in_X3 (by decide) e63 q355 rfl dX1_ahead_133 (fun hP => ?_)
                  refine lv_iload_n hx hb dX1_ahead_136 rfl (lv_at hl 2 rfl) ?_
                  obtain ⟨x64, t65, e66, hf⟩ := gw_b0E hf
                  refine gw_aald C hP rfl e66 dX1_ahead_137 (fun hP => ?_)
                  obtain ⟨x67, t68, e69, hf⟩ := gw_b0E hf
                  refine gw_igetN (ci := 3) (k := 5) (T := TX4) C hP rfl in_X4 (by decide) e69 q251 rfl dX1_ahead_138 (fun hP => ?_)
                  refine lv_isub hx hb dX1_ahead_141 ?_
                  exact k142 _ _ _ _ _ _ _ _ _ hP hS hk hn (lv_sub hl [] rfl) hf
                · have hf := tw_ifT hc hf
                  refine lv_aload hx hb dX1_ahead_116 (lv_at hl 0 rfl) ?_
                  obtain ⟨x70, t71, e72, hf⟩ := gw_b0E hf
                  refine gw_igetN (ci := 3) (k := 6) (T := TX4) C hP rfl in_X4 (by decide) e72 q253 rfl dX1_ahead_118 (fun hP => ?_)
                  refine lv_goto (tgt := 142) hx hb dX1_ahead_121 (by decide) ?_
                  exact k142 _ _ _ _ _ _ _ _ _ hP hS hk hn (lv_sub hl [] rfl) hf
              · have hf := tw_ifT hc hf
                refine lv_aload hx hb dX1_ahead_103 (lv_at hl 0 rfl) ?_
                obtain ⟨x73, t74, e75, hf⟩ := gw_b0E hf
                refine gw_cVi (As := []) (rest := []) (ci := 3) (T := TX4) (N := 12) C hml hP hS rfl (gw_onE e75).1 (mx_X4_queue (l := l) (K := K) hA _ _ _ _ (gw_onE e75).2) (cwV 0 hts (lw_V q883 q884 q885 q104 q886) rfl rfl rfl hdX4_queue ⟨Nat.le_of_ble_eq_true rfl, Nat.le_of_ble_eq_true rfl⟩) rfl hl.1 rfl (Nat.le_of_ble_eq_true rfl) (Nat.le.intro hk) (Nat.le.intro hn) dX1_ahead_105 (fun H locs hP hS => ?_)
                refine lv_goto (tgt := 142) hx hb dX1_ahead_108 (by decide) ?_
                exact k142 _ _ _ _ _ _ _ _ _ hP hS hk hn (lv_sub hl [] rfl) hf
            · have hf := tw_ifF hc hf
              refine lv_aload_n hx hb dX1_ahead_74 rfl (lv_at hl 0 rfl) ?_
              refine lv_aload_n hx hb dX1_ahead_75 rfl (lv_at hl 0 rfl) ?_
              obtain ⟨x76, t77, e78, hf⟩ := gw_b0E hf
              refine gw_rget (ci := 0) (k := 13) (T := TX1) C hP rfl in_X1 (by decide) e78 q406 rfl dX1_ahead_76 (fun hP => ?_)
              obtain ⟨x79, t80, c80, s80, C80, S80, e81, hf, hk, hn⟩ := gw_bcE hf hk hn
              refine gw_cVv (As := [.ref x76]) (rest := []) (ci := 0) (T := TX1) (N := 18) C hml hP hS rfl (gw_onE e81).1 (mx_X1_ticks (l := l) (K := K) hA _ _ _ _ _ _ _ (gw_onE e81).2) (cwV 1 hts (lw_V q852 q854 qs16 q101 q855) rfl rfl rfl hdX1_ticks ⟨Nat.le_of_ble_eq_true rfl, Nat.le_of_ble_eq_true rfl⟩) rfl hl.1 rfl (Nat.le_of_ble_eq_true rfl) (Nat.le.intro hk) (Nat.le.intro hn) dX1_ahead_79 (fun H locs hP hS => ?_)
              refine lv_iinc (v := (v68_4 + (1 : Int32))) (lv' := [(4, .int (v68_4 + (1 : Int32))), (0, .ref a0), (1, .int a1), (2, .int a2), (3, .int a3)]) hx hb dX1_ahead_82 hl (k := 4) rfl rfl (by decide) rfl (fun ls hl => ?_)
              refine lv_goto (tgt := 68) hx hb dX1_ahead_85 (by decide) ?_
              exact ih68 _ _ _ _ _ _ _ _ _ hP hS hk hn (lv_sub hl [1, 2, 3, 4, 0] rfl) hf
        exact k68 _ _ _ _ _ _ _ _ _ _ hP hS hk hn (lv_sub hl [1, 2, 3, 4, 0] rfl) hf
      · have hf := tw_ifT hc hf
        exact k27 _ _ _ _ _ _ _ _ hP hS hk hn (lv_sub hl [] rfl) hf
def fx_X1_back (a0 : Nat) : HM Int32 :=
  tw_bd (gw_gi 0 16 a0) fun x1 =>
  if x1 = 0 then (tw_rt (-1 : Int32))
  else (tw_bd (gw_gr 0 11 a0) fun x4 =>
  tw_bd (gw_gr 0 12 a0) fun x7 =>
  tw_bd (gw_on 2 x4 (fx_X3_like x4 x7)) fun x10 =>
  tw_bd (gw_pi 0 15 a0 (0 : Int32)) fun _ =>
  tw_bd (gw_gr 0 11 a0) fun x16 =>
  tw_bd (gw_gi 2 1 x16) fun x19 =>
  tw_rt x19)
theorem hdX1_back : yX1_back.cls = "LosslessFabric" ∧ (yX1_back.cls ≠ "java/lang/invoke/MethodHandle" ∧ yX1_back.cls ≠ "java/lang/invoke/VarHandle" ∧ (parseMethodDescriptor yX1_back.desc).map (fun d => d.parameters.length) = some 0) := by decide +kernel
set_option maxHeartbeats 4000000 in
theorem mx_X1_back {l : Launch} {K : GK} (hA : gw_A K) (a0 : Nat) (t0 tZ : Hp) (r : Int32) (hf : fx_X1_back a0 t0 = some (r, tZ)) : Met l yX1_back (ws_ yX1_back cX1_back 1 (some (.int))) ({ frames := 4, cells := 0, slots := 0, locals := 103 }) (va_Pc [.ref a0] (gw_W K t0)) (gw_Qi K r tZ) 0 0 K.2.2.2.1 := by
  refine Met.ofW (cc := cX1_back) (maxL := 1) (ret := some (.int)) (by decide) rfl ?_
  intro p e s m args below meth c s₁ B hml hv
  obtain ⟨rfl, hP, hK, hX, hN, hL⟩ := hv
  have hx := B.exec
  have hb := B.bytes
  have hr := B.returns
  have hts := atoms_spec (ws := (ws_ yX1_back cX1_back 1 (some (.int)))) B.pre
  have hts : ∀ w ∈ lw_all, w.before _ s = true := fun w h => hts w (List.mem_cons_of_mem _ h)
  have hown : s.vm.findClass "LosslessFabric" = some m.cls := findClass_of_methodNamed B.named
  have hlk := B.notSynchronized
  have C : gw_C K "LosslessFabric" p s m _ c cX1_back := ⟨hx, hb, hts, hown, hK, hA, hX, hN, hL⟩
  have hS : va_S K.2.2.2.1 s.heap s.heap [] := va_S.rf
  have hl := lv_entry ([.ref a0]) (n := 1) (Nat.le_of_ble_eq_true rfl)
  rw [lg_entry_eq]
  generalize (lg_sl ([.ref a0]) ++ List.replicate (1 - (lg_sl ([.ref a0])).length) Slot.unset).toArray = ls at hl ⊢
  have hl : lv_has ls 1 [(0, .ref a0)] := hl
  unfold fx_X1_back at hf
  refine lv_aload_n hx hb dX1_back_0 rfl (lv_at hl 0 rfl) ?_
  obtain ⟨x1, t2, e3, hf⟩ := tw_bdE hf
  refine gw_iget (ci := 0) (k := 16) (T := TX1) C hP rfl in_X1 (by decide) e3 q409 rfl dX1_back_1 (fun hP => ?_)
  refine lv_if_ne (tgt := 9) hx hb dX1_back_4 (by decide) (fun hc => ?_) (fun hc => ?_)
  · have hf := tw_ifF hc hf
    refine lv_aload_n hx hb dX1_back_9 rfl (lv_at hl 0 rfl) ?_
    obtain ⟨x4, t5, e6, hf⟩ := tw_bdE hf
    refine gw_rget (ci := 0) (k := 11) (T := TX1) C hP rfl in_X1 (by decide) e6 q404 rfl dX1_back_10 (fun hP => ?_)
    refine lv_aload_n hx hb dX1_back_13 rfl (lv_at hl 0 rfl) ?_
    obtain ⟨x7, t8, e9, hf⟩ := tw_bdE hf
    refine gw_rget (ci := 0) (k := 12) (T := TX1) C hP rfl in_X1 (by decide) e9 q405 rfl dX1_back_14 (fun hP => ?_)
    obtain ⟨x10, t11, e12, hf⟩ := tw_bdE hf
    refine gw_cVr (As := [.ref x7]) (rest := []) (ci := 2) (T := TX3) (N := 4) C hml hP hS rfl (gw_onE e12).1 (mx_X3_like (l := l) (K := K) hA _ _ _ _ _ (gw_onE e12).2) (cwV 1 hts (lw_V q819 q820 q821 q103 q822) rfl rfl rfl hdX3_like ⟨Nat.le_of_ble_eq_true rfl, Nat.le_of_ble_eq_true rfl⟩) rfl hl.1 rfl (Nat.le_of_ble_eq_true rfl) (Nat.zero_le _) (Nat.zero_le _) dX1_back_17 (fun H locs hP hS => ?_)
    refine lv_pop hx hb dX1_back_20 rfl ?_
    refine lv_aload_n hx hb dX1_back_21 rfl (lv_at hl 0 rfl) ?_
    refine lv_iconst (v := (0 : Int32)) hx hb dX1_back_22 (by decide) ?_
    obtain ⟨x13, t14, e15, hf⟩ := tw_bdE hf
    refine gw_vput (ci := 0) (k := 15) (T := TX1) C hP hS rfl in_X1 tyX1 tyX1_ok nmX1 (by decide) e15 q408 rfl rfl (vp_nar_int _) rfl dX1_back_23 (fun H locs hP hS => ?_)
    refine lv_aload_n hx hb dX1_back_26 rfl (lv_at hl 0 rfl) ?_
    obtain ⟨x16, t17, e18, hf⟩ := tw_bdE hf
    refine gw_rget (ci := 0) (k := 11) (T := TX1) C hP rfl in_X1 (by decide) e18 q404 rfl dX1_back_27 (fun hP => ?_)
    obtain ⟨x19, t20, e21, hf⟩ := tw_bdE hf
    refine gw_igetN (ci := 2) (k := 1) (T := TX3) C hP rfl in_X3 (by decide) e21 q353 rfl dX1_back_30 (fun hP => ?_)
    exact gw_ireti (tw_rtE hf).1 (tw_rtE hf).2 rfl rfl C hr hP hS hlk dX1_back_33
  · have hf := tw_ifT hc hf
    refine lv_iconst (v := (-1 : Int32)) hx hb dX1_back_7 (by decide) ?_
    exact gw_ireti (tw_rtE hf).1 (tw_rtE hf).2 rfl rfl C hr hP hS hlk dX1_back_8
def fx_X4_fresh_L2 (a1 : Nat) (a0 : Nat) (sf2 : Int32 → HM Unit) (v2_2 : Int32) : HM Unit :=
  if (8 : Int32) ≤ v2_2 then (tw_bd (gw_gi 8 3 a1) fun x2 =>
  tw_bd (gw_pi 3 1 a0 x2) fun _ =>
  tw_bd (gw_gi 8 4 a1) fun x8 =>
  tw_bd (gw_pi 3 2 a0 x8) fun _ =>
  tw_bd (gw_gi 8 5 a1) fun x14 =>
  tw_bd (gw_pi 3 3 a0 x14) fun _ =>
  tw_bd (gw_pi 3 4 a0 (0 : Int32)) fun _ =>
  tw_bd (gw_pi 3 5 a0 (0 : Int32)) fun _ =>
  tw_bd (gw_pi 3 6 a0 (0 : Int32)) fun _ =>
  tw_bd (gw_pi 3 7 a0 (0 : Int32)) fun _ =>
  tw_bd (gw_pi 3 8 a0 (0 : Int32)) fun _ =>
  tw_bd (gw_pi 3 9 a0 (0 : Int32)) fun _ =>
  tw_bd (gw_pi 3 10 a0 (0 : Int32)) fun _ =>
  tw_bd (gw_pi 3 11 a0 (0 : Int32)) fun _ =>
  tw_rt ())
  else (tw_bd (gw_gr 3 0 a0) fun x44 =>
  tw_bd (gw_st x44 v2_2 (0 : Int32)) fun _ =>
 
  sf2 (v2_2 + (1 : Int32)))
def fx_X4_fresh (a0 : Nat) (a1 : Nat) : HM Unit :=
  tw_lp (fx_X4_fresh_L2 a1 a0) (fun _ _ => none) tw_fu (0 : Int32)
theorem hdX4_fresh : yX4_fresh.cls = "LosslessFabric$End" ∧ (yX4_fresh.cls ≠ "java/lang/invoke/MethodHandle" ∧ yX4_fresh.cls ≠ "java/lang/invoke/VarHandle" ∧ (parseMethodDescriptor yX4_fresh.desc).map (fun d => d.parameters.length) = some 1) := by decide +kernel
set_option maxHeartbeats 4000000 in
theorem mx_X4_fresh {l : Launch} {K : GK} (hA : gw_A K) (a0 : Nat) (a1 : Nat) (t0 tZ : Hp) (r : Unit) (hf : fx_X4_fresh a0 a1 t0 = some (r, tZ)) : Met l yX4_fresh (ws_ yX4_fresh cX4_fresh 3 (none)) ({ frames := 2, cells := 0, slots := 0, locals := 12 }) (va_Pc [.ref a0, .ref a1] (gw_W K t0)) (gw_Qv K tZ) 0 0 K.2.2.2.1 := by
  refine Met.ofW (cc := cX4_fresh) (maxL := 3) (ret := none) (by decide) rfl ?_
  intro p e s m args below meth c s₁ B hml hv
  obtain ⟨rfl, hP, hK, hX, hN, hL⟩ := hv
  have hx := B.exec
  have hb := B.bytes
  have hr := B.returns
  have hts := atoms_spec (ws := (ws_ yX4_fresh cX4_fresh 3 (none))) B.pre
  have hts : ∀ w ∈ lw_all, w.before _ s = true := fun w h => hts w (List.mem_cons_of_mem _ h)
  have hown : s.vm.findClass "LosslessFabric$End" = some m.cls := findClass_of_methodNamed B.named
  have hlk := B.notSynchronized
  have C : gw_C K "LosslessFabric$End" p s m _ c cX4_fresh := ⟨hx, hb, hts, hown, hK, hA, hX, hN, hL⟩
  have hS : va_S K.2.2.2.1 s.heap s.heap [] := va_S.rf
  have hl := lv_entry ([.ref a0, .ref a1]) (n := 3) (Nat.le_of_ble_eq_true rfl)
  rw [lg_entry_eq]
  generalize (lg_sl ([.ref a0, .ref a1]) ++ List.replicate (3 - (lg_sl ([.ref a0, .ref a1])).length) Slot.unset).toArray = ls at hl ⊢
  have hl : lv_has ls 3 [(0, .ref a0), (1, .ref a1)] := hl
  unfold fx_X4_fresh at hf
  refine lv_iconst (v := (0 : Int32)) hx hb dX4_fresh_0 (by decide) ?_
  refine lv_istore_n (lv' := [(2, .int (0 : Int32)), (0, .ref a0), (1, .ref a1)]) hx hb dX4_fresh_1 rfl hl (by decide) rfl (fun ls hl => ?_)
  have k2 : ∀ (n : Nat) (v2_2 : Int32) (t1 : Hp) (H : Heap) (locs : List Loc) (ls : Array Slot), gw_P K t1 H → va_S K.2.2.2.1 s.heap H locs → lv_has ls 3 [(0, .ref a0), (1, .ref a1), (2, .int v2_2)] → tw_lp (fx_X4_fresh_L2 a1 a0) (fun _ _ => none) n v2_2 t1 = some (r, tZ) → W p l e (headSpec (ws_ yX4_fresh cX4_fresh 3 (none)) ({ frames := 2, cells := 0, slots := 0, locals := 12 })).room s m ([.ref a0, .ref a1] : List Value).toArray below meth c H locs 0 0 (MQ below (gw_Qv K tZ) ([.ref a0, .ref a1] : List Value).toArray s 0 0 K.2.2.2.1) (F0 m 2 ls []) := by
    intro n
    induction n with
    | zero => intro v2_2 t1 H locs ls hP hS hl hf; exact (tw_no hf).elim
    | succ n ih2 =>
      intro v2_2 t1 H locs ls hP hS hl hf
      obtain ⟨sf2, hs2⟩ : ∃ f, f = tw_lp (fx_X4_fresh_L2 a1 a0) (fun _ _ => none) n := ⟨_, rfl⟩
      rw [← hs2] at ih2
      have hf : fx_X4_fresh_L2 a1 a0 sf2 v2_2 t1 = some (r, tZ) := by rw [hs2]; exact hf
      clear hs2
      unfold fx_X4_fresh_L2 at hf
      refine lv_iload_n hx hb dX4_fresh_2 rfl (lv_at hl 2 rfl) ?_
      refine lv_bipush (v := (8 : Int32)) hx hb dX4_fresh_3 (by decide) ?_
      refine lv_icmp_ge (tgt := 21) hx hb dX4_fresh_5 (by decide) (fun hc => ?_) (fun hc => ?_)
      · have hf := tw_ifT hc hf
        refine lv_aload_n hx hb dX4_fresh_21 rfl (lv_at hl 0 rfl) ?_
        refine lv_aload_n hx hb dX4_fresh_22 rfl (lv_at hl 1 rfl) ?_
        obtain ⟨x2, t3, e4, hf⟩ := tw_bdE hf
        refine gw_igetN (ci := 8) (k := 3) (T := TX9) C hP rfl in_X9 (by decide) e4 q737 rfl dX4_fresh_23 (fun hP => ?_)
        obtain ⟨x5, t6, e7, hf⟩ := tw_bdE hf
        refine gw_vput (ci := 3) (k := 1) (T := TX4) C hP hS rfl in_X4 tyX4 tyX4_ok nmX4 (by decide) e7 q241 rfl rfl (vp_nar_int _) rfl dX4_fresh_26 (fun H locs hP hS => ?_)
        refine lv_aload_n hx hb dX4_fresh_29 rfl (lv_at hl 0 rfl) ?_
        refine lv_aload_n hx hb dX4_fresh_30 rfl (lv_at hl 1 rfl) ?_
        obtain ⟨x8, t9, e10, hf⟩ := tw_bdE hf
        refine gw_igetN (ci := 8) (k := 4) (T := TX9) C hP rfl in_X9 (by decide) e10 q739 rfl dX4_fresh_31 (fun hP => ?_)
        obtain ⟨x11, t12, e13, hf⟩ := tw_bdE hf
        refine gw_vput (ci := 3) (k := 2) (T := TX4) C hP hS rfl in_X4 tyX4 tyX4_ok nmX4 (by decide) e13 q243 rfl rfl (vp_nar_int _) rfl dX4_fresh_34 (fun H locs hP hS => ?_)
        refine lv_aload_n hx hb dX4_fresh_37 rfl (lv_at hl 0 rfl) ?_
        refine lv_aload_n hx hb dX4_fresh_38 rfl (lv_at hl 1 rfl) ?_
        obtain ⟨x14, t15, e16, hf⟩ := tw_bdE hf
        refine gw_igetN (ci := 8) (k := 5) (T := TX9) C hP rfl in_X9 (by decide) e16 q741 rfl dX4_fresh_39 (fun hP => ?_)
        obtain ⟨x17, t18, e19, hf⟩ := tw_bdE hf
        refine gw_vput (ci := 3) (k := 3) (T := TX4) C hP hS rfl in_X4 tyX4 tyX4_ok nmX4 (by decide) e19 q245 rfl rfl (vp_nar_int _) rfl dX4_fresh_42 (fun H locs hP hS => ?_)
        refine lv_aload_n hx hb dX4_fresh_45 rfl (lv_at hl 0 rfl) ?_
        refine lv_iconst (v := (0 : Int32)) hx hb dX4_fresh_46 (by decide) ?_
        obtain ⟨x20, t21, e22, hf⟩ := tw_bdE hf
        refine gw_vput (ci := 3) (k := 4) (T := TX4) C hP hS rfl in_X4 tyX4 tyX4_ok nmX4 (by decide) e22 q247 rfl rfl (vp_nar_int _) rfl dX4_fresh_47 (fun H locs hP hS => ?_)
        refine lv_aload_n hx hb dX4_fresh_50 rfl (lv_at hl 0 rfl) ?_
        refine lv_iconst (v := (0 : Int32)) hx hb dX4_fresh_51 (by decide) ?_
        obtain ⟨x23, t24, e25, hf⟩ := tw_bdE hf
        refine gw_vput (ci := 3) (k := 5) (T := TX4) C hP hS rfl in_X4 tyX4 tyX4_ok nmX4 (by decide) e25 q250 rfl rfl (vp_nar_int _) rfl dX4_fresh_52 (fun H locs hP hS => ?_)
        refine lv_aload_n hx hb dX4_fresh_55 rfl (lv_at hl 0 rfl) ?_
        refine lv_iconst (v := (0 : Int32)) hx hb dX4_fresh_56 (by decide) ?_
        obtain ⟨x26, t27, e28, hf⟩ := tw_bdE hf
        refine gw_vput (ci := 3) (k := 6) (T := TX4) C hP hS rfl in_X4 tyX4 tyX4_ok nmX4 (by decide) e28 q252 rfl rfl (vp_nar_int _) rfl dX4_fresh_57 (fun H locs hP hS => ?_)
        refine lv_aload_n hx hb dX4_fresh_60 rfl (lv_at hl 0 rfl) ?_
        refine lv_iconst (v := (0 : Int32)) hx hb dX4_fresh_61 (by decide) ?_
        obtain ⟨x29, t30, e31, hf⟩ := tw_bdE hf
        refine gw_vput (ci := 3) (k := 7) (T := TX4) C hP hS rfl in_X4 tyX4 tyX4_ok nmX4 (by decide) e31 q254 rfl rfl (vp_nar_int _) rfl dX4_fresh_62 (fun H locs hP hS => ?_)
        refine lv_aload_n hx hb dX4_fresh_65 rfl (lv_at hl 0 rfl) ?_
        refine lv_iconst (v := (0 : Int32)) hx hb dX4_fresh_66 (by decide) ?_
        obtain ⟨x32, t33, e34, hf⟩ := tw_bdE hf
        refine gw_vput (ci := 3) (k := 8) (T := TX4) C hP hS rfl in_X4 tyX4 tyX4_ok nmX4 (by decide) e34 q256 rfl rfl (vp_nar_int _) rfl dX4_fresh_67 (fun H locs hP hS => ?_)
        refine lv_aload_n hx hb dX4_fresh_70 rfl (lv_at hl 0 rfl) ?_
        refine lv_iconst (v := (0 : Int32)) hx hb dX4_fresh_71 (by decide) ?_
        obtain ⟨x35, t36, e37, hf⟩ := tw_bdE hf
        refine gw_vput (ci := 3) (k := 9) (T := TX4) C hP hS rfl in_X4 tyX4 tyX4_ok nmX4 (by decide) e37 q258 rfl rfl (vp_nar_int _) rfl dX4_fresh_72 (fun H locs hP hS => ?_)
        refine lv_aload_n hx hb dX4_fresh_75 rfl (lv_at hl 0 rfl) ?_
        refine lv_iconst (v := (0 : Int32)) hx hb dX4_fresh_76 (by decide) ?_
        obtain ⟨x38, t39, e40, hf⟩ := tw_bdE hf
        refine gw_vput (ci := 3) (k := 10) (T := TX4) C hP hS rfl in_X4 tyX4 tyX4_ok nmX4 (by decide) e40 q260 rfl rfl (vp_nar_int _) rfl dX4_fresh_77 (fun H locs hP hS => ?_)
        refine lv_aload_n hx hb dX4_fresh_80 rfl (lv_at hl 0 rfl) ?_
        refine lv_iconst (v := (0 : Int32)) hx hb dX4_fresh_81 (by decide) ?_
        obtain ⟨x41, t42, e43, hf⟩ := tw_bdE hf
        refine gw_vput (ci := 3) (k := 11) (T := TX4) C hP hS rfl in_X4 tyX4 tyX4_ok nmX4 (by decide) e43 q262 rfl rfl (vp_nar_int _) rfl dX4_fresh_82 (fun H locs hP hS => ?_)
        exact gw_iretv (tw_rtE hf).2 rfl rfl C hr hP hS hlk dX4_fresh_85
      · have hf := tw_ifF hc hf
        refine lv_aload_n hx hb dX4_fresh_8 rfl (lv_at hl 0 rfl) ?_
        obtain ⟨x44, t45, e46, hf⟩ := tw_bdE hf
        refine gw_rget (ci := 3) (k := 0) (T := TX4) C hP rfl in_X4 (by decide) e46 q238 rfl dX4_fresh_9 (fun hP => ?_)
        refine lv_iload_n hx hb dX4_fresh_12 rfl (lv_at hl 2 rfl) ?_
        refine lv_iconst (v := (0 : Int32)) hx hb dX4_fresh_13 (by decide) ?_
        obtain ⟨x47, t48, e49, hf⟩ := tw_bdE hf
        refine gw_iast C hP hS e49 dX4_fresh_14 (fun H locs hP hS => ?_)
        refine lv_iinc (v := (v2_2 + (1 : Int32))) (lv' := [(2, .int (v2_2 + (1 : Int32))), (0, .ref a0), (1, .ref a1)]) hx hb dX4_fresh_15 hl (k := 2) rfl rfl (by decide) rfl (fun ls hl => ?_)
        refine lv_goto (tgt := 2) hx hb dX4_fresh_18 (by decide) ?_
        exact ih2 _ _ _ _ _ hP hS (lv_sub hl [1, 2, 0] rfl) hf
  exact k2 _ _ _ _ _ _ hP hS (lv_sub hl [1, 2, 0] rfl) hf
def fx_X5_fresh_J54 (a0 : Nat) (w54_0 : Int32) : HM Unit :=
  tw_bd (gw_pz 4 11 a0 w54_0) fun _ =>
  tw_bd (gw_on 4 a0 (fx_X5_forgets a0)) fun _ =>
  tw_rt ()
def fx_X5_fresh (a0 : Nat) (a1 : Nat) : HM Unit :=
  tw_bd (gw_gi 9 1 a1) fun x1 =>
  tw_bd (gw_pi 4 0 a0 x1) fun _ =>
  tw_bd (gw_gi 9 1 a1) fun x7 =>
  tw_bd (gw_pi 4 1 a0 x7) fun _ =>
  tw_bd (gw_pi 4 2 a0 (0 : Int32)) fun _ =>
  tw_bd (gw_pi 4 3 a0 (0 : Int32)) fun _ =>
  tw_bd (gw_pi 4 4 a0 (0 : Int32)) fun _ =>
  tw_bd (gw_pi 4 5 a0 (0 : Int32)) fun _ =>
  tw_bd (gw_pi 4 6 a0 (0 : Int32)) fun _ =>
  tw_bd (gw_gi 9 4 a1) fun x28 =>
  if x28 = 0 then (fx_X5_fresh_J54 a0 (1 : Int32))
  else (fx_X5_fresh_J54 a0 (0 : Int32))
theorem hdX5_fresh : yX5_fresh.cls = "LosslessFabric$Sender" ∧ (yX5_fresh.cls ≠ "java/lang/invoke/MethodHandle" ∧ yX5_fresh.cls ≠ "java/lang/invoke/VarHandle" ∧ (parseMethodDescriptor yX5_fresh.desc).map (fun d => d.parameters.length) = some 1) := by decide +kernel
set_option maxHeartbeats 4000000 in
theorem mx_X5_fresh {l : Launch} {K : GK} (hA : gw_A K) (a0 : Nat) (a1 : Nat) (t0 tZ : Hp) (r : Unit) (hf : fx_X5_fresh a0 a1 t0 = some (r, tZ)) : Met l yX5_fresh (ws_ yX5_fresh cX5_fresh 2 (none)) ({ frames := 3, cells := 0, slots := 0, locals := 32 }) (va_Pc [.ref a0, .ref a1] (gw_W K t0)) (gw_Qv K tZ) 0 0 K.2.2.2.1 := by
  refine Met.ofW (cc := cX5_fresh) (maxL := 2) (ret := none) (by decide) rfl ?_
  intro p e s m args below meth c s₁ B hml hv
  obtain ⟨rfl, hP, hK, hX, hN, hL⟩ := hv
  have hx := B.exec
  have hb := B.bytes
  have hr := B.returns
  have hts := atoms_spec (ws := (ws_ yX5_fresh cX5_fresh 2 (none))) B.pre
  have hts : ∀ w ∈ lw_all, w.before _ s = true := fun w h => hts w (List.mem_cons_of_mem _ h)
  have hown : s.vm.findClass "LosslessFabric$Sender" = some m.cls := findClass_of_methodNamed B.named
  have hlk := B.notSynchronized
  have C : gw_C K "LosslessFabric$Sender" p s m _ c cX5_fresh := ⟨hx, hb, hts, hown, hK, hA, hX, hN, hL⟩
  have hS : va_S K.2.2.2.1 s.heap s.heap [] := va_S.rf
  have hl := lv_entry ([.ref a0, .ref a1]) (n := 2) (Nat.le_of_ble_eq_true rfl)
  rw [lg_entry_eq]
  generalize (lg_sl ([.ref a0, .ref a1]) ++ List.replicate (2 - (lg_sl ([.ref a0, .ref a1])).length) Slot.unset).toArray = ls at hl ⊢
  have hl : lv_has ls 2 [(0, .ref a0), (1, .ref a1)] := hl
  unfold fx_X5_fresh at hf
  refine lv_aload_n hx hb dX5_fresh_0 rfl (lv_at hl 0 rfl) ?_
  refine lv_aload_n hx hb dX5_fresh_1 rfl (lv_at hl 1 rfl) ?_
  obtain ⟨x1, t2, e3, hf⟩ := tw_bdE hf
  refine gw_igetN (ci := 9) (k := 1) (T := TX10) C hP rfl in_X10 (by decide) e3 q775 rfl dX5_fresh_2 (fun hP => ?_)
  obtain ⟨x4, t5, e6, hf⟩ := tw_bdE hf
  refine gw_vput (ci := 4) (k := 0) (T := TX5) C hP hS rfl in_X5 tyX5 tyX5_ok nmX5 (by decide) e6 q296 rfl rfl (vp_nar_int _) rfl dX5_fresh_5 (fun H locs hP hS => ?_)
  refine lv_aload_n hx hb dX5_fresh_8 rfl (lv_at hl 0 rfl) ?_
  refine lv_aload_n hx hb dX5_fresh_9 rfl (lv_at hl 1 rfl) ?_
  obtain ⟨x7, t8, e9, hf⟩ := tw_bdE hf
  refine gw_igetN (ci := 9) (k := 1) (T := TX10) C hP rfl in_X10 (by decide) e9 q775 rfl dX5_fresh_10 (fun hP => ?_)
  obtain ⟨x10, t11, e12, hf⟩ := tw_bdE hf
  refine gw_vput (ci := 4) (k := 1) (T := TX5) C hP hS rfl in_X5 tyX5 tyX5_ok nmX5 (by decide) e12 q298 rfl rfl (vp_nar_int _) rfl dX5_fresh_13 (fun H locs hP hS => ?_)
  refine lv_aload_n hx hb dX5_fresh_16 rfl (lv_at hl 0 rfl) ?_
  refine lv_iconst (v := (0 : Int32)) hx hb dX5_fresh_17 (by decide) ?_
  obtain ⟨x13, t14, e15, hf⟩ := tw_bdE hf
  refine gw_vput (ci := 4) (k := 2) (T := TX5) C hP hS rfl in_X5 tyX5 tyX5_ok nmX5 (by decide) e15 q300 rfl rfl (vp_nar_int _) rfl dX5_fresh_18 (fun H locs hP hS => ?_)
  refine lv_aload_n hx hb dX5_fresh_21 rfl (lv_at hl 0 rfl) ?_
  refine lv_iconst (v := (0 : Int32)) hx hb dX5_fresh_22 (by decide) ?_
  obtain ⟨x16, t17, e18, hf⟩ := tw_bdE hf
  refine gw_vput (ci := 4) (k := 3) (T := TX5) C hP hS rfl in_X5 tyX5 tyX5_ok nmX5 (by decide) e18 q303 rfl rfl (vp_nar_int _) rfl dX5_fresh_23 (fun H locs hP hS => ?_)
  refine lv_aload_n hx hb dX5_fresh_26 rfl (lv_at hl 0 rfl) ?_
  refine lv_iconst (v := (0 : Int32)) hx hb dX5_fresh_27 (by decide) ?_
  obtain ⟨x19, t20, e21, hf⟩ := tw_bdE hf
  refine gw_vput (ci := 4) (k := 4) (T := TX5) C hP hS rfl in_X5 tyX5 tyX5_ok nmX5 (by decide) e21 q306 rfl rfl (vp_nar_int _) rfl dX5_fresh_28 (fun H locs hP hS => ?_)
  refine lv_aload_n hx hb dX5_fresh_31 rfl (lv_at hl 0 rfl) ?_
  refine lv_iconst (v := (0 : Int32)) hx hb dX5_fresh_32 (by decide) ?_
  obtain ⟨x22, t23, e24, hf⟩ := tw_bdE hf
  refine gw_vput (ci := 4) (k := 5) (T := TX5) C hP hS rfl in_X5 tyX5 tyX5_ok nmX5 (by decide) e24 q309 rfl rfl (vp_nar_int _) rfl dX5_fresh_33 (fun H locs hP hS => ?_)
  refine lv_aload_n hx hb dX5_fresh_36 rfl (lv_at hl 0 rfl) ?_
  refine lv_iconst (v := (0 : Int32)) hx hb dX5_fresh_37 (by decide) ?_
  obtain ⟨x25, t26, e27, hf⟩ := tw_bdE hf
  refine gw_vput (ci := 4) (k := 6) (T := TX5) C hP hS rfl in_X5 tyX5 tyX5_ok nmX5 (by decide) e27 q312 rfl rfl (vp_nar_int _) rfl dX5_fresh_38 (fun H locs hP hS => ?_)
  refine lv_aload_n hx hb dX5_fresh_41 rfl (lv_at hl 0 rfl) ?_
  refine lv_aload_n hx hb dX5_fresh_42 rfl (lv_at hl 1 rfl) ?_
  obtain ⟨x28, t29, e30, hf⟩ := tw_bdE hf
  refine gw_igetN (ci := 9) (k := 4) (T := TX10) C hP rfl in_X10 (by decide) e30 q783 rfl dX5_fresh_43 (fun hP => ?_)
  have k54 : ∀ (w54_0 : Int32) (t31 : Hp) (H : Heap) (locs : List Loc) (ls : Array Slot), gw_P K t31 H → va_S K.2.2.2.1 s.heap H locs → lv_has ls 2 [(0, .ref a0)] → fx_X5_fresh_J54 a0 w54_0 t31 = some (r, tZ) → W p l e (headSpec (ws_ yX5_fresh cX5_fresh 2 (none)) ({ frames := 3, cells := 0, slots := 0, locals := 32 })).room s m ([.ref a0, .ref a1] : List Value).toArray below meth c H locs 0 0 (MQ below (gw_Qv K tZ) ([.ref a0, .ref a1] : List Value).toArray s 0 0 K.2.2.2.1) (F0 m 54 ls [.int w54_0, .ref a0]) := by
    intro w54_0 t31 H locs ls hP hS hl hf
    unfold fx_X5_fresh_J54 at hf
    obtain ⟨x32, t33, e34, hf⟩ := tw_bdE hf
    refine gw_vput (ci := 4) (k := 11) (T := TX5) C hP hS rfl in_X5 tyX5 tyX5_ok nmX5 (by decide) (gw_pzE e34).2 q324 rfl rfl (gw_zn (gw_pzE e34).1) (gw_zf (gw_pzE e34).1) dX5_fresh_54 (fun H locs hP hS => ?_)
    refine lv_aload_n hx hb dX5_fresh_57 rfl (lv_at hl 0 rfl) ?_
    obtain ⟨x35, t36, e37, hf⟩ := tw_bdE hf
    refine gw_cVv (As := []) (rest := []) (ci := 4) (T := TX5) (N := 12) C hml hP hS rfl (gw_onE e37).1 (mx_X5_forgets (l := l) (K := K) hA _ _ _ _ (gw_onE e37).2) (cwV 0 hts (lw_V q385 q386 q387 q105 q388) rfl rfl rfl hdX5_forgets ⟨Nat.le_of_ble_eq_true rfl, Nat.le_of_ble_eq_true rfl⟩) rfl hl.1 rfl (Nat.le_of_ble_eq_true rfl) (Nat.zero_le _) (Nat.zero_le _) dX5_fresh_58 (fun H locs hP hS => ?_)
    exact gw_iretv (tw_rtE hf).2 rfl rfl C hr hP hS hlk dX5_fresh_61
  refine lv_if_ne (tgt := 53) hx hb dX5_fresh_46 (by decide) (fun hc => ?_) (fun hc => ?_)
  · have hf := tw_ifF hc hf
    refine lv_iconst (v := (0 : Int32)) hx hb dX5_fresh_53 (by decide) ?_
    exact k54 _ _ _ _ _ hP hS (lv_sub hl [0] rfl) hf
  · have hf := tw_ifT hc hf
    refine lv_iconst (v := (1 : Int32)) hx hb dX5_fresh_49 (by decide) ?_
    refine lv_goto (tgt := 54) hx hb dX5_fresh_50 (by decide) ?_
    exact k54 _ _ _ _ _ hP hS (lv_sub hl [0] rfl) hf
def fx_X3_fresh_L49 (a0 : Nat) (sf49 : Int32 → HM Unit) (v49_2 : Int32) : HM Unit :=
  tw_bd (gw_gr 2 0 a0) fun x15 =>
  tw_bd (gw_gi 1 3 x15) fun x18 =>
  if x18 ≤ v49_2 then (tw_rt ())
  else (tw_bd (gw_gr 2 3 a0) fun x21 =>
  tw_bd (gw_lr 7 x21 v49_2) fun x24 =>
  tw_bd (gw_gr 2 0 a0) fun x27 =>
  tw_bd (gw_gr 1 1 x27) fun x30 =>
  tw_bd (gw_lr 5 x30 v49_2) fun x33 =>
  tw_bd (gw_on 4 x24 (fx_X5_fresh x24 x33)) fun _ =>
 
  sf49 (v49_2 + (1 : Int32)))
def fx_X3_fresh_L12 (a0 : Nat) (sf12 : Int32 → HM Unit) (v12_2 : Int32) : HM Unit :=
  tw_bd (gw_gr 2 0 a0) fun x8 =>
  tw_bd (gw_gi 1 2 x8) fun x11 =>
  if x11 ≤ v12_2 then (tw_lp (fx_X3_fresh_L49 a0) (fun _ _ => none) tw_fu (0 : Int32))
  else (tw_bd (gw_gr 2 2 a0) fun x39 =>
  tw_bd (gw_lr 6 x39 v12_2) fun x42 =>
  tw_bd (gw_gr 2 0 a0) fun x45 =>
  tw_bd (gw_gr 1 0 x45) fun x48 =>
  tw_bd (gw_lr 4 x48 v12_2) fun x51 =>
  tw_bd (gw_on 3 x42 (fx_X4_fresh x42 x51)) fun _ =>
 
  sf12 (v12_2 + (1 : Int32)))
def fx_X3_fresh (a0 : Nat) (a1 : Nat) : HM Unit :=
  tw_bd (gw_pr 2 0 a0 a1) fun _ =>
  tw_bd (gw_pi 2 1 a0 (0 : Int32)) fun _ =>
 
  tw_lp (fx_X3_fresh_L12 a0) (fun _ _ => none) tw_fu (0 : Int32)
theorem hdX3_fresh : yX3_fresh.cls = "LosslessFabric$State" ∧ (yX3_fresh.cls ≠ "java/lang/invoke/MethodHandle" ∧ yX3_fresh.cls ≠ "java/lang/invoke/VarHandle" ∧ (parseMethodDescriptor yX3_fresh.desc).map (fun d => d.parameters.length) = some 1) := by decide +kernel
set_option maxHeartbeats 4000000 in
theorem mx_X3_fresh {l : Launch} {K : GK} (hA : gw_A K) (a0 : Nat) (a1 : Nat) (t0 tZ : Hp) (r : Unit) (hf : fx_X3_fresh a0 a1 t0 = some (r, tZ)) : Met l yX3_fresh (ws_ yX3_fresh cX3_fresh 3 (none)) ({ frames := 4, cells := 0, slots := 0, locals := 53 }) (va_Pc [.ref a0, .ref a1] (gw_W K t0)) (gw_Qv K tZ) 0 0 K.2.2.2.1 := by
  refine Met.ofW (cc := cX3_fresh) (maxL := 3) (ret := none) (by decide) rfl ?_
  intro p e s m args below meth c s₁ B hml hv
  obtain ⟨rfl, hP, hK, hX, hN, hL⟩ := hv
  have hx := B.exec
  have hb := B.bytes
  have hr := B.returns
  have hts := atoms_spec (ws := (ws_ yX3_fresh cX3_fresh 3 (none))) B.pre
  have hts : ∀ w ∈ lw_all, w.before _ s = true := fun w h => hts w (List.mem_cons_of_mem _ h)
  have hown : s.vm.findClass "LosslessFabric$State" = some m.cls := findClass_of_methodNamed B.named
  have hlk := B.notSynchronized
  have C : gw_C K "LosslessFabric$State" p s m _ c cX3_fresh := ⟨hx, hb, hts, hown, hK, hA, hX, hN, hL⟩
  have hS : va_S K.2.2.2.1 s.heap s.heap [] := va_S.rf
  have hl := lv_entry ([.ref a0, .ref a1]) (n := 3) (Nat.le_of_ble_eq_true rfl)
  rw [lg_entry_eq]
  generalize (lg_sl ([.ref a0, .ref a1]) ++ List.replicate (3 - (lg_sl ([.ref a0, .ref a1])).length) Slot.unset).toArray = ls at hl ⊢
  have hl : lv_has ls 3 [(0, .ref a0), (1, .ref a1)] := hl
  unfold fx_X3_fresh at hf
  refine lv_aload_n hx hb dX3_fresh_0 rfl (lv_at hl 0 rfl) ?_
  refine lv_aload_n hx hb dX3_fresh_1 rfl (lv_at hl 1 rfl) ?_
  obtain ⟨x1, t2, e3, hf⟩ := tw_bdE hf
  refine gw_vput (ci := 2) (k := 0) (T := TX3) C hP hS rfl in_X3 tyX3 tyX3_ok nmX3 (by decide) e3 q351 rfl rfl rfl rfl dX3_fresh_2 (fun H locs hP hS => ?_)
  refine lv_aload_n hx hb dX3_fresh_5 rfl (lv_at hl 0 rfl) ?_
  refine lv_iconst (v := (0 : Int32)) hx hb dX3_fresh_6 (by decide) ?_
  obtain ⟨x4, t5, e6, hf⟩ := tw_bdE hf
  refine gw_vput (ci := 2) (k := 1) (T := TX3) C hP hS rfl in_X3 tyX3 tyX3_ok nmX3 (by decide) e6 q352 rfl rfl (vp_nar_int _) rfl dX3_fresh_7 (fun H locs hP hS => ?_)
  refine lv_iconst (v := (0 : Int32)) hx hb dX3_fresh_10 (by decide) ?_
  refine lv_istore_n (lv' := [(2, .int (0 : Int32)), (0, .ref a0), (1, .ref a1)]) hx hb dX3_fresh_11 rfl hl (by decide) rfl (fun ls hl => ?_)
  have k12 : ∀ (n : Nat) (v12_2 : Int32) (t7 : Hp) (H : Heap) (locs : List Loc) (ls : Array Slot), gw_P K t7 H → va_S K.2.2.2.1 s.heap H locs → lv_has ls 3 [(0, .ref a0), (2, .int v12_2)] → tw_lp (fx_X3_fresh_L12 a0) (fun _ _ => none) n v12_2 t7 = some (r, tZ) → W p l e (headSpec (ws_ yX3_fresh cX3_fresh 3 (none)) ({ frames := 4, cells := 0, slots := 0, locals := 53 })).room s m ([.ref a0, .ref a1] : List Value).toArray below meth c H locs 0 0 (MQ below (gw_Qv K tZ) ([.ref a0, .ref a1] : List Value).toArray s 0 0 K.2.2.2.1) (F0 m 12 ls []) := by
    intro n
    induction n with
    | zero => intro v12_2 t7 H locs ls hP hS hl hf; exact (tw_no hf).elim
    | succ n ih12 =>
      intro v12_2 t7 H locs ls hP hS hl hf
      obtain ⟨sf12, hs12⟩ : ∃ f, f = tw_lp (fx_X3_fresh_L12 a0) (fun _ _ => none) n := ⟨_, rfl⟩
      rw [← hs12] at ih12
      have hf : fx_X3_fresh_L12 a0 sf12 v12_2 t7 = some (r, tZ) := by rw [hs12]; exact hf
      clear hs12
      unfold fx_X3_fresh_L12 at hf
      refine lv_iload_n hx hb dX3_fresh_12 rfl (lv_at hl 1 rfl) ?_
      refine lv_aload_n hx hb dX3_fresh_13 rfl (lv_at hl 0 rfl) ?_
      obtain ⟨x8, t9, e10, hf⟩ := tw_bdE hf
      refine gw_rget (ci := 2) (k := 0) (T := TX3) C hP rfl in_X3 (by decide) e10 q351 rfl dX3_fresh_14 (fun hP => ?_)
      obtain ⟨x11, t12, e13, hf⟩ := tw_bdE hf
      refine gw_igetN (ci := 1) (k := 2) (T := TX2) C hP rfl in_X2 (by decide) e13 q157 rfl dX3_fresh_17 (fun hP => ?_)
      refine lv_icmp_ge (tgt := 47) hx hb dX3_fresh_20 (by decide) (fun hc => ?_) (fun hc => ?_)
      · have hf := tw_ifT hc hf
        refine lv_iconst (v := (0 : Int32)) hx hb dX3_fresh_47 (by decide) ?_
        refine lv_istore_n (lv' := [(2, .int (0 : Int32)), (0, .ref a0)]) hx hb dX3_fresh_48 rfl hl (by decide) rfl (fun ls hl => ?_)
        have k49 : ∀ (n : Nat) (v49_2 : Int32) (t14 : Hp) (H : Heap) (locs : List Loc) (ls : Array Slot), gw_P K t14 H → va_S K.2.2.2.1 s.heap H locs → lv_has ls 3 [(0, .ref a0), (2, .int v49_2)] → tw_lp (fx_X3_fresh_L49 a0) (fun _ _ => none) n v49_2 t14 = some (r, tZ) → W p l e (headSpec (ws_ yX3_fresh cX3_fresh 3 (none)) ({ frames := 4, cells := 0, slots := 0, locals := 53 })).room s m ([.ref a0, .ref a1] : List Value).toArray below meth c H locs 0 0 (MQ below (gw_Qv K tZ) ([.ref a0, .ref a1] : List Value).toArray s 0 0 K.2.2.2.1) (F0 m 49 ls []) := by
          intro n
          induction n with
          | zero => intro v49_2 t14 H locs ls hP hS hl hf; exact (tw_no hf).elim
          | succ n ih49 =>
            intro v49_2 t14 H locs ls hP hS hl hf
            obtain ⟨sf49, hs49⟩ : ∃ f, f = tw_lp (fx_X3_fresh_L49 a0) (fun _ _ => none) n := ⟨_, rfl⟩
            rw [← hs49] at ih49
            have hf : fx_X3_fresh_L49 a0 sf49 v49_2 t14 = some (r, tZ) := by rw [hs49]; exact hf
            clear hs49
            unfold fx_X3_fresh_L49 at hf
            refine lv_iload_n hx hb dX3_fresh_49 rfl (lv_at hl 1 rfl) ?_
            refine lv_aload_n hx hb dX3_fresh_50 rfl (lv_at hl 0 rfl) ?_
            obtain ⟨x15, t16, e17, hf⟩ := tw_bdE hf
            refine gw_rget (ci := 2) (k := 0) (T := TX3) C hP rfl in_X3 (by decide) e17 q351 rfl dX3_fresh_51 (fun hP => ?_)
            obtain ⟨x18, t19, e20, hf⟩ := tw_bdE hf
            refine gw_igetN (ci := 1) (k := 3) (T := TX2) C hP rfl in_X2 (by decide) e20 q163 rfl dX3_fresh_54 (fun hP => ?_)
            refine lv_icmp_ge (tgt := 84) hx hb dX3_fresh_57 (by decide) (fun hc => ?_) (fun hc => ?_)
            · have hf := tw_ifT hc hf
              exact gw_iretv (tw_rtE hf).2 rfl rfl C hr hP hS hlk dX3_fresh_84
            · have hf := tw_ifF hc hf
              refine lv_aload_n hx hb dX3_fresh_60 rfl (lv_at hl 0 rfl) ?_
              obtain ⟨x21, t22, e23, hf⟩ := tw_bdE hf
              refine gw_rget (ci := 2) (k := 3) (T := TX3) C hP rfl in_X3 (by decide) e23 q356 rfl dX3_fresh_61 (fun hP => ?_)
              refine lv_iload_n hx hb dX3_fresh_64 rfl (lv_at hl 1 rfl) ?_
              obtain ⟨x24, t25, e26, hf⟩ := tw_bdE hf
              refine gw_aald C hP rfl e26 dX3_fresh_65 (fun hP => ?_)
              refine lv_aload_n hx hb dX3_fresh_66 rfl (lv_at hl 0 rfl) ?_
              obtain ⟨x27, t28, e29, hf⟩ := tw_bdE hf
              refine gw_rget (ci := 2) (k := 0) (T := TX3) C hP rfl in_X3 (by decide) e29 q351 rfl dX3_fresh_67 (fun hP => ?_)
              obtain ⟨x30, t31, e32, hf⟩ := tw_bdE hf
              refine gw_rgetN (ci := 1) (k := 1) (T := TX2) C hP rfl in_X2 (by decide) e32 q153 rfl dX3_fresh_70 (fun hP => ?_)
              refine lv_iload_n hx hb dX3_fresh_73 rfl (lv_at hl 1 rfl) ?_
              obtain ⟨x33, t34, e35, hf⟩ := tw_bdE hf
              refine gw_aald C hP rfl e35 dX3_fresh_74 (fun hP => ?_)
              obtain ⟨x36, t37, e38, hf⟩ := tw_bdE hf
              refine gw_cVv (As := [.ref x33]) (rest := []) (ci := 4) (T := TX5) (N := 12) C hml hP hS rfl (gw_onE e38).1 (mx_X5_fresh (l := l) (K := K) hA _ _ _ _ _ (gw_onE e38).2) (cwV 1 hts (lw_V q381 q382 q383 q105 q384) rfl rfl rfl hdX5_fresh ⟨Nat.le_of_ble_eq_true rfl, Nat.le_of_ble_eq_true rfl⟩) rfl hl.1 rfl (Nat.le_of_ble_eq_true rfl) (Nat.zero_le _) (Nat.zero_le _) dX3_fresh_75 (fun H locs hP hS => ?_)
              refine lv_iinc (v := (v49_2 + (1 : Int32))) (lv' := [(2, .int (v49_2 + (1 : Int32))), (0, .ref a0)]) hx hb dX3_fresh_78 hl (k := 1) rfl rfl (by decide) rfl (fun ls hl => ?_)
              refine lv_goto (tgt := 49) hx hb dX3_fresh_81 (by decide) ?_
              exact ih49 _ _ _ _ _ hP hS (lv_sub hl [1, 0] rfl) hf
        exact k49 _ _ _ _ _ _ hP hS (lv_sub hl [1, 0] rfl) hf
      · have hf := tw_ifF hc hf
        refine lv_aload_n hx hb dX3_fresh_23 rfl (lv_at hl 0 rfl) ?_
        obtain ⟨x39, t40, e41, hf⟩ := tw_bdE hf
        refine gw_rget (ci := 2) (k := 2) (T := TX3) C hP rfl in_X3 (by decide) e41 q354 rfl dX3_fresh_24 (fun hP => ?_)
        refine lv_iload_n hx hb dX3_fresh_27 rfl (lv_at hl 1 rfl) ?_
        obtain ⟨x42, t43, e44, hf⟩ := tw_bdE hf
        refine gw_aald C hP rfl e44 dX3_fresh_28 (fun hP => ?_)
        refine lv_aload_n hx hb dX3_fresh_29 rfl (lv_at hl 0 rfl) ?_
        obtain ⟨x45, t46, e47, hf⟩ := tw_bdE hf
        refine gw_rget (ci := 2) (k := 0) (T := TX3) C hP rfl in_X3 (by decide) e47 q351 rfl dX3_fresh_30 (fun hP => ?_)
        obtain ⟨x48, t49, e50, hf⟩ := tw_bdE hf
        refine gw_rgetN (ci := 1) (k := 0) (T := TX2) C hP rfl in_X2 (by decide) e50 q147 rfl dX3_fresh_33 (fun hP => ?_)
        refine lv_iload_n hx hb dX3_fresh_36 rfl (lv_at hl 1 rfl) ?_
        obtain ⟨x51, t52, e53, hf⟩ := tw_bdE hf
        refine gw_aald C hP rfl e53 dX3_fresh_37 (fun hP => ?_)
        obtain ⟨x54, t55, e56, hf⟩ := tw_bdE hf
        refine gw_cVv (As := [.ref x51]) (rest := []) (ci := 3) (T := TX4) (N := 12) C hml hP hS rfl (gw_onE e56).1 (mx_X4_fresh (l := l) (K := K) hA _ _ _ _ _ (gw_onE e56).2) (cwV 1 hts (lw_V q377 q378 q379 q104 q380) rfl rfl rfl hdX4_fresh ⟨Nat.le_of_ble_eq_true rfl, Nat.le_of_ble_eq_true rfl⟩) rfl hl.1 rfl (Nat.le_of_ble_eq_true rfl) (Nat.zero_le _) (Nat.zero_le _) dX3_fresh_38 (fun H locs hP hS => ?_)
        refine lv_iinc (v := (v12_2 + (1 : Int32))) (lv' := [(2, .int (v12_2 + (1 : Int32))), (0, .ref a0)]) hx hb dX3_fresh_41 hl (k := 1) rfl rfl (by decide) rfl (fun ls hl => ?_)
        refine lv_goto (tgt := 12) hx hb dX3_fresh_44 (by decide) ?_
        exact ih12 _ _ _ _ _ hP hS (lv_sub hl [1, 0] rfl) hf
  exact k12 _ _ _ _ _ _ hP hS (lv_sub hl [1, 0] rfl) hf