def fx_X4_asks_J35 (a0 : Nat) (w35_0 : Int32) : HM Unit :=
  tw_bd (gw_gi 3 4 a0) fun x8 =>
  tw_bd (gw_pi 3 4 a0 (((x8 <<< ((1 : Int32) &&& 31)) ||| w35_0) &&& (31 : Int32))) fun _ =>
  tw_rt ()
def fx_X4_asks (a0 : Nat) : HM Unit :=
  tw_bd (gw_on 3 a0 (fx_X4_queue a0)) fun x1 =>
  tw_bd (gw_gi 3 1 a0) fun x4 =>
  if x1 < x4 then (tw_bd (gw_gi 3 2 a0) fun x14 =>
  if x14 < x1 then (tw_bd (gw_gi 3 4 a0) fun x17 =>
 
  fx_X4_asks_J35 a0 (x17 &&& (1 : Int32)))
  else (fx_X4_asks_J35 a0 (0 : Int32)))
  else (fx_X4_asks_J35 a0 (1 : Int32))
theorem hdX4_asks : yX4_asks.cls = "LosslessFabric$End" ∧ (yX4_asks.cls ≠ "java/lang/invoke/MethodHandle" ∧ yX4_asks.cls ≠ "java/lang/invoke/VarHandle" ∧ (parseMethodDescriptor yX4_asks.desc).map (fun d => d.parameters.length) = some 0) := by decide +kernel
set_option maxHeartbeats 4000000 in
theorem mx_X4_asks {l : Launch} {K : GK} (hA : gw_A K) (a0 : Nat) (t0 tZ : Hp) (r : Unit) (hf : fx_X4_asks a0 t0 = some (r, tZ)) : Met l yX4_asks (ws_ yX4_asks cX4_asks 3 (none)) ({ frames := 3, cells := 0, slots := 0, locals := 37 }) (va_Pc [.ref a0] (gw_W K t0)) (gw_Qv K tZ) 0 0 K.2.2.2.1 := by
  refine Met.ofW (cc := cX4_asks) (maxL := 3) (ret := none) (by decide) rfl ?_
  intro p e s m args below meth c s₁ B hml hv
  obtain ⟨rfl, hP, hK, hX, hN, hL⟩ := hv
  have hx := B.exec
  have hb := B.bytes
  have hr := B.returns
  have hts := atoms_spec (ws := (ws_ yX4_asks cX4_asks 3 (none))) B.pre
  have hts : ∀ w ∈ lw_all, w.before _ s = true := fun w h => hts w (List.mem_cons_of_mem _ h)
  have hown : s.vm.findClass "LosslessFabric$End" = some m.cls := findClass_of_methodNamed B.named
  have hlk := B.notSynchronized
  have C : gw_C K "LosslessFabric$End" p s m _ c cX4_asks := ⟨hx, hb, hts, hown, hK, hA, hX, hN, hL⟩
  have hS : va_S K.2.2.2.1 s.heap s.heap [] := va_S.rf
  have hl := lv_entry ([.ref a0]) (n := 3) (Nat.le_of_ble_eq_true rfl)
  rw [lg_entry_eq]
  generalize (lg_sl ([.ref a0]) ++ List.replicate (3 - (lg_sl ([.ref a0])).length) Slot.unset).toArray = ls at hl ⊢
  have hl : lv_has ls 3 [(0, .ref a0)] := hl
  unfold fx_X4_asks at hf
  refine lv_aload_n hx hb dX4_asks_0 rfl (lv_at hl 0 rfl) ?_
  obtain ⟨x1, t2, e3, hf⟩ := tw_bdE hf
  refine gw_cVi (As := []) (rest := []) (ci := 3) (T := TX4) (N := 12) C hml hP hS rfl (gw_onE e3).1 (mx_X4_queue (l := l) (K := K) hA _ _ _ _ (gw_onE e3).2) (cwV 0 hts (lw_V q892 q884 q885 q104 q886) rfl rfl rfl hdX4_queue ⟨Nat.le_of_ble_eq_true rfl, Nat.le_of_ble_eq_true rfl⟩) rfl hl.1 rfl (Nat.le_of_ble_eq_true rfl) (Nat.zero_le _) (Nat.zero_le _) dX4_asks_1 (fun H locs hP hS => ?_)
  refine lv_istore_n (lv' := [(1, .int x1), (0, .ref a0)]) hx hb dX4_asks_4 rfl hl (by decide) rfl (fun ls hl => ?_)
  refine lv_iload_n hx hb dX4_asks_5 rfl (lv_at hl 0 rfl) ?_
  refine lv_aload_n hx hb dX4_asks_6 rfl (lv_at hl 1 rfl) ?_
  obtain ⟨x4, t5, e6, hf⟩ := tw_bdE hf
  refine gw_iget (ci := 3) (k := 1) (T := TX4) C hP rfl in_X4 (by decide) e6 q241 rfl dX4_asks_7 (fun hP => ?_)
  have k35 : ∀ (w35_0 : Int32) (t7 : Hp) (H : Heap) (locs : List Loc) (ls : Array Slot), gw_P K t7 H → va_S K.2.2.2.1 s.heap H locs → lv_has ls 3 [(0, .ref a0)] → fx_X4_asks_J35 a0 w35_0 t7 = some (r, tZ) → W p l e (headSpec (ws_ yX4_asks cX4_asks 3 (none)) ({ frames := 3, cells := 0, slots := 0, locals := 37 })).room s m ([.ref a0] : List Value).toArray below meth c H locs 0 0 (MQ below (gw_Qv K tZ) ([.ref a0] : List Value).toArray s 0 0 K.2.2.2.1) (F0 m 35 ls [.int w35_0]) := by
    intro w35_0 t7 H locs ls hP hS hl hf
    unfold fx_X4_asks_J35 at hf
    refine lv_istore_n (lv' := [(2, .int w35_0), (0, .ref a0)]) hx hb dX4_asks_35 rfl hl (by decide) rfl (fun ls hl => ?_)
    refine lv_aload_n hx hb dX4_asks_36 rfl (lv_at hl 1 rfl) ?_
    refine lv_aload_n hx hb dX4_asks_37 rfl (lv_at hl 1 rfl) ?_
    obtain ⟨x8, t9, e10, hf⟩ := tw_bdE hf
    refine gw_iget (ci := 3) (k := 4) (T := TX4) C hP rfl in_X4 (by decide) e10 q247 rfl dX4_asks_38 (fun hP => ?_)
    refine lv_iconst (v := (1 : Int32)) hx hb dX4_asks_41 (by decide) ?_
    refine lv_ishl hx hb dX4_asks_42 ?_
    refine lv_iload_n hx hb dX4_asks_43 rfl (lv_at hl 0 rfl) ?_
    refine lv_ior hx hb dX4_asks_44 ?_
    refine lv_bipush (v := (31 : Int32)) hx hb dX4_asks_45 (by decide) ?_
    refine lv_iand hx hb dX4_asks_47 ?_
    obtain ⟨x11, t12, e13, hf⟩ := tw_bdE hf
    refine gw_vput (ci := 3) (k := 4) (T := TX4) C hP hS rfl in_X4 tyX4 tyX4_ok nmX4 (by decide) e13 q247 rfl rfl (vp_nar_int _) rfl dX4_asks_48 (fun H locs hP hS => ?_)
    exact gw_iretv (tw_rtE hf).2 rfl rfl C hr hP hS hlk dX4_asks_51
  refine lv_icmp_lt (tgt := 17) hx hb dX4_asks_10 (by decide) (fun hc => ?_) (fun hc => ?_)
  · have hf := tw_ifT hc hf
    refine lv_iload_n hx hb dX4_asks_17 rfl (lv_at hl 0 rfl) ?_
    refine lv_aload_n hx hb dX4_asks_18 rfl (lv_at hl 1 rfl) ?_
    obtain ⟨x14, t15, e16, hf⟩ := tw_bdE hf
    refine gw_iget (ci := 3) (k := 2) (T := TX4) C hP rfl in_X4 (by decide) e16 q243 rfl dX4_asks_19 (fun hP => ?_)
    refine lv_icmp_gt (tgt := 29) hx hb dX4_asks_22 (by decide) (fun hc => ?_) (fun hc => ?_)
    · have hf := tw_ifT hc hf
      refine lv_aload_n hx hb dX4_asks_29 rfl (lv_at hl 1 rfl) ?_
      obtain ⟨x17, t18, e19, hf⟩ := tw_bdE hf
      refine gw_iget (ci := 3) (k := 4) (T := TX4) C hP rfl in_X4 (by decide) e19 q247 rfl dX4_asks_30 (fun hP => ?_)
      refine lv_iconst (v := (1 : Int32)) hx hb dX4_asks_33 (by decide) ?_
      refine lv_iand hx hb dX4_asks_34 ?_
      exact k35 _ _ _ _ _ hP hS (lv_sub hl [1] rfl) hf
    · have hf := tw_ifF hc hf
      refine lv_iconst (v := (0 : Int32)) hx hb dX4_asks_25 (by decide) ?_
      refine lv_goto (tgt := 35) hx hb dX4_asks_26 (by decide) ?_
      exact k35 _ _ _ _ _ hP hS (lv_sub hl [1] rfl) hf
  · have hf := tw_ifF hc hf
    refine lv_iconst (v := (1 : Int32)) hx hb dX4_asks_13 (by decide) ?_
    refine lv_goto (tgt := 35) hx hb dX4_asks_14 (by decide) ?_
    exact k35 _ _ _ _ _ hP hS (lv_sub hl [1] rfl) hf
def fx_X1_lambda_new_0_J37  (w37_0 : Int32) : HM Int32 :=
  tw_rt w37_0
def fx_X1_lambda_new_0 (a0 : Nat) (a1 : Int32) (a2 : Int32) : HM Int32 :=
  if a1 ≤ (5 : Int32) then (if a2 ≤ (5 : Int32) then (fx_X1_lambda_new_0_J37 (0 : Int32))
  else (tw_bd (gw_gr 0 4 a0) fun x2 =>
  tw_bd (gw_gi 1 9 x2) fun x5 =>
 
  fx_X1_lambda_new_0_J37 x5))
  else (tw_bd (gw_gr 0 4 a0) fun x8 =>
  tw_bd (gw_gi 1 9 x8) fun x11 =>
 
  fx_X1_lambda_new_0_J37 ((x11 * (2 : Int32)) * (a1 - (5 : Int32))))
theorem hdX1_lambda_new_0 : yX1_lambda_new_0.cls = "LosslessFabric" ∧ (yX1_lambda_new_0.cls ≠ "java/lang/invoke/MethodHandle" ∧ yX1_lambda_new_0.cls ≠ "java/lang/invoke/VarHandle" ∧ (parseMethodDescriptor yX1_lambda_new_0.desc).map (fun d => d.parameters.length) = some 2) := by decide +kernel
set_option maxHeartbeats 4000000 in
theorem mx_X1_lambda_new_0 {l : Launch} {K : GK} (hA : gw_A K) (a0 : Nat) (a1 : Int32) (a2 : Int32) (t0 tZ : Hp) (r : Int32) (hf : fx_X1_lambda_new_0 a0 a1 a2 t0 = some (r, tZ)) : Met l yX1_lambda_new_0 (ws_ yX1_lambda_new_0 cX1_lambda_new_0 3 (some (.int))) ({ frames := 2, cells := 0, slots := 0, locals := 12 }) (va_Pc [.ref a0, .int a1, .int a2] (gw_W K t0)) (gw_Qi K r tZ) 0 0 K.2.2.2.1 := by
  refine Met.ofW (cc := cX1_lambda_new_0) (maxL := 3) (ret := some (.int)) (by decide) rfl ?_
  intro p e s m args below meth c s₁ B hml hv
  obtain ⟨rfl, hP, hK, hX, hN, hL⟩ := hv
  have hx := B.exec
  have hb := B.bytes
  have hr := B.returns
  have hts := atoms_spec (ws := (ws_ yX1_lambda_new_0 cX1_lambda_new_0 3 (some (.int)))) B.pre
  have hts : ∀ w ∈ lw_all, w.before _ s = true := fun w h => hts w (List.mem_cons_of_mem _ h)
  have hown : s.vm.findClass "LosslessFabric" = some m.cls := findClass_of_methodNamed B.named
  have hlk := B.notSynchronized
  have C : gw_C K "LosslessFabric" p s m _ c cX1_lambda_new_0 := ⟨hx, hb, hts, hown, hK, hA, hX, hN, hL⟩
  have hS : va_S K.2.2.2.1 s.heap s.heap [] := va_S.rf
  have hl := lv_entry ([.ref a0, .int a1, .int a2]) (n := 3) (Nat.le_of_ble_eq_true rfl)
  rw [lg_entry_eq]
  generalize (lg_sl ([.ref a0, .int a1, .int a2]) ++ List.replicate (3 - (lg_sl ([.ref a0, .int a1, .int a2])).length) Slot.unset).toArray = ls at hl ⊢
  have hl : lv_has ls 3 [(0, .ref a0), (1, .int a1), (2, .int a2)] := hl
  unfold fx_X1_lambda_new_0 at hf
  refine lv_iload_n hx hb dX1_lambda_new_0_0 rfl (lv_at hl 1 rfl) ?_
  refine lv_iconst (v := (5 : Int32)) hx hb dX1_lambda_new_0_1 (by decide) ?_
  have k37 : ∀ (w37_0 : Int32) (t1 : Hp) (H : Heap) (locs : List Loc) (ls : Array Slot), gw_P K t1 H → va_S K.2.2.2.1 s.heap H locs → lv_has ls 3 [] → fx_X1_lambda_new_0_J37 w37_0 t1 = some (r, tZ) → W p l e (headSpec (ws_ yX1_lambda_new_0 cX1_lambda_new_0 3 (some (.int))) ({ frames := 2, cells := 0, slots := 0, locals := 12 })).room s m ([.ref a0, .int a1, .int a2] : List Value).toArray below meth c H locs 0 0 (MQ below (gw_Qi K r tZ) ([.ref a0, .int a1, .int a2] : List Value).toArray s 0 0 K.2.2.2.1) (F0 m 37 ls [.int w37_0]) := by
    intro w37_0 t1 H locs ls hP hS hl hf
    unfold fx_X1_lambda_new_0_J37 at hf
    exact gw_ireti (tw_rtE hf).1 (tw_rtE hf).2 rfl rfl C hr hP hS hlk dX1_lambda_new_0_37
  refine lv_icmp_le (tgt := 21) hx hb dX1_lambda_new_0_2 (by decide) (fun hc => ?_) (fun hc => ?_)
  · have hf := tw_ifT hc hf
    refine lv_iload_n hx hb dX1_lambda_new_0_21 rfl (lv_at hl 2 rfl) ?_
    refine lv_iconst (v := (5 : Int32)) hx hb dX1_lambda_new_0_22 (by decide) ?_
    refine lv_icmp_le (tgt := 36) hx hb dX1_lambda_new_0_23 (by decide) (fun hc => ?_) (fun hc => ?_)
    · have hf := tw_ifT hc hf
      refine lv_iconst (v := (0 : Int32)) hx hb dX1_lambda_new_0_36 (by decide) ?_
      exact k37 _ _ _ _ _ hP hS (lv_sub hl [] rfl) hf
    · have hf := tw_ifF hc hf
      refine lv_aload_n hx hb dX1_lambda_new_0_26 rfl (lv_at hl 0 rfl) ?_
      obtain ⟨x2, t3, e4, hf⟩ := tw_bdE hf
      refine gw_rget (ci := 0) (k := 4) (T := TX1) C hP rfl in_X1 (by decide) e4 q394 rfl dX1_lambda_new_0_27 (fun hP => ?_)
      obtain ⟨x5, t6, e7, hf⟩ := tw_bdE hf
      refine gw_igetN (ci := 1) (k := 9) (T := TX2) C hP rfl in_X2 (by decide) e7 q184 rfl dX1_lambda_new_0_30 (fun hP => ?_)
      refine lv_goto (tgt := 37) hx hb dX1_lambda_new_0_33 (by decide) ?_
      exact k37 _ _ _ _ _ hP hS (lv_sub hl [] rfl) hf
  · have hf := tw_ifF hc hf
    refine lv_aload_n hx hb dX1_lambda_new_0_5 rfl (lv_at hl 0 rfl) ?_
    obtain ⟨x8, t9, e10, hf⟩ := tw_bdE hf
    refine gw_rget (ci := 0) (k := 4) (T := TX1) C hP rfl in_X1 (by decide) e10 q394 rfl dX1_lambda_new_0_6 (fun hP => ?_)
    obtain ⟨x11, t12, e13, hf⟩ := tw_bdE hf
    refine gw_igetN (ci := 1) (k := 9) (T := TX2) C hP rfl in_X2 (by decide) e13 q184 rfl dX1_lambda_new_0_9 (fun hP => ?_)
    refine lv_iconst (v := (2 : Int32)) hx hb dX1_lambda_new_0_12 (by decide) ?_
    refine lv_imul hx hb dX1_lambda_new_0_13 ?_
    refine lv_iload_n hx hb dX1_lambda_new_0_14 rfl (lv_at hl 1 rfl) ?_
    refine lv_iconst (v := (5 : Int32)) hx hb dX1_lambda_new_0_15 (by decide) ?_
    refine lv_isub hx hb dX1_lambda_new_0_16 ?_
    refine lv_imul hx hb dX1_lambda_new_0_17 ?_
    refine lv_goto (tgt := 37) hx hb dX1_lambda_new_0_18 (by decide) ?_
    exact k37 _ _ _ _ _ hP hS (lv_sub hl [] rfl) hf
theorem gl_y0 : ∀ sig, parseMethodDescriptor gl_n0.desc = some sig → 2 = sig.parameters.length := by
  intro sig h
  have h1 : (parseMethodDescriptor gl_n0.desc).map (fun d => d.parameters.length) = some 2 := by decide +kernel
  rw [h] at h1
  exact (Option.some.inj h1).symm
theorem gl_z0 : ∀ sig, parseMethodDescriptor yX1_lambda_new_0.desc = some sig → 2 = sig.parameters.length := by
  intro sig h
  have h1 : (parseMethodDescriptor yX1_lambda_new_0.desc).map (fun d => d.parameters.length) = some 2 := by decide +kernel
  rw [h] at h1
  exact (Option.some.inj h1).symm
section GwFw0
variable {p : Program} {l : Launch} {e : Env} {R : Room} {s : State} {m : MethodId} {args : Array Value} {below : List Frame} {meth : Method} {c : Code} {H : Heap} {locs : List Loc} {cells slots : Nat} {Q : State → Prop}
variable {cc : ByteArray} {pc : Nat} {ls : Array Slot} {rest : List Value} {K : GK} {h u : Hp} {H0 : Heap} {own : String}

set_option maxHeartbeats 4000000 in
theorem gw_fw0 {r index : Nat} {o : Nat} {p0 : Int32} {p1 : Int32} {v : Int32} {F : Nat → Value} (C : gw_C K own p s m args c cc) (hP : gw_P K h H) (hS : va_S K.2.2.2.1 s.heap H locs) (hO : gw_ob h r 100 = some F) (hF0 : F 0 = .ref o) (hO2 : ∃ F2, gw_ob h o 0 = some F2) (he : fx_X1_lambda_new_0 o p0 p1 h = some (v, u)) (hlink : Cond.methodLink own index gl_n0 ∈ lw_all) (hsize : ls.size = c.maxLocals) (hw : (rest.map fun v => v.category).sum ≤ 8) (hfr : 4 ≤ R.frames) (hlo : 56 ≤ R.locals) (hcells : cells + 0 ≤ R.cells) (hslots : slots + 0 ≤ R.slots) (hdg : decode cc pc = .ok (.invokeinterface index 3, 5)) : va_Run5 p l e R s m args below meth c H locs cells slots 0 0 (F0 m pc ls (.int p1 :: .int p0 :: .ref r :: rest)) rest (gw_Qi K v u (Value.ref r :: [.int p0, .int p1]).toArray) K.2.2.2.1 := by
  have hcell := (hP.1 r _ (gw_obE hO)).1
  unfold gw_at at hcell
  dsimp only at hcell
  rw [if_neg (by decide)] at hcell
  obtain ⟨cell, g1, g2, g3, g4⟩ := hcell
  have g50 : cell.slots[0]? = some (.ref o) := by rw [g4 0 (by decide), hF0]
  refine gl_call (xi := gl_n0) (y := yX1_lambda_new_0) (R' := { frames := 3, cells := 0, slots := 0, locals := 34 }) (Qc := gw_Qi K v u) (mc := 0) (ms := 0) (free := K.2.2.2.1) (As := [.int p0, .int p1]) C.1 C.2.1 C.2.2.2.1 (C.2.2.1 _ hlink) (va_Nw.use (w := .declares gl_n0) rfl C.2.2.2.2.2.2.2.2.2.1.1) (va_Nw.use (w := .interfaceMethod gl_n0.cls gl_n0.cls gl_n0.name gl_n0.desc) rfl C.2.2.2.2.2.2.2.2.2.1.2) (by decide) C.2.2.2.2.2.2.2.2.1.1 rfl (C.2.2.1 _ q1943) (C.2.2.1 _ q129) rfl rfl gl_t0.2 gl_f0 rfl rfl gl_t0.1 gl_g0 gl_h0 gl_i0 gl_p0 gl_k0 gl_l0 rfl g1 g2 g3 gl_y0 rfl hsize rfl hdg hfr (by show 2 * 0 + _ + (3 + 11) + 34 ≤ _; omega) hcells hslots ?_
  intro s' below' methk ck hH' hW' hbytes hmlK hlk hret hR hfld
  obtain ⟨fd0, hfd0, hfs0, hfl0⟩ := hfld 15 _ _ 0 0 "arg$1" _ gl_q0_0.1 gl_q0_0.2 rfl rfl
  rw [lg_entry_eq]
  have hl := lv_entry ([.ref r, .int p0, .int p1]) (n := 3) (Nat.le_of_ble_eq_true rfl)
  generalize (lg_sl ([.ref r, .int p0, .int p1]) ++ List.replicate (3 - (lg_sl ([.ref r, .int p0, .int p1])).length) Slot.unset).toArray = ls' at hl ⊢
  have hl : lv_has ls' 3 [(0, .ref r), (1, .int p0), (2, .int p1)] := hl
  refine lv_aload_n C.1 hbytes gl_d0_0 rfl (lv_at hl 0 rfl) ?_
  refine gl_getf C.1 hbytes hfd0 hfs0 g1 (by rw [g3]; exact fun h => by cases h) (by rw [hfl0]; exact g50) gl_d0_1 ?_
  refine lv_iload_n C.1 hbytes gl_d0_4 rfl (lv_at hl 1 rfl) ?_
  refine lv_iload_n C.1 hbytes gl_d0_5 rfl (lv_at hl 2 rfl) ?_
  have recv9 : ∃ cell : Cell, H[o]? = some cell ∧ cell.vm.isStatics = false ∧ s'.vm.findClass "LosslessFabric" = some cell.cls := by
    obtain ⟨c9, k1, k2, k3⟩ := gw_recv (ci := 0) (r := (RX1, TX1, 18)) C hP rfl hO2
    exact ⟨c9, k1, k2, by rw [hW'.alike.findClass]; exact k3⟩
  have here9 : ∀ U : State, U.heap = H → s'.WarmedH U.vm → va_Pc (.ref o :: [.int p0, .int p1]) (gw_W K h) ((.ref o :: [.int p0, .int p1]) : List Value).toArray U := fun U hU hW9 => gw_here C hS hP U hU (State.WarmedH.trans hW' hW9)
  have hS9 : va_S K.2.2.2.1 s'.heap H [] := by rw [hH']; exact va_S.rf
  refine va_calli (gl_runV (n := 0) (bytes := cX1_lambda_new_0) (maxL := 3) (ret := some .int) (As := [.int p0, .int p1]) (rest := []) C.1 hbytes (mx_X1_lambda_new_0 (l := l) (K := K) C.2.2.2.2.2.1 _ _ _ _ _ _ he) rfl rfl (Nat.le_of_ble_eq_true rfl) (Nat.le_of_ble_eq_true rfl) (fun w hw a' U hU => pay_in C.2.2.1 (lw_meth q222) w hw a' U (State.WarmedH.trans hW' hU)) List.mem_cons_self (pay_in C.2.2.1 lw_self _ q222 _ s' hW') (pay_in C.2.2.1 lw_self _ q101 _ s' hW') (pay_in C.2.2.1 lw_self _ q221 _ s' hW') (pay_in C.2.2.1 lw_self _ qs0 _ s' hW') rfl gl_z0 hR ⟨gw_blind, recv9, here9⟩ rfl (by rw [hmlK]; exact hl.1) rfl (lv_room (Nat.le_of_ble_eq_true rfl)) gl_d0_6 ⟨Nat.le_of_eq (Nat.zero_add _), Nat.le_of_eq (Nat.zero_add _)⟩) hS9 (fun q _ h => h) (fun q h => h) (fun r9 u9 t9 H1 locs1 ht hvm hp hB hz hk hS1 => ?_)
  subst hp
  subst ht
  exact W.iret C.1 hbytes hret (fun t2 ht2 hW2 => ⟨⟨_, (), rfl, rfl, by show gw_P K u t2.heap; rw [ht2]; exact hB⟩, hS1.F ht2⟩) hS1.2.2 gl_d0_9 hlk
end GwFw0

def fj_0 (r : Nat) (p0 : Int32) (p1 : Int32) : HM Int32 := fun h => match gw_ob h r 100 with
  | some F => (match F 0 with | .ref o => (gw_on 0 o (fx_X1_lambda_new_0 o p0 p1)) h | _ => none)
  | none => none
def fi_0 (r : Nat) (p0 : Int32) (p1 : Int32) : HM Int32 := fj_0 r p0 p1
section GwIf0
variable {p : Program} {l : Launch} {e : Env} {R : Room} {s : State} {m : MethodId} {args : Array Value} {below : List Frame} {meth : Method} {c : Code} {H : Heap} {locs : List Loc} {cells slots : Nat} {Q : State → Prop}
variable {cc : ByteArray} {pc : Nat} {ls : Array Slot} {rest : List Value} {K : GK} {h u : Hp} {H0 : Heap} {own : String}

theorem gw_if0 {r index : Nat} {p0 : Int32} {p1 : Int32} {v : Int32} (C : gw_C K own p s m args c cc) (hP : gw_P K h H) (hS : va_S K.2.2.2.1 s.heap H locs) (he : fi_0 r p0 p1 h = some (v, u)) (hlink : Cond.methodLink own index gl_n0 ∈ lw_all) (hsize : ls.size = c.maxLocals) (hw : (rest.map fun v => v.category).sum ≤ 8) (hfr : 4 ≤ R.frames) (hlo : 56 ≤ R.locals) (hcells : cells ≤ R.cells) (hslots : slots ≤ R.slots) (hdg : decode cc pc = .ok (.invokeinterface index 3, 5))
    (kk : ∀ (H1 : Heap) (locs1 : List Loc), gw_P K u H1 → va_S K.2.2.2.1 s.heap H1 locs1 → W p l e R s m args below meth c H1 locs1 (cells) (slots) Q (F0 m (pc + 5) ls (.int v :: rest))) : W p l e R s m args below meth c H locs cells slots Q (F0 m pc ls (.int p1 :: .int p0 :: .ref r :: rest)) := by
  unfold fi_0 at he
  unfold fj_0 at he
  split at he
  case h_1 F hO =>
    split at he
    case h_2 => cases he
    case h_1 o hF0 =>
    obtain ⟨hO2, he⟩ := gw_onE he
    refine va_callFi (gw_fw0 C hP hS hO hF0 hO2 he hlink hsize hw (Nat.le_trans (Nat.le_of_ble_eq_true rfl) hfr) (Nat.le_trans (Nat.le_of_ble_eq_true rfl) hlo) hcells hslots hdg) hS (fun q _ h => h) (fun q h => h) (fun r9 u9 t9 H1 locs1 ht hvm hp hB hz hk hS1 => ?_)
    subst hp
    subst ht
    exact kk _ locs1 hB hS1
  case h_2 =>
    cases he
end GwIf0

def fx_X5_climbs (a0 : Nat) (a1 : Int32) (a2 : Nat) : HM Unit :=
  tw_bd (gw_gr 4 10 a0) fun x1 =>
  tw_bd (gw_ld 0 x1 a1) fun x4 =>
  tw_bd (gw_st x1 a1 (x4 + (1 : Int32))) fun _ =>
  tw_bd (gw_gi 4 1 a0) fun x10 =>
  tw_bd (gw_gr 4 10 a0) fun x13 =>
  tw_bd (gw_ld 0 x13 (0 : Int32)) fun x16 =>
  tw_bd (gw_gr 4 10 a0) fun x19 =>
  tw_bd (gw_ld 0 x19 (1 : Int32)) fun x22 =>
   tw_bd (gw_gr 4 10 a0) fun x25 =>
  tw_bd (gw_ld 0 x25 (0 : Int32)) fun x28 =>
  tw_bd (gw_gr 4 10 a0) fun x31 =>
  tw_bd (gw_ld 0 x31 (1 : Int32)) fun x34 =>
   tw_bd (fi_0 a2 (if x22 < x16 then x22 else x16) (if x28 < x34 then x34 else x28)) fun x37 =>
   tw_bd (gw_pi 4 1 a0 (if (x10 + x37) < (1024 : Int32) then (x10 + x37) else (1024 : Int32))) fun _ =>
  tw_bd (gw_gi 4 0 a0) fun x43 =>
  tw_bd (gw_gi 4 1 a0) fun x46 =>
  tw_bd (tw_nz (2 : Int32)) fun _ =>
  tw_bd (gw_pi 4 0 a0 ((x43 + x46) / (2 : Int32))) fun _ =>
  tw_rt ()
theorem hdX5_climbs : yX5_climbs.cls = "LosslessFabric$Sender" ∧ (yX5_climbs.cls ≠ "java/lang/invoke/MethodHandle" ∧ yX5_climbs.cls ≠ "java/lang/invoke/VarHandle" ∧ (parseMethodDescriptor yX5_climbs.desc).map (fun d => d.parameters.length) = some 2) := by decide +kernel
set_option maxHeartbeats 4000000 in
theorem mx_X5_climbs {l : Launch} {K : GK} (hA : gw_A K) (a0 : Nat) (a1 : Int32) (a2 : Nat) (t0 tZ : Hp) (r : Unit) (hf : fx_X5_climbs a0 a1 a2 t0 = some (r, tZ)) : Met l yX5_climbs (ws_ yX5_climbs cX5_climbs 3 (none)) ({ frames := 4, cells := 0, slots := 0, locals := 56 }) (va_Pc [.ref a0, .int a1, .ref a2] (gw_W K t0)) (gw_Qv K tZ) 0 0 K.2.2.2.1 := by
  refine Met.ofW (cc := cX5_climbs) (maxL := 3) (ret := none) (by decide) rfl ?_
  intro p e s m args below meth c s₁ B hml hv
  obtain ⟨rfl, hP, hK, hX, hN, hL⟩ := hv
  have hx := B.exec
  have hb := B.bytes
  have hr := B.returns
  have hts := atoms_spec (ws := (ws_ yX5_climbs cX5_climbs 3 (none))) B.pre
  have hts : ∀ w ∈ lw_all, w.before _ s = true := fun w h => hts w (List.mem_cons_of_mem _ h)
  have hown : s.vm.findClass "LosslessFabric$Sender" = some m.cls := findClass_of_methodNamed B.named
  have hlk := B.notSynchronized
  have C : gw_C K "LosslessFabric$Sender" p s m _ c cX5_climbs := ⟨hx, hb, hts, hown, hK, hA, hX, hN, hL⟩
  have hS : va_S K.2.2.2.1 s.heap s.heap [] := va_S.rf
  have hl := lv_entry ([.ref a0, .int a1, .ref a2]) (n := 3) (Nat.le_of_ble_eq_true rfl)
  rw [lg_entry_eq]
  generalize (lg_sl ([.ref a0, .int a1, .ref a2]) ++ List.replicate (3 - (lg_sl ([.ref a0, .int a1, .ref a2])).length) Slot.unset).toArray = ls at hl ⊢
  have hl : lv_has ls 3 [(0, .ref a0), (1, .int a1), (2, .ref a2)] := hl
  unfold fx_X5_climbs at hf
  refine lv_aload_n hx hb dX5_climbs_0 rfl (lv_at hl 0 rfl) ?_
  obtain ⟨x1, t2, e3, hf⟩ := tw_bdE hf
  refine gw_rget (ci := 4) (k := 10) (T := TX5) C hP rfl in_X5 (by decide) e3 q321 rfl dX5_climbs_1 (fun hP => ?_)
  refine lv_iload_n hx hb dX5_climbs_4 rfl (lv_at hl 1 rfl) ?_
  refine lv_dup2_11 hx hb dX5_climbs_5 rfl rfl ?_
  obtain ⟨x4, t5, e6, hf⟩ := tw_bdE hf
  refine gw_iald C hP e6 dX5_climbs_6 (fun hP => ?_)
  refine lv_iconst (v := (1 : Int32)) hx hb dX5_climbs_7 (by decide) ?_
  refine lv_iadd hx hb dX5_climbs_8 ?_
  obtain ⟨x7, t8, e9, hf⟩ := tw_bdE hf
  refine gw_iast C hP hS e9 dX5_climbs_9 (fun H locs hP hS => ?_)
  refine lv_aload_n hx hb dX5_climbs_10 rfl (lv_at hl 0 rfl) ?_
  refine lv_sipush (v := (1024 : Int32)) hx hb dX5_climbs_11 (by decide) ?_
  refine lv_aload_n hx hb dX5_climbs_14 rfl (lv_at hl 0 rfl) ?_
  obtain ⟨x10, t11, e12, hf⟩ := tw_bdE hf
  refine gw_iget (ci := 4) (k := 1) (T := TX5) C hP rfl in_X5 (by decide) e12 q298 rfl dX5_climbs_15 (fun hP => ?_)
  refine lv_aload_n hx hb dX5_climbs_18 rfl (lv_at hl 2 rfl) ?_
  refine lv_aload_n hx hb dX5_climbs_19 rfl (lv_at hl 0 rfl) ?_
  obtain ⟨x13, t14, e15, hf⟩ := tw_bdE hf
  refine gw_rget (ci := 4) (k := 10) (T := TX5) C hP rfl in_X5 (by decide) e15 q321 rfl dX5_climbs_20 (fun hP => ?_)
  refine lv_iconst (v := (0 : Int32)) hx hb dX5_climbs_23 (by decide) ?_
  obtain ⟨x16, t17, e18, hf⟩ := tw_bdE hf
  refine gw_iald C hP e18 dX5_climbs_24 (fun hP => ?_)
  refine lv_aload_n hx hb dX5_climbs_25 rfl (lv_at hl 0 rfl) ?_
  obtain ⟨x19, t20, e21, hf⟩ := tw_bdE hf
  refine gw_rget (ci := 4) (k := 10) (T := TX5) C hP rfl in_X5 (by decide) e21 q321 rfl dX5_climbs_26 (fun hP => ?_)
  refine lv_iconst (v := (1 : Int32)) hx hb dX5_climbs_29 (by decide) ?_
  obtain ⟨x22, t23, e24, hf⟩ := tw_bdE hf
  refine gw_iald C hP e24 dX5_climbs_30 (fun hP => ?_)
  refine va_mmin (rest := [.ref a2, .int x10, .int (1024 : Int32), .ref a0]) hx hb (hml.trans hl.1.symm) hown (hts _ q943) (hts _ q524) (hts _ q110) (hts _ q525) (Nat.le_of_ble_eq_true rfl) (Nat.le_of_ble_eq_true rfl) (Nat.zero_le _) (Nat.zero_le _) dX5_climbs_31 ?_
  refine lv_aload_n hx hb dX5_climbs_34 rfl (lv_at hl 0 rfl) ?_
  obtain ⟨x25, t26, e27, hf⟩ := tw_bdE hf
  refine gw_rget (ci := 4) (k := 10) (T := TX5) C hP rfl in_X5 (by decide) e27 q321 rfl dX5_climbs_35 (fun hP => ?_)
  refine lv_iconst (v := (0 : Int32)) hx hb dX5_climbs_38 (by decide) ?_
  obtain ⟨x28, t29, e30, hf⟩ := tw_bdE hf
  refine gw_iald C hP e30 dX5_climbs_39 (fun hP => ?_)
  refine lv_aload_n hx hb dX5_climbs_40 rfl (lv_at hl 0 rfl) ?_
  obtain ⟨x31, t32, e33, hf⟩ := tw_bdE hf
  refine gw_rget (ci := 4) (k := 10) (T := TX5) C hP rfl in_X5 (by decide) e33 q321 rfl dX5_climbs_41 (fun hP => ?_)
  refine lv_iconst (v := (1 : Int32)) hx hb dX5_climbs_44 (by decide) ?_
  obtain ⟨x34, t35, e36, hf⟩ := tw_bdE hf
  refine gw_iald C hP e36 dX5_climbs_45 (fun hP => ?_)
  refine va_mmax (rest := [.int (if x22 < x16 then x22 else x16), .ref a2, .int x10, .int (1024 : Int32), .ref a0]) hx hb (hml.trans hl.1.symm) hown (hts _ q921) (hts _ q521) (hts _ q110) (hts _ q522) (Nat.le_of_ble_eq_true rfl) (Nat.le_of_ble_eq_true rfl) (Nat.zero_le _) (Nat.zero_le _) dX5_climbs_46 ?_
  obtain ⟨x37, t38, e39, hf⟩ := tw_bdE hf
  refine gw_if0 (rest := [.int x10, .int (1024 : Int32), .ref a0]) C hP hS e39 q945 (hl.1.trans hml.symm) (Nat.le_of_ble_eq_true rfl) (Nat.le_of_ble_eq_true rfl) (Nat.le_of_ble_eq_true rfl) (Nat.zero_le _) (Nat.zero_le _) dX5_climbs_49 (fun H locs hP hS => ?_)
  refine lv_iadd hx hb dX5_climbs_54 ?_
  refine va_mmin (rest := [.ref a0]) hx hb (hml.trans hl.1.symm) hown (hts _ q943) (hts _ q524) (hts _ q110) (hts _ q525) (Nat.le_of_ble_eq_true rfl) (Nat.le_of_ble_eq_true rfl) (Nat.zero_le _) (Nat.zero_le _) dX5_climbs_55 ?_
  obtain ⟨x40, t41, e42, hf⟩ := tw_bdE hf
  refine gw_vput (ci := 4) (k := 1) (T := TX5) C hP hS rfl in_X5 tyX5 tyX5_ok nmX5 (by decide) e42 q298 rfl rfl (vp_nar_int _) rfl dX5_climbs_58 (fun H locs hP hS => ?_)
  refine lv_aload_n hx hb dX5_climbs_61 rfl (lv_at hl 0 rfl) ?_
  refine lv_aload_n hx hb dX5_climbs_62 rfl (lv_at hl 0 rfl) ?_
  obtain ⟨x43, t44, e45, hf⟩ := tw_bdE hf
  refine gw_iget (ci := 4) (k := 0) (T := TX5) C hP rfl in_X5 (by decide) e45 q296 rfl dX5_climbs_63 (fun hP => ?_)
  refine lv_aload_n hx hb dX5_climbs_66 rfl (lv_at hl 0 rfl) ?_
  obtain ⟨x46, t47, e48, hf⟩ := tw_bdE hf
  refine gw_iget (ci := 4) (k := 1) (T := TX5) C hP rfl in_X5 (by decide) e48 q298 rfl dX5_climbs_67 (fun hP => ?_)
  refine lv_iadd hx hb dX5_climbs_70 ?_
  refine lv_iconst (v := (2 : Int32)) hx hb dX5_climbs_71 (by decide) ?_
  obtain ⟨w49, t50, e51, hf⟩ := tw_bdE hf
  rw [← (tw_nzE e51).2] at hf
  refine lv_idiv hx hb dX5_climbs_72 (tw_nzE e51).1 ?_
  obtain ⟨x52, t53, e54, hf⟩ := tw_bdE hf
  refine gw_vput (ci := 4) (k := 0) (T := TX5) C hP hS rfl in_X5 tyX5 tyX5_ok nmX5 (by decide) e54 q296 rfl rfl (vp_nar_int _) rfl dX5_climbs_73 (fun H locs hP hS => ?_)
  exact gw_iretv (tw_rtE hf).2 rfl rfl C hr hP hS hlk dX5_climbs_76
def fx_X5_recovers_L13 (a0 : Nat) (a1 : Nat) (a2 : Nat) (sf13 : HM Unit)  : HM Unit :=
  tw_bd (gw_gi 4 7 a0) fun x11 =>
  tw_bd (gw_gi 1 7 a1) fun x14 =>
  if x11 < x14 then (tw_bd (gw_gi 4 8 a0) fun x17 =>
  tw_bd (gw_pi 4 8 a0 (x17 + (1 : Int32))) fun _ =>
  tw_bd (gw_gi 4 8 a0) fun x23 =>
  tw_bd (gw_gi 1 8 a1) fun x26 =>
  if x26 ≤ x23 then (tw_bd (gw_pi 4 8 a0 (0 : Int32)) fun _ =>
  tw_bd (gw_on 4 a0 (fx_X5_climbs a0 (1 : Int32) a2)) fun _ =>
  tw_rt ())
  else (tw_rt ()))
  else (tw_bd (gw_gi 4 7 a0) fun x35 =>
  tw_bd (gw_gi 1 7 a1) fun x38 =>
  tw_bd (gw_pi 4 7 a0 (x35 - x38)) fun _ =>
  tw_bd (gw_on 4 a0 (fx_X5_climbs a0 (0 : Int32) a2)) fun _ =>
 
  sf13)
def fx_X5_recovers (a0 : Nat) (a1 : Nat) (a2 : Nat) : HM Unit :=
  tw_bd (gw_gi 4 7 a0) fun x1 =>
  tw_bd (gw_gi 4 9 a0) fun x4 =>
  tw_bd (gw_pi 4 7 a0 (x1 + x4)) fun _ =>
 
  tw_lp (fx_X5_recovers_L13 a0 a1 a2) (fun _ => none) tw_fu
theorem hdX5_recovers : yX5_recovers.cls = "LosslessFabric$Sender" ∧ (yX5_recovers.cls ≠ "java/lang/invoke/MethodHandle" ∧ yX5_recovers.cls ≠ "java/lang/invoke/VarHandle" ∧ (parseMethodDescriptor yX5_recovers.desc).map (fun d => d.parameters.length) = some 2) := by decide +kernel
set_option maxHeartbeats 4000000 in
theorem mx_X5_recovers {l : Launch} {K : GK} (hA : gw_A K) (a0 : Nat) (a1 : Nat) (a2 : Nat) (t0 tZ : Hp) (r : Unit) (hf : fx_X5_recovers a0 a1 a2 t0 = some (r, tZ)) : Met l yX5_recovers (ws_ yX5_recovers cX5_recovers 3 (none)) ({ frames := 5, cells := 0, slots := 0, locals := 78 }) (va_Pc [.ref a0, .ref a1, .ref a2] (gw_W K t0)) (gw_Qv K tZ) 0 0 K.2.2.2.1 := by
  refine Met.ofW (cc := cX5_recovers) (maxL := 3) (ret := none) (by decide) rfl ?_
  intro p e s m args below meth c s₁ B hml hv
  obtain ⟨rfl, hP, hK, hX, hN, hL⟩ := hv
  have hx := B.exec
  have hb := B.bytes
  have hr := B.returns
  have hts := atoms_spec (ws := (ws_ yX5_recovers cX5_recovers 3 (none))) B.pre
  have hts : ∀ w ∈ lw_all, w.before _ s = true := fun w h => hts w (List.mem_cons_of_mem _ h)
  have hown : s.vm.findClass "LosslessFabric$Sender" = some m.cls := findClass_of_methodNamed B.named
  have hlk := B.notSynchronized
  have C : gw_C K "LosslessFabric$Sender" p s m _ c cX5_recovers := ⟨hx, hb, hts, hown, hK, hA, hX, hN, hL⟩
  have hS : va_S K.2.2.2.1 s.heap s.heap [] := va_S.rf
  have hl := lv_entry ([.ref a0, .ref a1, .ref a2]) (n := 3) (Nat.le_of_ble_eq_true rfl)
  rw [lg_entry_eq]
  generalize (lg_sl ([.ref a0, .ref a1, .ref a2]) ++ List.replicate (3 - (lg_sl ([.ref a0, .ref a1, .ref a2])).length) Slot.unset).toArray = ls at hl ⊢
  have hl : lv_has ls 3 [(0, .ref a0), (1, .ref a1), (2, .ref a2)] := hl
  unfold fx_X5_recovers at hf
  refine lv_aload_n hx hb dX5_recovers_0 rfl (lv_at hl 0 rfl) ?_
  refine lv_dup hx hb dX5_recovers_1 rfl ?_
  obtain ⟨x1, t2, e3, hf⟩ := tw_bdE hf
  refine gw_iget (ci := 4) (k := 7) (T := TX5) C hP rfl in_X5 (by decide) e3 q315 rfl dX5_recovers_2 (fun hP => ?_)
  refine lv_aload_n hx hb dX5_recovers_5 rfl (lv_at hl 0 rfl) ?_
  obtain ⟨x4, t5, e6, hf⟩ := tw_bdE hf
  refine gw_iget (ci := 4) (k := 9) (T := TX5) C hP rfl in_X5 (by decide) e6 q319 rfl dX5_recovers_6 (fun hP => ?_)
  refine lv_iadd hx hb dX5_recovers_9 ?_
  obtain ⟨x7, t8, e9, hf⟩ := tw_bdE hf
  refine gw_vput (ci := 4) (k := 7) (T := TX5) C hP hS rfl in_X5 tyX5 tyX5_ok nmX5 (by decide) e9 q315 rfl rfl (vp_nar_int _) rfl dX5_recovers_10 (fun H locs hP hS => ?_)
  have k13 : ∀ (n : Nat)  (t10 : Hp) (H : Heap) (locs : List Loc) (ls : Array Slot), gw_P K t10 H → va_S K.2.2.2.1 s.heap H locs → lv_has ls 3 [(0, .ref a0), (1, .ref a1), (2, .ref a2)] → tw_lp (fx_X5_recovers_L13 a0 a1 a2) (fun _ => none) n  t10 = some (r, tZ) → W p l e (headSpec (ws_ yX5_recovers cX5_recovers 3 (none)) ({ frames := 5, cells := 0, slots := 0, locals := 78 })).room s m ([.ref a0, .ref a1, .ref a2] : List Value).toArray below meth c H locs 0 0 (MQ below (gw_Qv K tZ) ([.ref a0, .ref a1, .ref a2] : List Value).toArray s 0 0 K.2.2.2.1) (F0 m 13 ls []) := by
    intro n
    induction n with
    | zero => intro t10 H locs ls hP hS hl hf; exact (tw_no hf).elim
    | succ n ih13 =>
      intro t10 H locs ls hP hS hl hf
      obtain ⟨sf13, hs13⟩ : ∃ f, f = tw_lp (fx_X5_recovers_L13 a0 a1 a2) (fun _ => none) n := ⟨_, rfl⟩
      rw [← hs13] at ih13
      have hf : fx_X5_recovers_L13 a0 a1 a2 sf13  t10 = some (r, tZ) := by rw [hs13]; exact hf
      clear hs13
      unfold fx_X5_recovers_L13 at hf
      refine lv_aload_n hx hb dX5_recovers_13 rfl (lv_at hl 0 rfl) ?_
      obtain ⟨x11, t12, e13, hf⟩ := tw_bdE hf
      refine gw_iget (ci := 4) (k := 7) (T := TX5) C hP rfl in_X5 (by decide) e13 q315 rfl dX5_recovers_14 (fun hP => ?_)
      refine lv_aload_n hx hb dX5_recovers_17 rfl (lv_at hl 1 rfl) ?_
      obtain ⟨x14, t15, e16, hf⟩ := tw_bdE hf
      refine gw_igetN (ci := 1) (k := 7) (T := TX2) C hP rfl in_X2 (by decide) e16 q177 rfl dX5_recovers_18 (fun hP => ?_)
      refine lv_icmp_lt (tgt := 46) hx hb dX5_recovers_21 (by decide) (fun hc => ?_) (fun hc => ?_)
      · have hf := tw_ifT hc hf
        refine lv_aload_n hx hb dX5_recovers_46 rfl (lv_at hl 0 rfl) ?_
        refine lv_dup hx hb dX5_recovers_47 rfl ?_
        obtain ⟨x17, t18, e19, hf⟩ := tw_bdE hf
        refine gw_iget (ci := 4) (k := 8) (T := TX5) C hP rfl in_X5 (by decide) e19 q317 rfl dX5_recovers_48 (fun hP => ?_)
        refine lv_iconst (v := (1 : Int32)) hx hb dX5_recovers_51 (by decide) ?_
        refine lv_iadd hx hb dX5_recovers_52 ?_
        obtain ⟨x20, t21, e22, hf⟩ := tw_bdE hf
        refine gw_vput (ci := 4) (k := 8) (T := TX5) C hP hS rfl in_X5 tyX5 tyX5_ok nmX5 (by decide) e22 q317 rfl rfl (vp_nar_int _) rfl dX5_recovers_53 (fun H locs hP hS => ?_)
        refine lv_aload_n hx hb dX5_recovers_56 rfl (lv_at hl 0 rfl) ?_
        obtain ⟨x23, t24, e25, hf⟩ := tw_bdE hf
        refine gw_iget (ci := 4) (k := 8) (T := TX5) C hP rfl in_X5 (by decide) e25 q317 rfl dX5_recovers_57 (fun hP => ?_)
        refine lv_aload_n hx hb dX5_recovers_60 rfl (lv_at hl 1 rfl) ?_
        obtain ⟨x26, t27, e28, hf⟩ := tw_bdE hf
        refine gw_igetN (ci := 1) (k := 8) (T := TX2) C hP rfl in_X2 (by decide) e28 q180 rfl dX5_recovers_61 (fun hP => ?_)
        refine lv_icmp_ge (tgt := 68) hx hb dX5_recovers_64 (by decide) (fun hc => ?_) (fun hc => ?_)
        · have hf := tw_ifT hc hf
          refine lv_aload_n hx hb dX5_recovers_68 rfl (lv_at hl 0 rfl) ?_
          refine lv_iconst (v := (0 : Int32)) hx hb dX5_recovers_69 (by decide) ?_
          obtain ⟨x29, t30, e31, hf⟩ := tw_bdE hf
          refine gw_vput (ci := 4) (k := 8) (T := TX5) C hP hS rfl in_X5 tyX5 tyX5_ok nmX5 (by decide) e31 q317 rfl rfl (vp_nar_int _) rfl dX5_recovers_70 (fun H locs hP hS => ?_)
          refine lv_aload_n hx hb dX5_recovers_73 rfl (lv_at hl 0 rfl) ?_
          refine lv_iconst (v := (1 : Int32)) hx hb dX5_recovers_74 (by decide) ?_
          refine lv_aload_n hx hb dX5_recovers_75 rfl (lv_at hl 2 rfl) ?_
          obtain ⟨x32, t33, e34, hf⟩ := tw_bdE hf
          refine gw_cVv (As := [.int (1 : Int32), .ref a2]) (rest := []) (ci := 4) (T := TX5) (N := 12) C hml hP hS rfl (gw_onE e34).1 (mx_X5_climbs (l := l) (K := K) hA _ _ _ _ _ _ (gw_onE e34).2) (cwV 2 hts (lw_V q939 q940 q941 q105 q942) rfl rfl rfl hdX5_climbs ⟨Nat.le_of_ble_eq_true rfl, Nat.le_of_ble_eq_true rfl⟩) rfl hl.1 rfl (Nat.le_of_ble_eq_true rfl) (Nat.zero_le _) (Nat.zero_le _) dX5_recovers_76 (fun H locs hP hS => ?_)
          exact gw_iretv (tw_rtE hf).2 rfl rfl C hr hP hS hlk dX5_recovers_79
        · have hf := tw_ifF hc hf
          exact gw_iretv (tw_rtE hf).2 rfl rfl C hr hP hS hlk dX5_recovers_67
      · have hf := tw_ifF hc hf
        refine lv_aload_n hx hb dX5_recovers_24 rfl (lv_at hl 0 rfl) ?_
        refine lv_dup hx hb dX5_recovers_25 rfl ?_
        obtain ⟨x35, t36, e37, hf⟩ := tw_bdE hf
        refine gw_iget (ci := 4) (k := 7) (T := TX5) C hP rfl in_X5 (by decide) e37 q315 rfl dX5_recovers_26 (fun hP => ?_)
        refine lv_aload_n hx hb dX5_recovers_29 rfl (lv_at hl 1 rfl) ?_
        obtain ⟨x38, t39, e40, hf⟩ := tw_bdE hf
        refine gw_igetN (ci := 1) (k := 7) (T := TX2) C hP rfl in_X2 (by decide) e40 q177 rfl dX5_recovers_30 (fun hP => ?_)
        refine lv_isub hx hb dX5_recovers_33 ?_
        obtain ⟨x41, t42, e43, hf⟩ := tw_bdE hf
        refine gw_vput (ci := 4) (k := 7) (T := TX5) C hP hS rfl in_X5 tyX5 tyX5_ok nmX5 (by decide) e43 q315 rfl rfl (vp_nar_int _) rfl dX5_recovers_34 (fun H locs hP hS => ?_)
        refine lv_aload_n hx hb dX5_recovers_37 rfl (lv_at hl 0 rfl) ?_
        refine lv_iconst (v := (0 : Int32)) hx hb dX5_recovers_38 (by decide) ?_
        refine lv_aload_n hx hb dX5_recovers_39 rfl (lv_at hl 2 rfl) ?_
        obtain ⟨x44, t45, e46, hf⟩ := tw_bdE hf
        refine gw_cVv (As := [.int (0 : Int32), .ref a2]) (rest := []) (ci := 4) (T := TX5) (N := 12) C hml hP hS rfl (gw_onE e46).1 (mx_X5_climbs (l := l) (K := K) hA _ _ _ _ _ _ (gw_onE e46).2) (cwV 2 hts (lw_V q939 q940 q941 q105 q942) rfl rfl rfl hdX5_climbs ⟨Nat.le_of_ble_eq_true rfl, Nat.le_of_ble_eq_true rfl⟩) rfl hl.1 rfl (Nat.le_of_ble_eq_true rfl) (Nat.zero_le _) (Nat.zero_le _) dX5_recovers_40 (fun H locs hP hS => ?_)
        refine lv_goto (tgt := 13) hx hb dX5_recovers_43 (by decide) ?_
        exact ih13 _ _ _ _ hP hS (lv_sub hl [0, 1, 2] rfl) hf
  exact k13 _ _ _ _ _ hP hS (lv_sub hl [0, 1, 2] rfl) hf
def fx_X1_ticks_J303 (sf263 : Int32 → gM Unit) (v263_2 : Int32)  : gM Unit :=
  sf263 (v263_2 + (1 : Int32))
def fx_X1_ticks_L263 (a0 : Nat) (a1 : Nat) (sf263 : Int32 → gM Unit) (v263_2 : Int32) : gM Unit :=
  gw_b0 (gw_gr 0 4 a0) fun x57 =>
  gw_b0 (gw_gi 1 3 x57) fun x60 =>
  if x60 ≤ v263_2 then (gw_rc ())
  else (gw_b0 (gw_gr 2 3 a1) fun x63 =>
  gw_b0 (gw_lr 7 x63 v263_2) fun x66 =>
  gw_b0 (gw_gi 4 11 x66) fun x69 =>
  if x69 = 0 then (fx_X1_ticks_J303 sf263 v263_2)
  else (gw_b0 (gw_gr 2 3 a1) fun x73 =>
  gw_b0 (gw_lr 7 x73 v263_2) fun x76 =>
  gw_b0 (gw_gr 0 4 a0) fun x79 =>
  gw_b0 (gw_gr 0 10 a0) fun x82 =>
  gw_b0 (gw_on 4 x76 (fx_X5_recovers x76 x79 x82)) fun _ =>
 
  fx_X1_ticks_J303 sf263 v263_2))
def fx_X1_ticks_L232 (a0 : Nat) (a1 : Nat) (sf232 : Int32 → gM Unit) (v232_2 : Int32) : gM Unit :=
  gw_b0 (gw_gi 0 9 a0) fun x53 =>
  if x53 ≤ v232_2 then (tw_lp (fx_X1_ticks_L263 a0 a1) (fun _ _ => none) tw_fu (0 : Int32))
  else (gw_b0 (gw_gr 0 8 a0) fun x88 =>
  gw_b0 (gw_lr 9 x88 v232_2) fun x91 =>
  gw_b0 (gw_gr 10 0 x91) fun x94 =>
  gw_b0 (fi_1 x94 a1) fun _ =>
 
  sf232 (v232_2 + (1 : Int32)))
def fx_X1_ticks_L207 (a0 : Nat) (a1 : Nat) (sf207 : Int32 → gM Unit) (v207_2 : Int32) : gM Unit :=
  gw_b0 (gw_gr 0 4 a0) fun x46 =>
  gw_b0 (gw_gi 1 2 x46) fun x49 =>
  if x49 ≤ v207_2 then (tw_lp (fx_X1_ticks_L232 a0 a1) (fun _ _ => none) tw_fu (0 : Int32))
  else (gw_bc (gw_on 0 a0 (fx_X1_samples a0 a1 v207_2)) fun _ =>
 
  sf207 (v207_2 + (1 : Int32)))
def fx_X1_ticks_L174 (a0 : Nat) (a1 : Nat) (sf174 : Int32 → gM Unit) (v174_2 : Int32) : gM Unit :=
  gw_b0 (gw_gr 0 4 a0) fun x36 =>
  gw_b0 (gw_gi 1 2 x36) fun x39 =>
  if x39 ≤ v174_2 then (gw_b0 (gw_pi 0 9 a0 (0 : Int32)) fun _ =>
 
  tw_lp (fx_X1_ticks_L207 a0 a1) (fun _ _ => none) tw_fu (0 : Int32))
  else (gw_b0 (gw_gr 2 2 a1) fun x103 =>
  gw_b0 (gw_lr 6 x103 v174_2) fun x106 =>
  gw_b0 (gw_on 3 x106 (fx_X4_asks x106)) fun _ =>
 
  sf174 (v174_2 + (1 : Int32)))
def fx_X1_ticks_L149 (a0 : Nat) (a1 : Nat) (sf149 : Int32 → gM Unit) (v149_2 : Int32) : gM Unit :=
  gw_b0 (gw_gr 0 4 a0) fun x29 =>
  gw_b0 (gw_gi 1 2 x29) fun x32 =>
  if x32 ≤ v149_2 then (tw_lp (fx_X1_ticks_L174 a0 a1) (fun _ _ => none) tw_fu (0 : Int32))
  else (gw_b0 (gw_on 0 a0 (fx_X1_arrives a0 a1 v149_2)) fun _ =>
 
  sf149 (v149_2 + (1 : Int32)))
def fx_X1_ticks_L124 (a0 : Nat) (a1 : Nat) (sf124 : Int32 → gM Unit) (v124_2 : Int32) : gM Unit :=
  gw_b0 (gw_gr 0 4 a0) fun x22 =>
  gw_b0 (gw_gi 1 2 x22) fun x25 =>
  if x25 ≤ v124_2 then (tw_lp (fx_X1_ticks_L149 a0 a1) (fun _ _ => none) tw_fu (0 : Int32))
  else (gw_b0 (gw_on 0 a0 (fx_X1_carries a0 a1 v124_2)) fun _ =>
 
  sf124 (v124_2 + (1 : Int32)))
def fx_X1_ticks_L82 (a0 : Nat) (sf69 : Int32 → gM Unit) (v69_2 : Int32) (a1 : Nat) (sf82 : Int32 → gM Unit) (v82_3 : Int32) : gM Unit :=
  gw_b0 (gw_gr 0 4 a0) fun x119 =>
  gw_b0 (gw_gi 1 3 x119) fun x122 =>
  if x122 ≤ v82_3 then (sf69 (v69_2 + (1 : Int32)))
  else (gw_b0 (gw_gr 0 5 a0) fun x125 =>
  gw_b0 (gw_on 2 a1 (fx_X3_ready a1 v69_2 v82_3)) fun x128 =>
  gw_b0 (gw_st x125 (((8 : Int32) * v69_2) + v82_3) x128) fun _ =>
 
  sf82 (v82_3 + (1 : Int32)))
def fx_X1_ticks_L69 (a0 : Nat) (a1 : Nat) (sf69 : Int32 → gM Unit) (v69_2 : Int32) : gM Unit :=
  gw_b0 (gw_gr 0 4 a0) fun x15 =>
  gw_b0 (gw_gi 1 2 x15) fun x18 =>
  if x18 ≤ v69_2 then (tw_lp (fx_X1_ticks_L124 a0 a1) (fun _ _ => none) tw_fu (0 : Int32))
  else (tw_lp (fx_X1_ticks_L82 a0 sf69 v69_2 a1) (fun _ _ => none) tw_fu (0 : Int32))
def fx_X1_ticks_J61 (sf12 : Int32 → gM Unit) (v12_2 : Int32)  : gM Unit :=
  sf12 (v12_2 + (1 : Int32))
def fx_X1_ticks_L12 (a0 : Nat) (a1 : Nat) (sf12 : Int32 → gM Unit) (v12_2 : Int32) : gM Unit :=
  gw_b0 (gw_gr 0 4 a0) fun x8 =>
  gw_b0 (gw_gi 1 3 x8) fun x11 =>
  if x11 ≤ v12_2 then (tw_lp (fx_X1_ticks_L69 a0 a1) (fun _ _ => none) tw_fu (0 : Int32))
  else (gw_b0 (gw_gr 2 3 a1) fun x134 =>
  gw_b0 (gw_lr 7 x134 v12_2) fun x137 =>
  gw_b0 (gw_pi 4 9 x137 (0 : Int32)) fun _ =>
  gw_b0 (gw_gi 4 11 x137) fun x143 =>
  if x143 = 0 then (fx_X1_ticks_J61 sf12 v12_2)
  else (gw_b0 (gw_gi 4 6 x137) fun x147 =>
  gw_b0 (gw_gi 4 0 x137) fun x150 =>
   gw_b0 (gw_pi 4 6 x137 (if (x147 + x150) < (1024 : Int32) then (x147 + x150) else (1024 : Int32))) fun _ =>
 
  fx_X1_ticks_J61 sf12 v12_2))
def fx_X1_ticks (a0 : Nat) (a1 : Nat) : gM Unit :=
  gw_b0 (gw_gi 2 1 a1) fun x1 =>
  gw_b0 (gw_pi 2 1 a1 (x1 + (1 : Int32))) fun _ =>
 
  tw_lp (fx_X1_ticks_L12 a0 a1) (fun _ _ => none) tw_fu (0 : Int32)
theorem hdX1_ticks : yX1_ticks.cls = "LosslessFabric" ∧ (yX1_ticks.cls ≠ "java/lang/invoke/MethodHandle" ∧ yX1_ticks.cls ≠ "java/lang/invoke/VarHandle" ∧ (parseMethodDescriptor yX1_ticks.desc).map (fun d => d.parameters.length) = some 1) := by decide +kernel
set_option maxHeartbeats 4000000 in
theorem mx_X1_ticks {l : Launch} {K : GK} (hA : gw_A K) (a0 : Nat) (a1 : Nat) (t0 tZ : Hp) (r : Unit) (C0 S0 : Nat) (hf : fx_X1_ticks a0 a1 t0 = some (r, tZ, C0, S0)) : Met l yX1_ticks (ws_ yX1_ticks cX1_ticks 4 (none)) ({ frames := 6, cells := C0, slots := S0, locals := 3226 }) (va_Pc [.ref a0, .ref a1] (gw_W K t0)) (gw_Qv K tZ) C0 S0 K.2.2.2.1 := by
  refine Met.ofW (cc := cX1_ticks) (maxL := 4) (ret := none) (by decide) rfl ?_
  intro p e s m args below meth c s₁ B hml hv
  obtain ⟨rfl, hP, hK, hX, hN, hL⟩ := hv
  have hx := B.exec
  have hb := B.bytes
  have hr := B.returns
  have hts := atoms_spec (ws := (ws_ yX1_ticks cX1_ticks 4 (none))) B.pre
  have hts : ∀ w ∈ lw_all, w.before _ s = true := fun w h => hts w (List.mem_cons_of_mem _ h)
  have hown : s.vm.findClass "LosslessFabric" = some m.cls := findClass_of_methodNamed B.named
  have hlk := B.notSynchronized
  have C : gw_C K "LosslessFabric" p s m _ c cX1_ticks := ⟨hx, hb, hts, hown, hK, hA, hX, hN, hL⟩
  have hk : 0 + C0 = C0 := Nat.zero_add _
  have hn : 0 + S0 = S0 := Nat.zero_add _
  have hS : va_S K.2.2.2.1 s.heap s.heap [] := va_S.rf
  have hl := lv_entry ([.ref a0, .ref a1]) (n := 4) (Nat.le_of_ble_eq_true rfl)
  rw [lg_entry_eq]
  generalize (lg_sl ([.ref a0, .ref a1]) ++ List.replicate (4 - (lg_sl ([.ref a0, .ref a1])).length) Slot.unset).toArray = ls at hl ⊢
  have hl : lv_has ls 4 [(0, .ref a0), (1, .ref a1)] := hl
  unfold fx_X1_ticks at hf
  refine lv_aload_n hx hb dX1_ticks_0 rfl (lv_at hl 1 rfl) ?_
  refine lv_dup hx hb dX1_ticks_1 rfl ?_
  obtain ⟨x1, t2, e3, hf⟩ := gw_b0E hf
  refine gw_igetN (ci := 2) (k := 1) (T := TX3) C hP rfl in_X3 (by decide) e3 q353 rfl dX1_ticks_2 (fun hP => ?_)
  refine lv_iconst (v := (1 : Int32)) hx hb dX1_ticks_5 (by decide) ?_
  refine lv_iadd hx hb dX1_ticks_6 ?_
  obtain ⟨x4, t5, e6, hf⟩ := gw_b0E hf
  refine gw_vputN (ci := 2) (k := 1) (T := TX3) C hP hS rfl in_X3 tyX3 tyX3_ok nmX3 (by decide) e6 q353 rfl rfl (vp_nar_int _) rfl dX1_ticks_7 (fun H locs hP hS => ?_)
  refine lv_iconst (v := (0 : Int32)) hx hb dX1_ticks_10 (by decide) ?_
  refine lv_istore_n (lv' := [(2, .int (0 : Int32)), (0, .ref a0), (1, .ref a1)]) hx hb dX1_ticks_11 rfl hl (by decide) rfl (fun ls hl => ?_)
  have k12 : ∀ (n : Nat) (v12_2 : Int32) (t7 : Hp) (k7 n7 C7 S7 : Nat) (H : Heap) (locs : List Loc) (ls : Array Slot), gw_P K t7 H → va_S K.2.2.2.1 s.heap H locs → k7 + C7 = C0 → n7 + S7 = S0 → lv_has ls 4 [(0, .ref a0), (1, .ref a1), (2, .int v12_2)] → tw_lp (fx_X1_ticks_L12 a0 a1) (fun _ _ => none) n v12_2 t7 = some (r, tZ, C7, S7) → W p l e (headSpec (ws_ yX1_ticks cX1_ticks 4 (none)) ({ frames := 6, cells := C0, slots := S0, locals := 3226 })).room s m ([.ref a0, .ref a1] : List Value).toArray below meth c H locs k7 n7 (MQ below (gw_Qv K tZ) ([.ref a0, .ref a1] : List Value).toArray s C0 S0 K.2.2.2.1) (F0 m 12 ls []) := by
    intro n
    induction n with
    | zero => intro v12_2 t7 k7 n7 C7 S7 H locs ls hP hS hk hn hl hf; exact (tw_no hf).elim
    | succ n ih12 =>
      intro v12_2 t7 k7 n7 C7 S7 H locs ls hP hS hk hn hl hf
      obtain ⟨sf12, hs12⟩ : ∃ f, f = tw_lp (fx_X1_ticks_L12 a0 a1) (fun _ _ => none) n := ⟨_, rfl⟩
      rw [← hs12] at ih12
      have hf : fx_X1_ticks_L12 a0 a1 sf12 v12_2 t7 = some (r, tZ, C7, S7) := by rw [hs12]; exact hf
      clear hs12
      unfold fx_X1_ticks_L12 at hf
      refine lv_iload_n hx hb dX1_ticks_12 rfl (lv_at hl 2 rfl) ?_
      refine lv_aload_n hx hb dX1_ticks_13 rfl (lv_at hl 0 rfl) ?_
      obtain ⟨x8, t9, e10, hf⟩ := gw_b0E hf
      refine gw_rget (ci := 0) (k := 4) (T := TX1) C hP rfl in_X1 (by decide) e10 q394 rfl dX1_ticks_14 (fun hP => ?_)
      obtain ⟨x11, t12, e13, hf⟩ := gw_b0E hf
      refine gw_igetN (ci := 1) (k := 3) (T := TX2) C hP rfl in_X2 (by decide) e13 q165 rfl dX1_ticks_17 (fun hP => ?_)
      refine lv_icmp_ge (tgt := 67) hx hb dX1_ticks_20 (by decide) (fun hc => ?_) (fun hc => ?_)
      · have hf := tw_ifT hc hf
        refine lv_iconst (v := (0 : Int32)) hx hb dX1_ticks_67 (by decide) ?_
        refine lv_istore_n (lv' := [(2, .int (0 : Int32)), (0, .ref a0), (1, .ref a1)]) hx hb dX1_ticks_68 rfl hl (by decide) rfl (fun ls hl => ?_)
        have k69 : ∀ (n : Nat) (v69_2 : Int32) (t14 : Hp) (k14 n14 C14 S14 : Nat) (H : Heap) (locs : List Loc) (ls : Array Slot), gw_P K t14 H → va_S K.2.2.2.1 s.heap H locs → k14 + C14 = C0 → n14 + S14 = S0 → lv_has ls 4 [(0, .ref a0), (1, .ref a1), (2, .int v69_2)] → tw_lp (fx_X1_ticks_L69 a0 a1) (fun _ _ => none) n v69_2 t14 = some (r, tZ, C14, S14) → W p l e (headSpec (ws_ yX1_ticks cX1_ticks 4 (none)) ({ frames := 6, cells := C0, slots := S0, locals := 3226 })).room s m ([.ref a0, .ref a1] : List Value).toArray below meth c H locs k14 n14 (MQ below (gw_Qv K tZ) ([.ref a0, .ref a1] : List Value).toArray s C0 S0 K.2.2.2.1) (F0 m 69 ls []) := by
          intro n
          induction n with
          | zero => intro v69_2 t14 k14 n14 C14 S14 H locs ls hP hS hk hn hl hf; exact (tw_no hf).elim
          | succ n ih69 =>
            intro v69_2 t14 k14 n14 C14 S14 H locs ls hP hS hk hn hl hf
            obtain ⟨sf69, hs69⟩ : ∃ f, f = tw_lp (fx_X1_ticks_L69 a0 a1) (fun _ _ => none) n := ⟨_, rfl⟩
            rw [← hs69] at ih69
            have hf : fx_X1_ticks_L69 a0 a1 sf69 v69_2 t14 = some (r, tZ, C14, S14) := by rw [hs69]; exact hf
            clear hs69
            unfold fx_X1_ticks_L69 at hf
            refine lv_iload_n hx hb dX1_ticks_69 rfl (lv_at hl 2 rfl) ?_
            refine lv_aload_n hx hb dX1_ticks_70 rfl (lv_at hl 0 rfl) ?_
            obtain ⟨x15, t16, e17, hf⟩ := gw_b0E hf
            refine gw_rget (ci := 0) (k := 4) (T := TX1) C hP rfl in_X1 (by decide) e17 q394 rfl dX1_ticks_71 (fun hP => ?_)
            obtain ⟨x18, t19, e20, hf⟩ := gw_b0E hf
            refine gw_igetN (ci := 1) (k := 2) (T := TX2) C hP rfl in_X2 (by decide) e20 q160 rfl dX1_ticks_74 (fun hP => ?_)
            refine lv_icmp_ge (tgt := 122) hx hb dX1_ticks_77 (by decide) (fun hc => ?_) (fun hc => ?_)
            · have hf := tw_ifT hc hf
              refine lv_iconst (v := (0 : Int32)) hx hb dX1_ticks_122 (by decide) ?_
              refine lv_istore_n (lv' := [(2, .int (0 : Int32)), (0, .ref a0), (1, .ref a1)]) hx hb dX1_ticks_123 rfl hl (by decide) rfl (fun ls hl => ?_)
              have k124 : ∀ (n : Nat) (v124_2 : Int32) (t21 : Hp) (k21 n21 C21 S21 : Nat) (H : Heap) (locs : List Loc) (ls : Array Slot), gw_P K t21 H → va_S K.2.2.2.1 s.heap H locs → k21 + C21 = C0 → n21 + S21 = S0 → lv_has ls 4 [(0, .ref a0), (1, .ref a1), (2, .int v124_2)] → tw_lp (fx_X1_ticks_L124 a0 a1) (fun _ _ => none) n v124_2 t21 = some (r, tZ, C21, S21) → W p l e (headSpec (ws_ yX1_ticks cX1_ticks 4 (none)) ({ frames := 6, cells := C0, slots := S0, locals := 3226 })).room s m ([.ref a0, .ref a1] : List Value).toArray below meth c H locs k21 n21 (MQ below (gw_Qv K tZ) ([.ref a0, .ref a1] : List Value).toArray s C0 S0 K.2.2.2.1) (F0 m 124 ls []) := by
                intro n
                induction n with
                | zero => intro v124_2 t21 k21 n21 C21 S21 H locs ls hP hS hk hn hl hf; exact (tw_no hf).elim
                | succ n ih124 =>
                  intro v124_2 t21 k21 n21 C21 S21 H locs ls hP hS hk hn hl hf
                  obtain ⟨sf124, hs124⟩ : ∃ f, f = tw_lp (fx_X1_ticks_L124 a0 a1) (fun _ _ => none) n := ⟨_, rfl⟩
                  rw [← hs124] at ih124
                  have hf : fx_X1_ticks_L124 a0 a1 sf124 v124_2 t21 = some (r, tZ, C21, S21) := by rw [hs124]; exact hf
                  clear hs124
                  unfold fx_X1_ticks_L124 at hf
                  refine lv_iload_n hx hb dX1_ticks_124 rfl (lv_at hl 2 rfl) ?_
                  refine lv_aload_n hx hb dX1_ticks_125 rfl (lv_at hl 0 rfl) ?_
                  obtain ⟨x22, t23, e24, hf⟩ := gw_b0E hf
                  refine gw_rget (ci := 0) (k := 4) (T := TX1) C hP rfl in_X1 (by decide) e24 q394 rfl dX1_ticks_126 (fun hP => ?_)
                  obtain ⟨x25, t26, e27, hf⟩ := gw_b0E hf
                  refine gw_igetN (ci := 1) (k := 2) (T := TX2) C hP rfl in_X2 (by decide) e27 q160 rfl dX1_ticks_129 (fun hP => ?_)
                  refine lv_icmp_ge (tgt := 147) hx hb dX1_ticks_132 (by decide) (fun hc => ?_) (fun hc => ?_)
                  · have hf := tw_ifT hc hf
                    refine lv_iconst (v := (0 : Int32)) hx hb dX1_ticks_147 (by decide) ?_
                    refine lv_istore_n (lv' := [(2, .int (0 : Int32)), (0, .ref a0), (1, .ref a1)]) hx hb dX1_ticks_148 rfl hl (by decide) rfl (fun ls hl => ?_)
                    have k149 : ∀ (n : Nat) (v149_2 : Int32) (t28 : Hp) (k28 n28 C28 S28 : Nat) (H : Heap) (locs : List Loc) (ls : Array Slot), gw_P K t28 H → va_S K.2.2.2.1 s.heap H locs → k28 + C28 = C0 → n28 + S28 = S0 → lv_has ls 4 [(0, .ref a0), (1, .ref a1), (2, .int v149_2)] → tw_lp (fx_X1_ticks_L149 a0 a1) (fun _ _ => none) n v149_2 t28 = some (r, tZ, C28, S28) → W p l e (headSpec (ws_ yX1_ticks cX1_ticks 4 (none)) ({ frames := 6, cells := C0, slots := S0, locals := 3226 })).room s m ([.ref a0, .ref a1] : List Value).toArray below meth c H locs k28 n28 (MQ below (gw_Qv K tZ) ([.ref a0, .ref a1] : List Value).toArray s C0 S0 K.2.2.2.1) (F0 m 149 ls []) := by
                      intro n
                      induction n with
                      | zero => intro v149_2 t28 k28 n28 C28 S28 H locs ls hP hS hk hn hl hf; exact (tw_no hf).elim
                      | succ n ih149 =>
                        intro v149_2 t28 k28 n28 C28 S28 H locs ls hP hS hk hn hl hf
                        obtain ⟨sf149, hs149⟩ : ∃ f, f = tw_lp (fx_X1_ticks_L149 a0 a1) (fun _ _ => none) n := ⟨_, rfl⟩
                        rw [← hs149] at ih149
                        have hf : fx_X1_ticks_L149 a0 a1 sf149 v149_2 t28 = some (r, tZ, C28, S28) := by rw [hs149]; exact hf
                        clear hs149
                        unfold fx_X1_ticks_L149 at hf
                        refine lv_iload_n hx hb dX1_ticks_149 rfl (lv_at hl 2 rfl) ?_
                        refine lv_aload_n hx hb dX1_ticks_150 rfl (lv_at hl 0 rfl) ?_
                        obtain ⟨x29, t30, e31, hf⟩ := gw_b0E hf
                        refine gw_rget (ci := 0) (k := 4) (T := TX1) C hP rfl in_X1 (by decide) e31 q394 rfl dX1_ticks_151 (fun hP => ?_)
                        obtain ⟨x32, t33, e34, hf⟩ := gw_b0E hf
                        refine gw_igetN (ci := 1) (k := 2) (T := TX2) C hP rfl in_X2 (by decide) e34 q160 rfl dX1_ticks_154 (fun hP => ?_)
                        refine lv_icmp_ge (tgt := 172) hx hb dX1_ticks_157 (by decide) (fun hc => ?_) (fun hc => ?_)
                        · have hf := tw_ifT hc hf
                          refine lv_iconst (v := (0 : Int32)) hx hb dX1_ticks_172 (by decide) ?_
                          refine lv_istore_n (lv' := [(2, .int (0 : Int32)), (0, .ref a0), (1, .ref a1)]) hx hb dX1_ticks_173 rfl hl (by decide) rfl (fun ls hl => ?_)
                          have k174 : ∀ (n : Nat) (v174_2 : Int32) (t35 : Hp) (k35 n35 C35 S35 : Nat) (H : Heap) (locs : List Loc) (ls : Array Slot), gw_P K t35 H → va_S K.2.2.2.1 s.heap H locs → k35 + C35 = C0 → n35 + S35 = S0 → lv_has ls 4 [(0, .ref a0), (1, .ref a1), (2, .int v174_2)] → tw_lp (fx_X1_ticks_L174 a0 a1) (fun _ _ => none) n v174_2 t35 = some (r, tZ, C35, S35) → W p l e (headSpec (ws_ yX1_ticks cX1_ticks 4 (none)) ({ frames := 6, cells := C0, slots := S0, locals := 3226 })).room s m ([.ref a0, .ref a1] : List Value).toArray below meth c H locs k35 n35 (MQ below (gw_Qv K tZ) ([.ref a0, .ref a1] : List Value).toArray s C0 S0 K.2.2.2.1) (F0 m 174 ls []) := by
                            intro n
                            induction n with
                            | zero => intro v174_2 t35 k35 n35 C35 S35 H locs ls hP hS hk hn hl hf; exact (tw_no hf).elim
                            | succ n ih174 =>
                              intro v174_2 t35 k35 n35 C35 S35 H locs ls hP hS hk hn hl hf
                              obtain ⟨sf174, hs174⟩ : ∃ f, f = tw_lp (fx_X1_ticks_L174 a0 a1) (fun _ _ => none) n := ⟨_, rfl⟩
                              rw [← hs174] at ih174
                              have hf : fx_X1_ticks_L174 a0 a1 sf174 v174_2 t35 = some (r, tZ, C35, S35) := by rw [hs174]; exact hf
                              clear hs174
                              unfold fx_X1_ticks_L174 at hf
                              refine lv_iload_n hx hb dX1_ticks_174 rfl (lv_at hl 2 rfl) ?_
                              refine lv_aload_n hx hb dX1_ticks_175 rfl (lv_at hl 0 rfl) ?_
                              obtain ⟨x36, t37, e38, hf⟩ := gw_b0E hf
                              refine gw_rget (ci := 0) (k := 4) (T := TX1) C hP rfl in_X1 (by decide) e38 q394 rfl dX1_ticks_176 (fun hP => ?_)
                              obtain ⟨x39, t40, e41, hf⟩ := gw_b0E hf
                              refine gw_igetN (ci := 1) (k := 2) (T := TX2) C hP rfl in_X2 (by decide) e41 q160 rfl dX1_ticks_179 (fun hP => ?_)
                              refine lv_icmp_ge (tgt := 200) hx hb dX1_ticks_182 (by decide) (fun hc => ?_) (fun hc => ?_)
                              · have hf := tw_ifT hc hf
                                refine lv_aload_n hx hb dX1_ticks_200 rfl (lv_at hl 0 rfl) ?_
                                refine lv_iconst (v := (0 : Int32)) hx hb dX1_ticks_201 (by decide) ?_
                                obtain ⟨x42, t43, e44, hf⟩ := gw_b0E hf
                                refine gw_vput (ci := 0) (k := 9) (T := TX1) C hP hS rfl in_X1 tyX1 tyX1_ok nmX1 (by decide) e44 q401 rfl rfl (vp_nar_int _) rfl dX1_ticks_202 (fun H locs hP hS => ?_)
                                refine lv_iconst (v := (0 : Int32)) hx hb dX1_ticks_205 (by decide) ?_
                                refine lv_istore_n (lv' := [(2, .int (0 : Int32)), (0, .ref a0), (1, .ref a1)]) hx hb dX1_ticks_206 rfl hl (by decide) rfl (fun ls hl => ?_)
                                have k207 : ∀ (n : Nat) (v207_2 : Int32) (t45 : Hp) (k45 n45 C45 S45 : Nat) (H : Heap) (locs : List Loc) (ls : Array Slot), gw_P K t45 H → va_S K.2.2.2.1 s.heap H locs → k45 + C45 = C0 → n45 + S45 = S0 → lv_has ls 4 [(0, .ref a0), (1, .ref a1), (2, .int v207_2)] → tw_lp (fx_X1_ticks_L207 a0 a1) (fun _ _ => none) n v207_2 t45 = some (r, tZ, C45, S45) → W p l e (headSpec (ws_ yX1_ticks cX1_ticks 4 (none)) ({ frames := 6, cells := C0, slots := S0, locals := 3226 })).room s m ([.ref a0, .ref a1] : List Value).toArray below meth c H locs k45 n45 (MQ below (gw_Qv K tZ) ([.ref a0, .ref a1] : List Value).toArray s C0 S0 K.2.2.2.1) (F0 m 207 ls []) := by
                                  intro n
                                  induction n with
                                  | zero => intro v207_2 t45 k45 n45 C45 S45 H locs ls hP hS hk hn hl hf; exact (tw_no hf).elim
                                  | succ n ih207 =>
                                    intro v207_2 t45 k45 n45 C45 S45 H locs ls hP hS hk hn hl hf
                                    obtain ⟨sf207, hs207⟩ : ∃ f, f = tw_lp (fx_X1_ticks_L207 a0 a1) (fun _ _ => none) n := ⟨_, rfl⟩
                                    rw [← hs207] at ih207
                                    have hf : fx_X1_ticks_L207 a0 a1 sf207 v207_2 t45 = some (r, tZ, C45, S45) := by rw [hs207]; exact hf
                                    clear hs207
                                    unfold fx_X1_ticks_L207 at hf
                                    refine lv_iload_n hx hb dX1_ticks_207 rfl (lv_at hl 2 rfl) ?_
                                    refine lv_aload_n hx hb dX1_ticks_208 rfl (lv_at hl 0 rfl) ?_
                                    obtain ⟨x46, t47, e48, hf⟩ := gw_b0E hf
                                    refine gw_rget (ci := 0) (k := 4) (T := TX1) C hP rfl in_X1 (by decide) e48 q394 rfl dX1_ticks_209 (fun hP => ?_)
                                    obtain ⟨x49, t50, e51, hf⟩ := gw_b0E hf
                                    refine gw_igetN (ci := 1) (k := 2) (T := TX2) C hP rfl in_X2 (by decide) e51 q160 rfl dX1_ticks_212 (fun hP => ?_)
                                    refine lv_icmp_ge (tgt := 230) hx hb dX1_ticks_215 (by decide) (fun hc => ?_) (fun hc => ?_)
                                    · have hf := tw_ifT hc hf
                                      refine lv_iconst (v := (0 : Int32)) hx hb dX1_ticks_230 (by decide) ?_
                                      refine lv_istore_n (lv' := [(2, .int (0 : Int32)), (0, .ref a0), (1, .ref a1)]) hx hb dX1_ticks_231 rfl hl (by decide) rfl (fun ls hl => ?_)
                                      have k232 : ∀ (n : Nat) (v232_2 : Int32) (t52 : Hp) (k52 n52 C52 S52 : Nat) (H : Heap) (locs : List Loc) (ls : Array Slot), gw_P K t52 H → va_S K.2.2.2.1 s.heap H locs → k52 + C52 = C0 → n52 + S52 = S0 → lv_has ls 4 [(0, .ref a0), (1, .ref a1), (2, .int v232_2)] → tw_lp (fx_X1_ticks_L232 a0 a1) (fun _ _ => none) n v232_2 t52 = some (r, tZ, C52, S52) → W p l e (headSpec (ws_ yX1_ticks cX1_ticks 4 (none)) ({ frames := 6, cells := C0, slots := S0, locals := 3226 })).room s m ([.ref a0, .ref a1] : List Value).toArray below meth c H locs k52 n52 (MQ below (gw_Qv K tZ) ([.ref a0, .ref a1] : List Value).toArray s C0 S0 K.2.2.2.1) (F0 m 232 ls []) := by
                                        intro n
                                        induction n with
                                        | zero => intro v232_2 t52 k52 n52 C52 S52 H locs ls hP hS hk hn hl hf; exact (tw_no hf).elim
                                        | succ n ih232 =>
                                          intro v232_2 t52 k52 n52 C52 S52 H locs ls hP hS hk hn hl hf
                                          obtain ⟨sf232, hs232⟩ : ∃ f, f = tw_lp (fx_X1_ticks_L232 a0 a1) (fun _ _ => none) n := ⟨_, rfl⟩
                                          rw [← hs232] at ih232
                                          have hf : fx_X1_ticks_L232 a0 a1 sf232 v232_2 t52 = some (r, tZ, C52, S52) := by rw [hs232]; exact hf
                                          clear hs232
                                          unfold fx_X1_ticks_L232 at hf
                                          refine lv_iload_n hx hb dX1_ticks_232 rfl (lv_at hl 2 rfl) ?_
                                          refine lv_aload_n hx hb dX1_ticks_233 rfl (lv_at hl 0 rfl) ?_
                                          obtain ⟨x53, t54, e55, hf⟩ := gw_b0E hf
                                          refine gw_iget (ci := 0) (k := 9) (T := TX1) C hP rfl in_X1 (by decide) e55 q401 rfl dX1_ticks_234 (fun hP => ?_)
                                          refine lv_icmp_ge (tgt := 261) hx hb dX1_ticks_237 (by decide) (fun hc => ?_) (fun hc => ?_)
                                          · have hf := tw_ifT hc hf
                                            refine lv_iconst (v := (0 : Int32)) hx hb dX1_ticks_261 (by decide) ?_
                                            refine lv_istore_n (lv' := [(2, .int (0 : Int32)), (0, .ref a0), (1, .ref a1)]) hx hb dX1_ticks_262 rfl hl (by decide) rfl (fun ls hl => ?_)
                                            have k263 : ∀ (n : Nat) (v263_2 : Int32) (t56 : Hp) (k56 n56 C56 S56 : Nat) (H : Heap) (locs : List Loc) (ls : Array Slot), gw_P K t56 H → va_S K.2.2.2.1 s.heap H locs → k56 + C56 = C0 → n56 + S56 = S0 → lv_has ls 4 [(0, .ref a0), (1, .ref a1), (2, .int v263_2)] → tw_lp (fx_X1_ticks_L263 a0 a1) (fun _ _ => none) n v263_2 t56 = some (r, tZ, C56, S56) → W p l e (headSpec (ws_ yX1_ticks cX1_ticks 4 (none)) ({ frames := 6, cells := C0, slots := S0, locals := 3226 })).room s m ([.ref a0, .ref a1] : List Value).toArray below meth c H locs k56 n56 (MQ below (gw_Qv K tZ) ([.ref a0, .ref a1] : List Value).toArray s C0 S0 K.2.2.2.1) (F0 m 263 ls []) := by
                                              intro n
                                              induction n with
                                              | zero => intro v263_2 t56 k56 n56 C56 S56 H locs ls hP hS hk hn hl hf; exact (tw_no hf).elim
                                              | succ n ih263 =>
                                                intro v263_2 t56 k56 n56 C56 S56 H locs ls hP hS hk hn hl hf
                                                obtain ⟨sf263, hs263⟩ : ∃ f, f = tw_lp (fx_X1_ticks_L263 a0 a1) (fun _ _ => none) n := ⟨_, rfl⟩
                                                rw [← hs263] at ih263
                                                have hf : fx_X1_ticks_L263 a0 a1 sf263 v263_2 t56 = some (r, tZ, C56, S56) := by rw [hs263]; exact hf
                                                clear hs263
                                                unfold fx_X1_ticks_L263 at hf
                                                refine lv_iload_n hx hb dX1_ticks_263 rfl (lv_at hl 2 rfl) ?_
                                                refine lv_aload_n hx hb dX1_ticks_264 rfl (lv_at hl 0 rfl) ?_
                                                obtain ⟨x57, t58, e59, hf⟩ := gw_b0E hf
                                                refine gw_rget (ci := 0) (k := 4) (T := TX1) C hP rfl in_X1 (by decide) e59 q394 rfl dX1_ticks_265 (fun hP => ?_)
                                                obtain ⟨x60, t61, e62, hf⟩ := gw_b0E hf
                                                refine gw_igetN (ci := 1) (k := 3) (T := TX2) C hP rfl in_X2 (by decide) e62 q165 rfl dX1_ticks_268 (fun hP => ?_)
                                                refine lv_icmp_ge (tgt := 309) hx hb dX1_ticks_271 (by decide) (fun hc => ?_) (fun hc => ?_)
                                                · have hf := tw_ifT hc hf
                                                  obtain ⟨h1, h2, h3, h4⟩ := gw_rcE hf hk hn
                                                  exact gw_iretv h2 h3 h4 C hr hP hS hlk dX1_ticks_309
                                                · have hf := tw_ifF hc hf
                                                  refine lv_aload_n hx hb dX1_ticks_274 rfl (lv_at hl 1 rfl) ?_
                                                  obtain ⟨x63, t64, e65, hf⟩ := gw_b0E hf
                                                  refine gw_rgetN (ci := 2) (k := 3) (T := TX3) C hP rfl in_X3 (by decide) e65 q358 rfl dX1_ticks_275 (fun hP => ?_)
                                                  refine lv_iload_n hx hb dX1_ticks_278 rfl (lv_at hl 2 rfl) ?_
                                                  obtain ⟨x66, t67, e68, hf⟩ := gw_b0E hf
                                                  refine gw_aald C hP rfl e68 dX1_ticks_279 (fun hP => ?_)
                                                  obtain ⟨x69, t70, e71, hf⟩ := gw_b0E hf
                                                  refine gw_igetN (ci := 4) (k := 11) (T := TX5) C hP rfl in_X5 (by decide) e71 q325 rfl dX1_ticks_280 (fun hP => ?_)
                                                  have k303 : ∀  (t72 : Hp) (k72 n72 C72 S72 : Nat) (H : Heap) (locs : List Loc) (ls : Array Slot), gw_P K t72 H → va_S K.2.2.2.1 s.heap H locs → k72 + C72 = C0 → n72 + S72 = S0 → lv_has ls 4 [(0, .ref a0), (1, .ref a1), (2, .int v263_2)] → fx_X1_ticks_J303 sf263 v263_2  t72 = some (r, tZ, C72, S72) → W p l e (headSpec (ws_ yX1_ticks cX1_ticks 4 (none)) ({ frames := 6, cells := C0, slots := S0, locals := 3226 })).room s m ([.ref a0, .ref a1] : List Value).toArray below meth c H locs k72 n72 (MQ below (gw_Qv K tZ) ([.ref a0, .ref a1] : List Value).toArray s C0 S0 K.2.2.2.1) (F0 m 303 ls []) := by
                                                    intro t72 k72 n72 C72 S72 H locs ls hP hS hk hn hl hf
                                                    unfold fx_X1_ticks_J303 at hf
                                                    refine lv_iinc (v := (v263_2 + (1 : Int32))) (lv' := [(2, .int (v263_2 + (1 : Int32))), (0, .ref a0), (1, .ref a1)]) hx hb dX1_ticks_303 hl (k := 2) rfl rfl (by decide) rfl (fun ls hl => ?_)
                                                    refine lv_goto (tgt := 263) hx hb dX1_ticks_306 (by decide) ?_
                                                    exact ih263 _ _ _ _ _ _ _ _ _ hP hS hk hn (lv_sub hl [1, 2, 0] rfl) hf
                                                  refine lv_if_eq (tgt := 303) hx hb dX1_ticks_283 (by decide) (fun hc => ?_) (fun hc => ?_)
                                                  · have hf := tw_ifT hc hf
                                                    exact k303 _ _ _ _ _ _ _ _ hP hS hk hn (lv_sub hl [0, 1, 2] rfl) hf
                                                  · have hf := tw_ifF hc hf
                                                    refine lv_aload_n hx hb dX1_ticks_286 rfl (lv_at hl 1 rfl) ?_
                                                    obtain ⟨x73, t74, e75, hf⟩ := gw_b0E hf
                                                    refine gw_rgetN (ci := 2) (k := 3) (T := TX3) C hP rfl in_X3 (by decide) e75 q358 rfl dX1_ticks_287 (fun hP => ?_)
                                                    refine lv_iload_n hx hb dX1_ticks_290 rfl (lv_at hl 2 rfl) ?_
                                                    obtain ⟨x76, t77, e78, hf⟩ := gw_b0E hf
                                                    refine gw_aald C hP rfl e78 dX1_ticks_291 (fun hP => ?_)
                                                    refine lv_aload_n hx hb dX1_ticks_292 rfl (lv_at hl 0 rfl) ?_
                                                    obtain ⟨x79, t80, e81, hf⟩ := gw_b0E hf
                                                    refine gw_rget (ci := 0) (k := 4) (T := TX1) C hP rfl in_X1 (by decide) e81 q394 rfl dX1_ticks_293 (fun hP => ?_)
                                                    refine lv_aload_n hx hb dX1_ticks_296 rfl (lv_at hl 0 rfl) ?_
                                                    obtain ⟨x82, t83, e84, hf⟩ := gw_b0E hf
                                                    refine gw_rget (ci := 0) (k := 10) (T := TX1) C hP rfl in_X1 (by decide) e84 q402 rfl dX1_ticks_297 (fun hP => ?_)
                                                    obtain ⟨x85, t86, e87, hf⟩ := gw_b0E hf
                                                    refine gw_cVv (As := [.ref x79, .ref x82]) (rest := []) (ci := 4) (T := TX5) (N := 12) C hml hP hS rfl (gw_onE e87).1 (mx_X5_recovers (l := l) (K := K) hA _ _ _ _ _ _ (gw_onE e87).2) (cwV 2 hts (lw_V q935 q936 q937 q105 q938) rfl rfl rfl hdX5_recovers ⟨Nat.le_of_ble_eq_true rfl, Nat.le_of_ble_eq_true rfl⟩) rfl hl.1 rfl (Nat.le_of_ble_eq_true rfl) (Nat.le.intro hk) (Nat.le.intro hn) dX1_ticks_300 (fun H locs hP hS => ?_)
                                                    exact k303 _ _ _ _ _ _ _ _ hP hS hk hn (lv_sub hl [0, 1, 2] rfl) hf
                                            exact k263 _ _ _ _ _ _ _ _ _ _ hP hS hk hn (lv_sub hl [1, 2, 0] rfl) hf
                                          · have hf := tw_ifF hc hf
                                            refine lv_aload_n hx hb dX1_ticks_240 rfl (lv_at hl 0 rfl) ?_
                                            obtain ⟨x88, t89, e90, hf⟩ := gw_b0E hf
                                            refine gw_rget (ci := 0) (k := 8) (T := TX1) C hP rfl in_X1 (by decide) e90 q400 rfl dX1_ticks_241 (fun hP => ?_)
                                            refine lv_iload_n hx hb dX1_ticks_244 rfl (lv_at hl 2 rfl) ?_
                                            obtain ⟨x91, t92, e93, hf⟩ := gw_b0E hf
                                            refine gw_aald C hP rfl e93 dX1_ticks_245 (fun hP => ?_)
                                            obtain ⟨x94, t95, e96, hf⟩ := gw_b0E hf
                                            refine gw_rgetN (ci := 10) (k := 0) (T := TX11) C hP rfl in_X11 (by decide) e96 q927 rfl dX1_ticks_246 (fun hP => ?_)
                                            refine lv_aload_n hx hb dX1_ticks_249 rfl (lv_at hl 1 rfl) ?_
                                            obtain ⟨x97, t98, e99, hf⟩ := gw_b0E hf
                                            refine gw_if1 (rest := []) C hP hS e99 q932 (hl.1.trans hml.symm) (Nat.le_of_ble_eq_true rfl) (Nat.le_of_ble_eq_true rfl) (Nat.le_of_ble_eq_true rfl) (Nat.le.intro hk) (Nat.le.intro hn) dX1_ticks_250 (fun H locs hP hS => ?_)
                                            refine lv_iinc (v := (v232_2 + (1 : Int32))) (lv' := [(2, .int (v232_2 + (1 : Int32))), (0, .ref a0), (1, .ref a1)]) hx hb dX1_ticks_255 hl (k := 2) rfl rfl (by decide) rfl (fun ls hl => ?_)
                                            refine lv_goto (tgt := 232) hx hb dX1_ticks_258 (by decide) ?_
                                            exact ih232 _ _ _ _ _ _ _ _ _ hP hS hk hn (lv_sub hl [1, 2, 0] rfl) hf
                                      exact k232 _ _ _ _ _ _ _ _ _ _ hP hS hk hn (lv_sub hl [1, 2, 0] rfl) hf
                                    · have hf := tw_ifF hc hf
                                      refine lv_aload_n hx hb dX1_ticks_218 rfl (lv_at hl 0 rfl) ?_
                                      refine lv_aload_n hx hb dX1_ticks_219 rfl (lv_at hl 1 rfl) ?_
                                      refine lv_iload_n hx hb dX1_ticks_220 rfl (lv_at hl 2 rfl) ?_
                                      obtain ⟨x100, t101, c101, s101, C101, S101, e102, hf, hk, hn⟩ := gw_bcE hf hk hn
                                      refine gw_cVv (As := [.ref a1, .int v207_2]) (rest := []) (ci := 0) (T := TX1) (N := 18) C hml hP hS rfl (gw_onE e102).1 (mx_X1_samples (l := l) (K := K) hA _ _ _ _ _ _ _ _ (gw_onE e102).2) (cwV 2 hts (lw_V q893 q895 qs20 q101 q896) rfl rfl rfl hdX1_samples ⟨Nat.le_of_ble_eq_true rfl, Nat.le_of_ble_eq_true rfl⟩) rfl hl.1 rfl (Nat.le_of_ble_eq_true rfl) (Nat.le.intro hk) (Nat.le.intro hn) dX1_ticks_221 (fun H locs hP hS => ?_)
                                      refine lv_iinc (v := (v207_2 + (1 : Int32))) (lv' := [(2, .int (v207_2 + (1 : Int32))), (0, .ref a0), (1, .ref a1)]) hx hb dX1_ticks_224 hl (k := 2) rfl rfl (by decide) rfl (fun ls hl => ?_)
                                      refine lv_goto (tgt := 207) hx hb dX1_ticks_227 (by decide) ?_
                                      exact ih207 _ _ _ _ _ _ _ _ _ hP hS hk hn (lv_sub hl [1, 2, 0] rfl) hf
                                exact k207 _ _ _ _ _ _ _ _ _ _ hP hS hk hn (lv_sub hl [1, 2, 0] rfl) hf
                              · have hf := tw_ifF hc hf
                                refine lv_aload_n hx hb dX1_ticks_185 rfl (lv_at hl 1 rfl) ?_
                                obtain ⟨x103, t104, e105, hf⟩ := gw_b0E hf
                                refine gw_rgetN (ci := 2) (k := 2) (T := TX3) C hP rfl in_X3 (by decide) e105 q355 rfl dX1_ticks_186 (fun hP => ?_)
                                refine lv_iload_n hx hb dX1_ticks_189 rfl (lv_at hl 2 rfl) ?_
                                obtain ⟨x106, t107, e108, hf⟩ := gw_b0E hf
                                refine gw_aald C hP rfl e108 dX1_ticks_190 (fun hP => ?_)
                                obtain ⟨x109, t110, e111, hf⟩ := gw_b0E hf
                                refine gw_cVv (As := []) (rest := []) (ci := 3) (T := TX4) (N := 12) C hml hP hS rfl (gw_onE e111).1 (mx_X4_asks (l := l) (K := K) hA _ _ _ _ (gw_onE e111).2) (cwV 0 hts (lw_V q888 q889 q890 q104 q891) rfl rfl rfl hdX4_asks ⟨Nat.le_of_ble_eq_true rfl, Nat.le_of_ble_eq_true rfl⟩) rfl hl.1 rfl (Nat.le_of_ble_eq_true rfl) (Nat.le.intro hk) (Nat.le.intro hn) dX1_ticks_191 (fun H locs hP hS => ?_)
                                refine lv_iinc (v := (v174_2 + (1 : Int32))) (lv' := [(2, .int (v174_2 + (1 : Int32))), (0, .ref a0), (1, .ref a1)]) hx hb dX1_ticks_194 hl (k := 2) rfl rfl (by decide) rfl (fun ls hl => ?_)
                                refine lv_goto (tgt := 174) hx hb dX1_ticks_197 (by decide) ?_
                                exact ih174 _ _ _ _ _ _ _ _ _ hP hS hk hn (lv_sub hl [1, 2, 0] rfl) hf
                          exact k174 _ _ _ _ _ _ _ _ _ _ hP hS hk hn (lv_sub hl [1, 2, 0] rfl) hf
                        · have hf := tw_ifF hc hf
                          refine lv_aload_n hx hb dX1_ticks_160 rfl (lv_at hl 0 rfl) ?_
                          refine lv_aload_n hx hb dX1_ticks_161 rfl (lv_at hl 1 rfl) ?_
                          refine lv_iload_n hx hb dX1_ticks_162 rfl (lv_at hl 2 rfl) ?_
                          obtain ⟨x112, t113, e114, hf⟩ := gw_b0E hf
                          refine gw_cVv (As := [.ref a1, .int v149_2]) (rest := []) (ci := 0) (T := TX1) (N := 18) C hml hP hS rfl (gw_onE e114).1 (mx_X1_arrives (l := l) (K := K) hA _ _ _ _ _ _ (gw_onE e114).2) (cwV 2 hts (lw_V q875 q877 qs19 q101 q878) rfl rfl rfl hdX1_arrives ⟨Nat.le_of_ble_eq_true rfl, Nat.le_of_ble_eq_true rfl⟩) rfl hl.1 rfl (Nat.le_of_ble_eq_true rfl) (Nat.le.intro hk) (Nat.le.intro hn) dX1_ticks_163 (fun H locs hP hS => ?_)
                          refine lv_iinc (v := (v149_2 + (1 : Int32))) (lv' := [(2, .int (v149_2 + (1 : Int32))), (0, .ref a0), (1, .ref a1)]) hx hb dX1_ticks_166 hl (k := 2) rfl rfl (by decide) rfl (fun ls hl => ?_)
                          refine lv_goto (tgt := 149) hx hb dX1_ticks_169 (by decide) ?_
                          exact ih149 _ _ _ _ _ _ _ _ _ hP hS hk hn (lv_sub hl [1, 2, 0] rfl) hf
                    exact k149 _ _ _ _ _ _ _ _ _ _ hP hS hk hn (lv_sub hl [1, 2, 0] rfl) hf
                  · have hf := tw_ifF hc hf
                    refine lv_aload_n hx hb dX1_ticks_135 rfl (lv_at hl 0 rfl) ?_
                    refine lv_aload_n hx hb dX1_ticks_136 rfl (lv_at hl 1 rfl) ?_
                    refine lv_iload_n hx hb dX1_ticks_137 rfl (lv_at hl 2 rfl) ?_
                    obtain ⟨x115, t116, e117, hf⟩ := gw_b0E hf
                    refine gw_cVv (As := [.ref a1, .int v124_2]) (rest := []) (ci := 0) (T := TX1) (N := 18) C hml hP hS rfl (gw_onE e117).1 (mx_X1_carries (l := l) (K := K) hA _ _ _ _ _ _ (gw_onE e117).2) (cwV 2 hts (lw_V q862 q864 qs17 q101 q865) rfl rfl rfl hdX1_carries ⟨Nat.le_of_ble_eq_true rfl, Nat.le_of_ble_eq_true rfl⟩) rfl hl.1 rfl (Nat.le_of_ble_eq_true rfl) (Nat.le.intro hk) (Nat.le.intro hn) dX1_ticks_138 (fun H locs hP hS => ?_)
                    refine lv_iinc (v := (v124_2 + (1 : Int32))) (lv' := [(2, .int (v124_2 + (1 : Int32))), (0, .ref a0), (1, .ref a1)]) hx hb dX1_ticks_141 hl (k := 2) rfl rfl (by decide) rfl (fun ls hl => ?_)
                    refine lv_goto (tgt := 124) hx hb dX1_ticks_144 (by decide) ?_
                    exact ih124 _ _ _ _ _ _ _ _ _ hP hS hk hn (lv_sub hl [1, 2, 0] rfl) hf
              exact k124 _ _ _ _ _ _ _ _ _ _ hP hS hk hn (lv_sub hl [1, 2, 0] rfl) hf
            · have hf := tw_ifF hc hf
              refine lv_iconst (v := (0 : Int32)) hx hb dX1_ticks_80 (by decide) ?_
              refine lv_istore_n (lv' := [(3, .int (0 : Int32)), (0, .ref a0), (1, .ref a1), (2, .int v69_2)]) hx hb dX1_ticks_81 rfl hl (by decide) rfl (fun ls hl => ?_)
              have k82 : ∀ (n : Nat) (v82_3 : Int32) (t118 : Hp) (k118 n118 C118 S118 : Nat) (H : Heap) (locs : List Loc) (ls : Array Slot), gw_P K t118 H → va_S K.2.2.2.1 s.heap H locs → k118 + C118 = C0 → n118 + S118 = S0 → lv_has ls 4 [(0, .ref a0), (1, .ref a1), (2, .int v69_2), (3, .int v82_3)] → tw_lp (fx_X1_ticks_L82 a0 sf69 v69_2 a1) (fun _ _ => none) n v82_3 t118 = some (r, tZ, C118, S118) → W p l e (headSpec (ws_ yX1_ticks cX1_ticks 4 (none)) ({ frames := 6, cells := C0, slots := S0, locals := 3226 })).room s m ([.ref a0, .ref a1] : List Value).toArray below meth c H locs k118 n118 (MQ below (gw_Qv K tZ) ([.ref a0, .ref a1] : List Value).toArray s C0 S0 K.2.2.2.1) (F0 m 82 ls []) := by
                intro n
                induction n with
                | zero => intro v82_3 t118 k118 n118 C118 S118 H locs ls hP hS hk hn hl hf; exact (tw_no hf).elim
                | succ n ih82 =>
                  intro v82_3 t118 k118 n118 C118 S118 H locs ls hP hS hk hn hl hf
                  obtain ⟨sf82, hs82⟩ : ∃ f, f = tw_lp (fx_X1_ticks_L82 a0 sf69 v69_2 a1) (fun _ _ => none) n := ⟨_, rfl⟩
                  rw [← hs82] at ih82
                  have hf : fx_X1_ticks_L82 a0 sf69 v69_2 a1 sf82 v82_3 t118 = some (r, tZ, C118, S118) := by rw [hs82]; exact hf
                  clear hs82
                  unfold fx_X1_ticks_L82 at hf
                  refine lv_iload_n hx hb dX1_ticks_82 rfl (lv_at hl 3 rfl) ?_
                  refine lv_aload_n hx hb dX1_ticks_83 rfl (lv_at hl 0 rfl) ?_
                  obtain ⟨x119, t120, e121, hf⟩ := gw_b0E hf
                  refine gw_rget (ci := 0) (k := 4) (T := TX1) C hP rfl in_X1 (by decide) e121 q394 rfl dX1_ticks_84 (fun hP => ?_)
                  obtain ⟨x122, t123, e124, hf⟩ := gw_b0E hf
                  refine gw_igetN (ci := 1) (k := 3) (T := TX2) C hP rfl in_X2 (by decide) e124 q165 rfl dX1_ticks_87 (fun hP => ?_)
                  refine lv_icmp_ge (tgt := 116) hx hb dX1_ticks_90 (by decide) (fun hc => ?_) (fun hc => ?_)
                  · have hf := tw_ifT hc hf
                    refine lv_iinc (v := (v69_2 + (1 : Int32))) (lv' := [(2, .int (v69_2 + (1 : Int32))), (0, .ref a0), (1, .ref a1), (3, .int v82_3)]) hx hb dX1_ticks_116 hl (k := 2) rfl rfl (by decide) rfl (fun ls hl => ?_)
                    refine lv_goto (tgt := 69) hx hb dX1_ticks_119 (by decide) ?_
                    exact ih69 _ _ _ _ _ _ _ _ _ hP hS hk hn (lv_sub hl [1, 2, 0] rfl) hf
                  · have hf := tw_ifF hc hf
                    refine lv_aload_n hx hb dX1_ticks_93 rfl (lv_at hl 0 rfl) ?_
                    obtain ⟨x125, t126, e127, hf⟩ := gw_b0E hf
                    refine gw_rget (ci := 0) (k := 5) (T := TX1) C hP rfl in_X1 (by decide) e127 q397 rfl dX1_ticks_94 (fun hP => ?_)
                    refine lv_bipush (v := (8 : Int32)) hx hb dX1_ticks_97 (by decide) ?_
                    refine lv_iload_n hx hb dX1_ticks_99 rfl (lv_at hl 2 rfl) ?_
                    refine lv_imul hx hb dX1_ticks_100 ?_
                    refine lv_iload_n hx hb dX1_ticks_101 rfl (lv_at hl 3 rfl) ?_
                    refine lv_iadd hx hb dX1_ticks_102 ?_
                    refine lv_aload_n hx hb dX1_ticks_103 rfl (lv_at hl 1 rfl) ?_
                    refine lv_iload_n hx hb dX1_ticks_104 rfl (lv_at hl 2 rfl) ?_
                    refine lv_iload_n hx hb dX1_ticks_105 rfl (lv_at hl 3 rfl) ?_
                    obtain ⟨x128, t129, e130, hf⟩ := gw_b0E hf
                    refine gw_cVi (As := [.int v69_2, .int v82_3]) (rest := [.int (((8 : Int32) * v69_2) + v82_3), .ref x125]) (ci := 2) (T := TX3) (N := 4) C hml hP hS rfl (gw_onE e130).1 (mx_X3_ready (l := l) (K := K) hA _ _ _ _ _ _ (gw_onE e130).2) (cwV 2 hts (lw_V q857 q858 q859 q103 q860) rfl rfl rfl hdX3_ready ⟨Nat.le_of_ble_eq_true rfl, Nat.le_of_ble_eq_true rfl⟩) rfl hl.1 rfl (Nat.le_of_ble_eq_true rfl) (Nat.le.intro hk) (Nat.le.intro hn) dX1_ticks_106 (fun H locs hP hS => ?_)
                    obtain ⟨x131, t132, e133, hf⟩ := gw_b0E hf
                    refine gw_iast C hP hS e133 dX1_ticks_109 (fun H locs hP hS => ?_)
                    refine lv_iinc (v := (v82_3 + (1 : Int32))) (lv' := [(3, .int (v82_3 + (1 : Int32))), (0, .ref a0), (1, .ref a1), (2, .int v69_2)]) hx hb dX1_ticks_110 hl (k := 3) rfl rfl (by decide) rfl (fun ls hl => ?_)
                    refine lv_goto (tgt := 82) hx hb dX1_ticks_113 (by decide) ?_
                    exact ih82 _ _ _ _ _ _ _ _ _ hP hS hk hn (lv_sub hl [1, 2, 3, 0] rfl) hf
              exact k82 _ _ _ _ _ _ _ _ _ _ hP hS hk hn (lv_sub hl [1, 2, 3, 0] rfl) hf
        exact k69 _ _ _ _ _ _ _ _ _ _ hP hS hk hn (lv_sub hl [1, 2, 0] rfl) hf
      · have hf := tw_ifF hc hf
        refine lv_aload_n hx hb dX1_ticks_23 rfl (lv_at hl 1 rfl) ?_
        obtain ⟨x134, t135, e136, hf⟩ := gw_b0E hf
        refine gw_rgetN (ci := 2) (k := 3) (T := TX3) C hP rfl in_X3 (by decide) e136 q358 rfl dX1_ticks_24 (fun hP => ?_)
        refine lv_iload_n hx hb dX1_ticks_27 rfl (lv_at hl 2 rfl) ?_
        obtain ⟨x137, t138, e139, hf⟩ := gw_b0E hf
        refine gw_aald C hP rfl e139 dX1_ticks_28 (fun hP => ?_)
        refine lv_astore_n (lv' := [(3, .ref x137), (0, .ref a0), (1, .ref a1), (2, .int v12_2)]) hx hb dX1_ticks_29 rfl hl (by decide) rfl (fun ls hl => ?_)
        refine lv_aload_n hx hb dX1_ticks_30 rfl (lv_at hl 0 rfl) ?_
        refine lv_iconst (v := (0 : Int32)) hx hb dX1_ticks_31 (by decide) ?_
        obtain ⟨x140, t141, e142, hf⟩ := gw_b0E hf
        refine gw_vputN (ci := 4) (k := 9) (T := TX5) C hP hS rfl in_X5 tyX5 tyX5_ok nmX5 (by decide) e142 q320 rfl rfl (vp_nar_int _) rfl dX1_ticks_32 (fun H locs hP hS => ?_)
        refine lv_aload_n hx hb dX1_ticks_35 rfl (lv_at hl 0 rfl) ?_
        obtain ⟨x143, t144, e145, hf⟩ := gw_b0E hf
        refine gw_igetN (ci := 4) (k := 11) (T := TX5) C hP rfl in_X5 (by decide) e145 q325 rfl dX1_ticks_36 (fun hP => ?_)
        have k61 : ∀  (t146 : Hp) (k146 n146 C146 S146 : Nat) (H : Heap) (locs : List Loc) (ls : Array Slot), gw_P K t146 H → va_S K.2.2.2.1 s.heap H locs → k146 + C146 = C0 → n146 + S146 = S0 → lv_has ls 4 [(0, .ref a0), (1, .ref a1), (2, .int v12_2)] → fx_X1_ticks_J61 sf12 v12_2  t146 = some (r, tZ, C146, S146) → W p l e (headSpec (ws_ yX1_ticks cX1_ticks 4 (none)) ({ frames := 6, cells := C0, slots := S0, locals := 3226 })).room s m ([.ref a0, .ref a1] : List Value).toArray below meth c H locs k146 n146 (MQ below (gw_Qv K tZ) ([.ref a0, .ref a1] : List Value).toArray s C0 S0 K.2.2.2.1) (F0 m 61 ls []) := by
          intro t146 k146 n146 C146 S146 H locs ls hP hS hk hn hl hf
          unfold fx_X1_ticks_J61 at hf
          refine lv_iinc (v := (v12_2 + (1 : Int32))) (lv' := [(2, .int (v12_2 + (1 : Int32))), (0, .ref a0), (1, .ref a1)]) hx hb dX1_ticks_61 hl (k := 2) rfl rfl (by decide) rfl (fun ls hl => ?_)
          refine lv_goto (tgt := 12) hx hb dX1_ticks_64 (by decide) ?_
          exact ih12 _ _ _ _ _ _ _ _ _ hP hS hk hn (lv_sub hl [1, 2, 0] rfl) hf
        refine lv_if_eq (tgt := 61) hx hb dX1_ticks_39 (by decide) (fun hc => ?_) (fun hc => ?_)
        · have hf := tw_ifT hc hf
          exact k61 _ _ _ _ _ _ _ _ hP hS hk hn (lv_sub hl [1, 2, 3] rfl) hf
        · have hf := tw_ifF hc hf
          refine lv_aload_n hx hb dX1_ticks_42 rfl (lv_at hl 0 rfl) ?_
          refine lv_sipush (v := (1024 : Int32)) hx hb dX1_ticks_43 (by decide) ?_
          refine lv_aload_n hx hb dX1_ticks_46 rfl (lv_at hl 0 rfl) ?_
          obtain ⟨x147, t148, e149, hf⟩ := gw_b0E hf
          refine gw_igetN (ci := 4) (k := 6) (T := TX5) C hP rfl in_X5 (by decide) e149 q314 rfl dX1_ticks_47 (fun hP => ?_)
          refine lv_aload_n hx hb dX1_ticks_50 rfl (lv_at hl 0 rfl) ?_
          obtain ⟨x150, t151, e152, hf⟩ := gw_b0E hf
          refine gw_igetN (ci := 4) (k := 0) (T := TX5) C hP rfl in_X5 (by decide) e152 q297 rfl dX1_ticks_51 (fun hP => ?_)
          refine lv_iadd hx hb dX1_ticks_54 ?_
          refine va_mmin (rest := [.ref x137]) hx hb (hml.trans hl.1.symm) hown (hts _ q856) (hts _ q524) (hts _ q110) (hts _ q525) (Nat.le_of_ble_eq_true rfl) (Nat.le_of_ble_eq_true rfl) (Nat.le.intro hk) (Nat.le.intro hn) dX1_ticks_55 ?_
          obtain ⟨x153, t154, e155, hf⟩ := gw_b0E hf
          refine gw_vputN (ci := 4) (k := 6) (T := TX5) C hP hS rfl in_X5 tyX5 tyX5_ok nmX5 (by decide) e155 q314 rfl rfl (vp_nar_int _) rfl dX1_ticks_58 (fun H locs hP hS => ?_)
          exact k61 _ _ _ _ _ _ _ _ hP hS hk hn (lv_sub hl [1, 2, 3] rfl) hf
  exact k12 _ _ _ _ _ _ _ _ _ _ hP hS hk hn (lv_sub hl [1, 2, 0] rfl) hf