def fx_X1_begin (a0 : Nat) : HM Unit :=
  tw_bd (gw_gr 0 11 a0) fun x1 =>
  tw_bd (gw_gr 0 4 a0) fun x4 =>
  tw_bd (gw_on 2 x1 (fx_X3_fresh x1 x4)) fun _ =>
  tw_bd (gw_pi 0 15 a0 (0 : Int32)) fun _ =>
  tw_bd (gw_pz 0 16 a0 (0 : Int32)) fun _ =>
  tw_rt ()
theorem hdX1_begin : yX1_begin.cls = "LosslessFabric" ∧ (yX1_begin.cls ≠ "java/lang/invoke/MethodHandle" ∧ yX1_begin.cls ≠ "java/lang/invoke/VarHandle" ∧ (parseMethodDescriptor yX1_begin.desc).map (fun d => d.parameters.length) = some 0) := by decide +kernel
set_option maxHeartbeats 4000000 in
theorem mx_X1_begin {l : Launch} {K : GK} (hA : gw_A K) (a0 : Nat) (t0 tZ : Hp) (r : Unit) (hf : fx_X1_begin a0 t0 = some (r, tZ)) : Met l yX1_begin (ws_ yX1_begin cX1_begin 1 (none)) ({ frames := 5, cells := 0, slots := 0, locals := 75 }) (va_Pc [.ref a0] (gw_W K t0)) (gw_Qv K tZ) 0 0 K.2.2.2.1 := by
  refine Met.ofW (cc := cX1_begin) (maxL := 1) (ret := none) (by decide) rfl ?_
  intro p e s m args below meth c s₁ B hml hv
  obtain ⟨rfl, hP, hK, hX, hN, hL⟩ := hv
  have hx := B.exec
  have hb := B.bytes
  have hr := B.returns
  have hts := atoms_spec (ws := (ws_ yX1_begin cX1_begin 1 (none))) B.pre
  have hts : ∀ w ∈ lw_all, w.before _ s = true := fun w h => hts w (List.mem_cons_of_mem _ h)
  have hown : s.vm.findClass "LosslessFabric" = some m.cls := findClass_of_methodNamed B.named
  have hlk := B.notSynchronized
  have C : gw_C K "LosslessFabric" p s m _ c cX1_begin := ⟨hx, hb, hts, hown, hK, hA, hX, hN, hL⟩
  have hS : va_S K.2.2.2.1 s.heap s.heap [] := va_S.rf
  have hl := lv_entry ([.ref a0]) (n := 1) (Nat.le_of_ble_eq_true rfl)
  rw [lg_entry_eq]
  generalize (lg_sl ([.ref a0]) ++ List.replicate (1 - (lg_sl ([.ref a0])).length) Slot.unset).toArray = ls at hl ⊢
  have hl : lv_has ls 1 [(0, .ref a0)] := hl
  unfold fx_X1_begin at hf
  refine lv_aload_n hx hb dX1_begin_0 rfl (lv_at hl 0 rfl) ?_
  obtain ⟨x1, t2, e3, hf⟩ := tw_bdE hf
  refine gw_rget (ci := 0) (k := 11) (T := TX1) C hP rfl in_X1 (by decide) e3 q404 rfl dX1_begin_1 (fun hP => ?_)
  refine lv_aload_n hx hb dX1_begin_4 rfl (lv_at hl 0 rfl) ?_
  obtain ⟨x4, t5, e6, hf⟩ := tw_bdE hf
  refine gw_rget (ci := 0) (k := 4) (T := TX1) C hP rfl in_X1 (by decide) e6 q394 rfl dX1_begin_5 (fun hP => ?_)
  obtain ⟨x7, t8, e9, hf⟩ := tw_bdE hf
  refine gw_cVv (As := [.ref x4]) (rest := []) (ci := 2) (T := TX3) (N := 4) C hml hP hS rfl (gw_onE e9).1 (mx_X3_fresh (l := l) (K := K) hA _ _ _ _ _ (gw_onE e9).2) (cwV 1 hts (lw_V q373 q374 q375 q103 q376) rfl rfl rfl hdX3_fresh ⟨Nat.le_of_ble_eq_true rfl, Nat.le_of_ble_eq_true rfl⟩) rfl hl.1 rfl (Nat.le_of_ble_eq_true rfl) (Nat.zero_le _) (Nat.zero_le _) dX1_begin_8 (fun H locs hP hS => ?_)
  refine lv_aload_n hx hb dX1_begin_11 rfl (lv_at hl 0 rfl) ?_
  refine lv_iconst (v := (0 : Int32)) hx hb dX1_begin_12 (by decide) ?_
  obtain ⟨x10, t11, e12, hf⟩ := tw_bdE hf
  refine gw_vput (ci := 0) (k := 15) (T := TX1) C hP hS rfl in_X1 tyX1 tyX1_ok nmX1 (by decide) e12 q408 rfl rfl (vp_nar_int _) rfl dX1_begin_13 (fun H locs hP hS => ?_)
  refine lv_aload_n hx hb dX1_begin_16 rfl (lv_at hl 0 rfl) ?_
  refine lv_iconst (v := (0 : Int32)) hx hb dX1_begin_17 (by decide) ?_
  obtain ⟨x13, t14, e15, hf⟩ := tw_bdE hf
  refine gw_vput (ci := 0) (k := 16) (T := TX1) C hP hS rfl in_X1 tyX1 tyX1_ok nmX1 (by decide) (gw_pzE e15).2 q409 rfl rfl (gw_zn (gw_pzE e15).1) (gw_zf (gw_pzE e15).1) dX1_begin_18 (fun H locs hP hS => ?_)
  exact gw_iretv (tw_rtE hf).2 rfl rfl C hr hP hS hlk dX1_begin_21
def fx_X4_init (a0 : Nat) : gM Unit :=
   gw_bc (gw_na 0 (8 : Int32)) fun x1 =>
  gw_b0 (gw_pr 3 0 a0 x1) fun _ =>
  gw_rc ()
theorem hdX4_init : yX4_init.cls = "LosslessFabric$End" ∧ (yX4_init.cls ≠ "java/lang/invoke/MethodHandle" ∧ yX4_init.cls ≠ "java/lang/invoke/VarHandle" ∧ (parseMethodDescriptor yX4_init.desc).map (fun d => d.parameters.length) = some 0) := by decide +kernel
set_option maxHeartbeats 4000000 in
theorem mx_X4_init {l : Launch} {K : GK} (hA : gw_A K) (a0 : Nat) (t0 tZ : Hp) (r : Unit) (C0 S0 : Nat) (hf : fx_X4_init a0 t0 = some (r, tZ, C0, S0)) : Met l yX4_init (ws_ yX4_init cX4_init 1 (none)) ({ frames := 2, cells := C0, slots := S0, locals := 30 }) (va_Pc [.ref a0] (gw_W K t0)) (gw_Qv K tZ) C0 S0 K.2.2.2.1 := by
  refine Met.ofW (cc := cX4_init) (maxL := 1) (ret := none) (by decide) rfl ?_
  intro p e s m args below meth c s₁ B hml hv
  obtain ⟨rfl, hP, hK, hX, hN, hL⟩ := hv
  have hx := B.exec
  have hb := B.bytes
  have hr := B.returns
  have hts := atoms_spec (ws := (ws_ yX4_init cX4_init 1 (none))) B.pre
  have hts : ∀ w ∈ lw_all, w.before _ s = true := fun w h => hts w (List.mem_cons_of_mem _ h)
  have hown : s.vm.findClass "LosslessFabric$End" = some m.cls := findClass_of_methodNamed B.named
  have hlk := B.notSynchronized
  have hin : meth.name = "<init>" := (name_of_methodNamed B.named B.method).1
  have C : gw_C K "LosslessFabric$End" p s m _ c cX4_init := ⟨hx, hb, hts, hown, hK, hA, hX, hN, hL⟩
  have hk : 0 + C0 = C0 := Nat.zero_add _
  have hn : 0 + S0 = S0 := Nat.zero_add _
  have hS : va_S K.2.2.2.1 s.heap s.heap [] := va_S.rf
  have hl := lv_entry ([.ref a0]) (n := 1) (Nat.le_of_ble_eq_true rfl)
  rw [lg_entry_eq]
  generalize (lg_sl ([.ref a0]) ++ List.replicate (1 - (lg_sl ([.ref a0])).length) Slot.unset).toArray = ls at hl ⊢
  have hl : lv_has ls 1 [(0, .ref a0)] := hl
  unfold fx_X4_init at hf
  refine lv_aload_n hx hb dX4_init_0 rfl (lv_at hl 0 rfl) ?_
  refine W.objInit (rest := []) hx hb hown (hts _ q237) (hts _ q134) (hts _ q135) rfl (by rw [hml]; exact hl.1) rfl dX4_init_1 (Nat.le_of_ble_eq_true rfl) (Nat.le_of_ble_eq_true rfl) ?_
  refine W.eq (g2 := F0 m 4 ls []) rfl ?_
  refine lv_aload_n hx hb dX4_init_4 rfl (lv_at hl 0 rfl) ?_
  refine lv_bipush (v := (8 : Int32)) hx hb dX4_init_5 (by decide) ?_
  obtain ⟨x1, t2, c2, s2, C2, S2, e3, hf, hk, hn⟩ := gw_bcE hf hk hn
  refine gw_newa (atype := .int) C hP hS e3 q290 rfl rfl (fun h => h) rfl (by decide) (Nat.le.intro hk) (Nat.le.intro hn) dX4_init_7 (fun H hP hS => ?_)
  obtain ⟨x4, t5, e6, hf⟩ := gw_b0E hf
  refine gw_vputF (ci := 3) (k := 0) (T := TX4) C hP hS rfl in_X4 tyX4 tyX4_ok nmX4 (by decide) e6 q238 rfl rfl hin rfl rfl rfl dX4_init_9 (fun H locs hP hS => ?_)
  obtain ⟨h1, h2, h3, h4⟩ := gw_rcE hf hk hn
  exact gw_iretv h2 h3 h4 C hr hP hS hlk dX4_init_12
def fx_X5_init (a0 : Nat) : gM Unit :=
   gw_bc (gw_na 0 (2 : Int32)) fun x1 =>
  gw_b0 (gw_pr 4 10 a0 x1) fun _ =>
  gw_rc ()
theorem hdX5_init : yX5_init.cls = "LosslessFabric$Sender" ∧ (yX5_init.cls ≠ "java/lang/invoke/MethodHandle" ∧ yX5_init.cls ≠ "java/lang/invoke/VarHandle" ∧ (parseMethodDescriptor yX5_init.desc).map (fun d => d.parameters.length) = some 0) := by decide +kernel
set_option maxHeartbeats 4000000 in
theorem mx_X5_init {l : Launch} {K : GK} (hA : gw_A K) (a0 : Nat) (t0 tZ : Hp) (r : Unit) (C0 S0 : Nat) (hf : fx_X5_init a0 t0 = some (r, tZ, C0, S0)) : Met l yX5_init (ws_ yX5_init cX5_init 1 (none)) ({ frames := 2, cells := C0, slots := S0, locals := 30 }) (va_Pc [.ref a0] (gw_W K t0)) (gw_Qv K tZ) C0 S0 K.2.2.2.1 := by
  refine Met.ofW (cc := cX5_init) (maxL := 1) (ret := none) (by decide) rfl ?_
  intro p e s m args below meth c s₁ B hml hv
  obtain ⟨rfl, hP, hK, hX, hN, hL⟩ := hv
  have hx := B.exec
  have hb := B.bytes
  have hr := B.returns
  have hts := atoms_spec (ws := (ws_ yX5_init cX5_init 1 (none))) B.pre
  have hts : ∀ w ∈ lw_all, w.before _ s = true := fun w h => hts w (List.mem_cons_of_mem _ h)
  have hown : s.vm.findClass "LosslessFabric$Sender" = some m.cls := findClass_of_methodNamed B.named
  have hlk := B.notSynchronized
  have hin : meth.name = "<init>" := (name_of_methodNamed B.named B.method).1
  have C : gw_C K "LosslessFabric$Sender" p s m _ c cX5_init := ⟨hx, hb, hts, hown, hK, hA, hX, hN, hL⟩
  have hk : 0 + C0 = C0 := Nat.zero_add _
  have hn : 0 + S0 = S0 := Nat.zero_add _
  have hS : va_S K.2.2.2.1 s.heap s.heap [] := va_S.rf
  have hl := lv_entry ([.ref a0]) (n := 1) (Nat.le_of_ble_eq_true rfl)
  rw [lg_entry_eq]
  generalize (lg_sl ([.ref a0]) ++ List.replicate (1 - (lg_sl ([.ref a0])).length) Slot.unset).toArray = ls at hl ⊢
  have hl : lv_has ls 1 [(0, .ref a0)] := hl
  unfold fx_X5_init at hf
  refine lv_aload_n hx hb dX5_init_0 rfl (lv_at hl 0 rfl) ?_
  refine W.objInit (rest := []) hx hb hown (hts _ q295) (hts _ q134) (hts _ q135) rfl (by rw [hml]; exact hl.1) rfl dX5_init_1 (Nat.le_of_ble_eq_true rfl) (Nat.le_of_ble_eq_true rfl) ?_
  refine W.eq (g2 := F0 m 4 ls []) rfl ?_
  refine lv_aload_n hx hb dX5_init_4 rfl (lv_at hl 0 rfl) ?_
  refine lv_iconst (v := (2 : Int32)) hx hb dX5_init_5 (by decide) ?_
  obtain ⟨x1, t2, c2, s2, C2, S2, e3, hf, hk, hn⟩ := gw_bcE hf hk hn
  refine gw_newa (atype := .int) C hP hS e3 q290 rfl rfl (fun h => h) rfl (by decide) (Nat.le.intro hk) (Nat.le.intro hn) dX5_init_6 (fun H hP hS => ?_)
  obtain ⟨x4, t5, e6, hf⟩ := gw_b0E hf
  refine gw_vputF (ci := 4) (k := 10) (T := TX5) C hP hS rfl in_X5 tyX5 tyX5_ok nmX5 (by decide) e6 q321 rfl rfl hin rfl rfl rfl dX5_init_8 (fun H locs hP hS => ?_)
  obtain ⟨h1, h2, h3, h4⟩ := gw_rcE hf hk hn
  exact gw_iretv h2 h3 h4 C hr hP hS hlk dX5_init_11
def fx_X3_init_L51 (a0 : Nat) (sf51 : Int32 → gM Unit) (v51_1 : Int32) : gM Unit :=
  if (8 : Int32) ≤ v51_1 then (gw_rc ())
  else (gw_b0 (gw_gr 2 3 a0) fun x15 =>
  gw_bc (gw_nw 4 12 tyX5) fun x18 =>
  gw_bc (fx_X5_init x18) fun _ =>
  gw_b0 (gw_sr 7 4 x15 v51_1 x18) fun _ =>
 
  sf51 (v51_1 + (1 : Int32)))
def fx_X3_init_L24 (a0 : Nat) (sf24 : Int32 → gM Unit) (v24_1 : Int32) : gM Unit :=
  if (10 : Int32) ≤ v24_1 then (tw_lp (fx_X3_init_L51 a0) (fun _ _ => none) tw_fu (0 : Int32))
  else (gw_b0 (gw_gr 2 2 a0) fun x27 =>
  gw_bc (gw_nw 3 12 tyX4) fun x30 =>
  gw_bc (fx_X4_init x30) fun _ =>
  gw_b0 (gw_sr 6 3 x27 v24_1 x30) fun _ =>
 
  sf24 (v24_1 + (1 : Int32)))
def fx_X3_init (a0 : Nat) : gM Unit :=
   gw_bc (gw_nq 6 (10 : Int32)) fun x1 =>
  gw_b0 (gw_pr 2 2 a0 x1) fun _ =>
  gw_bc (gw_nq 7 (8 : Int32)) fun x7 =>
  gw_b0 (gw_pr 2 3 a0 x7) fun _ =>
 
  tw_lp (fx_X3_init_L24 a0) (fun _ _ => none) tw_fu (0 : Int32)
theorem hdX3_init : yX3_init.cls = "LosslessFabric$State" ∧ (yX3_init.cls ≠ "java/lang/invoke/MethodHandle" ∧ yX3_init.cls ≠ "java/lang/invoke/VarHandle" ∧ (parseMethodDescriptor yX3_init.desc).map (fun d => d.parameters.length) = some 0) := by decide +kernel
set_option maxHeartbeats 4000000 in
theorem mx_X3_init {l : Launch} {K : GK} (hA : gw_A K) (a0 : Nat) (t0 tZ : Hp) (r : Unit) (C0 S0 : Nat) (hf : fx_X3_init a0 t0 = some (r, tZ, C0, S0)) : Met l yX3_init (ws_ yX3_init cX3_init 2 (none)) ({ frames := 3, cells := C0, slots := S0, locals := 50 }) (va_Pc [.ref a0] (gw_W K t0)) (gw_Qv K tZ) C0 S0 K.2.2.2.1 := by
  refine Met.ofW (cc := cX3_init) (maxL := 2) (ret := none) (by decide) rfl ?_
  intro p e s m args below meth c s₁ B hml hv
  obtain ⟨rfl, hP, hK, hX, hN, hL⟩ := hv
  have hx := B.exec
  have hb := B.bytes
  have hr := B.returns
  have hts := atoms_spec (ws := (ws_ yX3_init cX3_init 2 (none))) B.pre
  have hts : ∀ w ∈ lw_all, w.before _ s = true := fun w h => hts w (List.mem_cons_of_mem _ h)
  have hown : s.vm.findClass "LosslessFabric$State" = some m.cls := findClass_of_methodNamed B.named
  have hlk := B.notSynchronized
  have hin : meth.name = "<init>" := (name_of_methodNamed B.named B.method).1
  have C : gw_C K "LosslessFabric$State" p s m _ c cX3_init := ⟨hx, hb, hts, hown, hK, hA, hX, hN, hL⟩
  have hk : 0 + C0 = C0 := Nat.zero_add _
  have hn : 0 + S0 = S0 := Nat.zero_add _
  have hS : va_S K.2.2.2.1 s.heap s.heap [] := va_S.rf
  have hl := lv_entry ([.ref a0]) (n := 2) (Nat.le_of_ble_eq_true rfl)
  rw [lg_entry_eq]
  generalize (lg_sl ([.ref a0]) ++ List.replicate (2 - (lg_sl ([.ref a0])).length) Slot.unset).toArray = ls at hl ⊢
  have hl : lv_has ls 2 [(0, .ref a0)] := hl
  unfold fx_X3_init at hf
  refine lv_aload_n hx hb dX3_init_0 rfl (lv_at hl 0 rfl) ?_
  refine W.objInit (rest := []) hx hb hown (hts _ q228) (hts _ q134) (hts _ q135) rfl (by rw [hml]; exact hl.1) rfl dX3_init_1 (Nat.le_of_ble_eq_true rfl) (Nat.le_of_ble_eq_true rfl) ?_
  refine W.eq (g2 := F0 m 4 ls []) rfl ?_
  refine lv_aload_n hx hb dX3_init_4 rfl (lv_at hl 0 rfl) ?_
  refine lv_bipush (v := (10 : Int32)) hx hb dX3_init_5 (by decide) ?_
  obtain ⟨x1, t2, c2, s2, C2, S2, e3, hf, hk, hn⟩ := gw_bcE hf hk hn
  refine gw_newq C hP hS e3 q229 q230 rfl (Nat.le.intro hk) (Nat.le.intro hn) dX3_init_7 (fun H hP hS => ?_)
  obtain ⟨x4, t5, e6, hf⟩ := gw_b0E hf
  refine gw_vputF (ci := 2) (k := 2) (T := TX3) C hP hS rfl in_X3 tyX3 tyX3_ok nmX3 (by decide) e6 q354 rfl rfl hin rfl rfl rfl dX3_init_10 (fun H locs hP hS => ?_)
  refine lv_aload_n hx hb dX3_init_13 rfl (lv_at hl 0 rfl) ?_
  refine lv_bipush (v := (8 : Int32)) hx hb dX3_init_14 (by decide) ?_
  obtain ⟨x7, t8, c8, s8, C8, S8, e9, hf, hk, hn⟩ := gw_bcE hf hk hn
  refine gw_newq C hP hS e9 q231 q232 rfl (Nat.le.intro hk) (Nat.le.intro hn) dX3_init_16 (fun H hP hS => ?_)
  obtain ⟨x10, t11, e12, hf⟩ := gw_b0E hf
  refine gw_vputF (ci := 2) (k := 3) (T := TX3) C hP hS rfl in_X3 tyX3 tyX3_ok nmX3 (by decide) e12 q356 rfl rfl hin rfl rfl rfl dX3_init_19 (fun H locs hP hS => ?_)
  refine lv_iconst (v := (0 : Int32)) hx hb dX3_init_22 (by decide) ?_
  refine lv_istore_n (lv' := [(1, .int (0 : Int32)), (0, .ref a0)]) hx hb dX3_init_23 rfl hl (by decide) rfl (fun ls hl => ?_)
  have k24 : ∀ (n : Nat) (v24_1 : Int32) (t13 : Hp) (k13 n13 C13 S13 : Nat) (H : Heap) (locs : List Loc) (ls : Array Slot), gw_P K t13 H → va_S K.2.2.2.1 s.heap H locs → k13 + C13 = C0 → n13 + S13 = S0 → lv_has ls 2 [(0, .ref a0), (1, .int v24_1)] → tw_lp (fx_X3_init_L24 a0) (fun _ _ => none) n v24_1 t13 = some (r, tZ, C13, S13) → W p l e (headSpec (ws_ yX3_init cX3_init 2 (none)) ({ frames := 3, cells := C0, slots := S0, locals := 50 })).room s m ([.ref a0] : List Value).toArray below meth c H locs k13 n13 (MQ below (gw_Qv K tZ) ([.ref a0] : List Value).toArray s C0 S0 K.2.2.2.1) (F0 m 24 ls []) := by
    intro n
    induction n with
    | zero => intro v24_1 t13 k13 n13 C13 S13 H locs ls hP hS hk hn hl hf; exact (tw_no hf).elim
    | succ n ih24 =>
      intro v24_1 t13 k13 n13 C13 S13 H locs ls hP hS hk hn hl hf
      obtain ⟨sf24, hs24⟩ : ∃ f, f = tw_lp (fx_X3_init_L24 a0) (fun _ _ => none) n := ⟨_, rfl⟩
      rw [← hs24] at ih24
      have hf : fx_X3_init_L24 a0 sf24 v24_1 t13 = some (r, tZ, C13, S13) := by rw [hs24]; exact hf
      clear hs24
      unfold fx_X3_init_L24 at hf
      refine lv_iload_n hx hb dX3_init_24 rfl (lv_at hl 1 rfl) ?_
      refine lv_bipush (v := (10 : Int32)) hx hb dX3_init_25 (by decide) ?_
      refine lv_icmp_ge (tgt := 49) hx hb dX3_init_27 (by decide) (fun hc => ?_) (fun hc => ?_)
      · have hf := tw_ifT hc hf
        refine lv_iconst (v := (0 : Int32)) hx hb dX3_init_49 (by decide) ?_
        refine lv_istore_n (lv' := [(1, .int (0 : Int32)), (0, .ref a0)]) hx hb dX3_init_50 rfl hl (by decide) rfl (fun ls hl => ?_)
        have k51 : ∀ (n : Nat) (v51_1 : Int32) (t14 : Hp) (k14 n14 C14 S14 : Nat) (H : Heap) (locs : List Loc) (ls : Array Slot), gw_P K t14 H → va_S K.2.2.2.1 s.heap H locs → k14 + C14 = C0 → n14 + S14 = S0 → lv_has ls 2 [(0, .ref a0), (1, .int v51_1)] → tw_lp (fx_X3_init_L51 a0) (fun _ _ => none) n v51_1 t14 = some (r, tZ, C14, S14) → W p l e (headSpec (ws_ yX3_init cX3_init 2 (none)) ({ frames := 3, cells := C0, slots := S0, locals := 50 })).room s m ([.ref a0] : List Value).toArray below meth c H locs k14 n14 (MQ below (gw_Qv K tZ) ([.ref a0] : List Value).toArray s C0 S0 K.2.2.2.1) (F0 m 51 ls []) := by
          intro n
          induction n with
          | zero => intro v51_1 t14 k14 n14 C14 S14 H locs ls hP hS hk hn hl hf; exact (tw_no hf).elim
          | succ n ih51 =>
            intro v51_1 t14 k14 n14 C14 S14 H locs ls hP hS hk hn hl hf
            obtain ⟨sf51, hs51⟩ : ∃ f, f = tw_lp (fx_X3_init_L51 a0) (fun _ _ => none) n := ⟨_, rfl⟩
            rw [← hs51] at ih51
            have hf : fx_X3_init_L51 a0 sf51 v51_1 t14 = some (r, tZ, C14, S14) := by rw [hs51]; exact hf
            clear hs51
            unfold fx_X3_init_L51 at hf
            refine lv_iload_n hx hb dX3_init_51 rfl (lv_at hl 1 rfl) ?_
            refine lv_bipush (v := (8 : Int32)) hx hb dX3_init_52 (by decide) ?_
            refine lv_icmp_ge (tgt := 76) hx hb dX3_init_54 (by decide) (fun hc => ?_) (fun hc => ?_)
            · have hf := tw_ifT hc hf
              obtain ⟨h1, h2, h3, h4⟩ := gw_rcE hf hk hn
              exact gw_iretv h2 h3 h4 C hr hP hS hlk dX3_init_76
            · have hf := tw_ifF hc hf
              refine lv_aload_n hx hb dX3_init_57 rfl (lv_at hl 0 rfl) ?_
              obtain ⟨x15, t16, e17, hf⟩ := gw_b0E hf
              refine gw_rget (ci := 2) (k := 3) (T := TX3) C hP rfl in_X3 (by decide) e17 q356 rfl dX3_init_58 (fun hP => ?_)
              refine lv_iload_n hx hb dX3_init_61 rfl (lv_at hl 1 rfl) ?_
              obtain ⟨x18, t19, c19, s19, C19, S19, e20, hf, hk, hn⟩ := gw_bcE hf hk hn
              refine gw_new (T := TX5) C hP hS rfl in_X5 tyX5_ok e20 q231 q291 q105 (Nat.le.intro hk) (Nat.le.intro hn) dX3_init_62 (fun H hP hS => ?_)
              refine lv_dup hx hb dX3_init_65 rfl ?_
              obtain ⟨x21, t22, c22, s22, C22, S22, e23, hf, hk, hn⟩ := gw_bcE hf hk hn
              refine gw_cJv (As := []) (rest := [.ref x18, .int v51_1, .ref x15]) C hml hP hS (mx_X5_init (l := l) (K := K) hA _ _ _ _ _ _ e23) ⟨va_cnB 0 hts (lw_meth q294) rfl rfl rfl (hN _ q292 rfl) (hts _ q105) hdX5_init.2 ⟨Nat.le_of_ble_eq_true rfl, Nat.le_of_ble_eq_true rfl⟩, rfl, hts _ q293⟩ rfl hl.1 rfl (Nat.le_of_ble_eq_true rfl) (Nat.le.intro hk) (Nat.le.intro hn) dX3_init_66 (fun H locs hP hS => ?_)
              obtain ⟨x24, t25, e26, hf⟩ := gw_b0E hf
              refine gw_aast (r := (RX5, TX5, 12)) C hP hS rfl rfl e26 dX3_init_69 (fun H locs hP hS => ?_)
              refine lv_iinc (v := (v51_1 + (1 : Int32))) (lv' := [(1, .int (v51_1 + (1 : Int32))), (0, .ref a0)]) hx hb dX3_init_70 hl (k := 1) rfl rfl (by decide) rfl (fun ls hl => ?_)
              refine lv_goto (tgt := 51) hx hb dX3_init_73 (by decide) ?_
              exact ih51 _ _ _ _ _ _ _ _ _ hP hS hk hn (lv_sub hl [1, 0] rfl) hf
        exact k51 _ _ _ _ _ _ _ _ _ _ hP hS hk hn (lv_sub hl [1, 0] rfl) hf
      · have hf := tw_ifF hc hf
        refine lv_aload_n hx hb dX3_init_30 rfl (lv_at hl 0 rfl) ?_
        obtain ⟨x27, t28, e29, hf⟩ := gw_b0E hf
        refine gw_rget (ci := 2) (k := 2) (T := TX3) C hP rfl in_X3 (by decide) e29 q354 rfl dX3_init_31 (fun hP => ?_)
        refine lv_iload_n hx hb dX3_init_34 rfl (lv_at hl 1 rfl) ?_
        obtain ⟨x30, t31, c31, s31, C31, S31, e32, hf, hk, hn⟩ := gw_bcE hf hk hn
        refine gw_new (T := TX4) C hP hS rfl in_X4 tyX4_ok e32 q229 q233 q104 (Nat.le.intro hk) (Nat.le.intro hn) dX3_init_35 (fun H hP hS => ?_)
        refine lv_dup hx hb dX3_init_38 rfl ?_
        obtain ⟨x33, t34, c34, s34, C34, S34, e35, hf, hk, hn⟩ := gw_bcE hf hk hn
        refine gw_cJv (As := []) (rest := [.ref x30, .int v24_1, .ref x27]) C hml hP hS (mx_X4_init (l := l) (K := K) hA _ _ _ _ _ _ e35) ⟨va_cnB 0 hts (lw_meth q236) rfl rfl rfl (hN _ q234 rfl) (hts _ q104) hdX4_init.2 ⟨Nat.le_of_ble_eq_true rfl, Nat.le_of_ble_eq_true rfl⟩, rfl, hts _ q235⟩ rfl hl.1 rfl (Nat.le_of_ble_eq_true rfl) (Nat.le.intro hk) (Nat.le.intro hn) dX3_init_39 (fun H locs hP hS => ?_)
        obtain ⟨x36, t37, e38, hf⟩ := gw_b0E hf
        refine gw_aast (r := (RX4, TX4, 12)) C hP hS rfl rfl e38 dX3_init_42 (fun H locs hP hS => ?_)
        refine lv_iinc (v := (v24_1 + (1 : Int32))) (lv' := [(1, .int (v24_1 + (1 : Int32))), (0, .ref a0)]) hx hb dX3_init_43 hl (k := 1) rfl rfl (by decide) rfl (fun ls hl => ?_)
        refine lv_goto (tgt := 24) hx hb dX3_init_46 (by decide) ?_
        exact ih24 _ _ _ _ _ _ _ _ _ hP hS hk hn (lv_sub hl [1, 0] rfl) hf
  exact k24 _ _ _ _ _ _ _ _ _ _ hP hS hk hn (lv_sub hl [1, 0] rfl) hf
def fx_X1_canUndo_J77 (a0 : Nat)  : gM Unit :=
  gw_b0 (gw_gr 0 14 a0) fun x15 =>
  gw_b0 (gw_gi 0 15 a0) fun x18 =>
  gw_b0 (gw_lr 8 x15 x18) fun x21 =>
  gw_b0 (gw_gr 0 11 a0) fun x24 =>
  gw_b0 (gw_on 2 x21 (fx_X3_like x21 x24)) fun x27 =>
  gw_b0 (gw_gi 0 15 a0) fun x30 =>
  gw_b0 (gw_pi 0 15 a0 (x30 + (1 : Int32))) fun _ =>
  gw_rc ()
def fx_X1_canUndo_J49 (a0 : Nat)  : gM Unit :=
  gw_b0 (gw_gr 0 14 a0) fun x5 =>
  gw_b0 (gw_gi 0 15 a0) fun x8 =>
  gw_b0 (gw_lq 8 x5 x8) fun x11 =>
  match x11 with
  | none => (gw_b0 (gw_gr 0 14 a0) fun x37 =>
  gw_b0 (gw_gi 0 15 a0) fun x40 =>
  gw_bc (gw_nw 2 4 tyX3) fun x43 =>
  gw_bc (fx_X3_init x43) fun _ =>
  gw_b0 (gw_sr 8 2 x37 x40 x43) fun _ =>
 
  fx_X1_canUndo_J77 a0)
  | some x36 => (fx_X1_canUndo_J77 a0)
def fx_X1_canUndo (a0 : Nat) : gM Unit :=
  gw_b0 (gw_gi 0 15 a0) fun x1 =>
  if x1 = (20 : Int32) then (gw_b0 (gw_gr 0 14 a0) fun x52 =>
  gw_b0 (gw_lr 8 x52 (0 : Int32)) fun x55 =>
  gw_b0 (gw_gr 0 14 a0) fun x58 =>
  gw_b0 (gw_gr 0 14 a0) fun x61 =>
  gw_b0 (gw_cq 8 2 x58 (1 : Int32) x61 (0 : Int32) (19 : Int32)) fun _ =>
  gw_b0 (gw_gr 0 14 a0) fun x67 =>
  gw_b0 (gw_sr 8 2 x67 (19 : Int32) x55) fun _ =>
  gw_b0 (gw_gi 0 15 a0) fun x73 =>
  gw_b0 (gw_pi 0 15 a0 (x73 - (1 : Int32))) fun _ =>
 
  fx_X1_canUndo_J49 a0)
  else (fx_X1_canUndo_J49 a0)
theorem hdX1_canUndo : yX1_canUndo.cls = "LosslessFabric" ∧ (yX1_canUndo.cls ≠ "java/lang/invoke/MethodHandle" ∧ yX1_canUndo.cls ≠ "java/lang/invoke/VarHandle" ∧ (parseMethodDescriptor yX1_canUndo.desc).map (fun d => d.parameters.length) = some 0) := by decide +kernel
set_option maxHeartbeats 4000000 in
theorem mx_X1_canUndo {l : Launch} {K : GK} (hA : gw_A K) (a0 : Nat) (t0 tZ : Hp) (r : Unit) (C0 S0 : Nat) (hf : fx_X1_canUndo a0 t0 = some (r, tZ, C0, S0)) : Met l yX1_canUndo (ws_ yX1_canUndo cX1_canUndo 2 (none)) ({ frames := 4, cells := C0, slots := S0, locals := 103 }) (va_Pc [.ref a0] (gw_W K t0)) (gw_Qv K tZ) C0 S0 K.2.2.2.1 := by
  refine Met.ofW (cc := cX1_canUndo) (maxL := 2) (ret := none) (by decide) rfl ?_
  intro p e s m args below meth c s₁ B hml hv
  obtain ⟨rfl, hP, hK, hX, hN, hL⟩ := hv
  have hx := B.exec
  have hb := B.bytes
  have hr := B.returns
  have hts := atoms_spec (ws := (ws_ yX1_canUndo cX1_canUndo 2 (none))) B.pre
  have hts : ∀ w ∈ lw_all, w.before _ s = true := fun w h => hts w (List.mem_cons_of_mem _ h)
  have hown : s.vm.findClass "LosslessFabric" = some m.cls := findClass_of_methodNamed B.named
  have hlk := B.notSynchronized
  have C : gw_C K "LosslessFabric" p s m _ c cX1_canUndo := ⟨hx, hb, hts, hown, hK, hA, hX, hN, hL⟩
  have hk : 0 + C0 = C0 := Nat.zero_add _
  have hn : 0 + S0 = S0 := Nat.zero_add _
  have hS : va_S K.2.2.2.1 s.heap s.heap [] := va_S.rf
  have hl := lv_entry ([.ref a0]) (n := 2) (Nat.le_of_ble_eq_true rfl)
  rw [lg_entry_eq]
  generalize (lg_sl ([.ref a0]) ++ List.replicate (2 - (lg_sl ([.ref a0])).length) Slot.unset).toArray = ls at hl ⊢
  have hl : lv_has ls 2 [(0, .ref a0)] := hl
  unfold fx_X1_canUndo at hf
  refine lv_aload_n hx hb dX1_canUndo_0 rfl (lv_at hl 0 rfl) ?_
  obtain ⟨x1, t2, e3, hf⟩ := gw_b0E hf
  refine gw_iget (ci := 0) (k := 15) (T := TX1) C hP rfl in_X1 (by decide) e3 q408 rfl dX1_canUndo_1 (fun hP => ?_)
  refine lv_bipush (v := (20 : Int32)) hx hb dX1_canUndo_4 (by decide) ?_
  have k49 : ∀  (t4 : Hp) (k4 n4 C4 S4 : Nat) (H : Heap) (locs : List Loc) (ls : Array Slot), gw_P K t4 H → va_S K.2.2.2.1 s.heap H locs → k4 + C4 = C0 → n4 + S4 = S0 → lv_has ls 2 [(0, .ref a0)] → fx_X1_canUndo_J49 a0  t4 = some (r, tZ, C4, S4) → W p l e (headSpec (ws_ yX1_canUndo cX1_canUndo 2 (none)) ({ frames := 4, cells := C0, slots := S0, locals := 103 })).room s m ([.ref a0] : List Value).toArray below meth c H locs k4 n4 (MQ below (gw_Qv K tZ) ([.ref a0] : List Value).toArray s C0 S0 K.2.2.2.1) (F0 m 49 ls []) := by
    intro t4 k4 n4 C4 S4 H locs ls hP hS hk hn hl hf
    unfold fx_X1_canUndo_J49 at hf
    refine lv_aload_n hx hb dX1_canUndo_49 rfl (lv_at hl 0 rfl) ?_
    obtain ⟨x5, t6, e7, hf⟩ := gw_b0E hf
    refine gw_rget (ci := 0) (k := 14) (T := TX1) C hP rfl in_X1 (by decide) e7 q407 rfl dX1_canUndo_50 (fun hP => ?_)
    refine lv_aload_n hx hb dX1_canUndo_53 rfl (lv_at hl 0 rfl) ?_
    obtain ⟨x8, t9, e10, hf⟩ := gw_b0E hf
    refine gw_iget (ci := 0) (k := 15) (T := TX1) C hP rfl in_X1 (by decide) e10 q408 rfl dX1_canUndo_54 (fun hP => ?_)
    obtain ⟨x11, t12, e13, hf⟩ := gw_b0E hf
    refine gw_qald C hP rfl e13 dX1_canUndo_57 (fun hP => ?_)
    have k77 : ∀  (t14 : Hp) (k14 n14 C14 S14 : Nat) (H : Heap) (locs : List Loc) (ls : Array Slot), gw_P K t14 H → va_S K.2.2.2.1 s.heap H locs → k14 + C14 = C0 → n14 + S14 = S0 → lv_has ls 2 [(0, .ref a0)] → fx_X1_canUndo_J77 a0  t14 = some (r, tZ, C14, S14) → W p l e (headSpec (ws_ yX1_canUndo cX1_canUndo 2 (none)) ({ frames := 4, cells := C0, slots := S0, locals := 103 })).room s m ([.ref a0] : List Value).toArray below meth c H locs k14 n14 (MQ below (gw_Qv K tZ) ([.ref a0] : List Value).toArray s C0 S0 K.2.2.2.1) (F0 m 77 ls []) := by
      intro t14 k14 n14 C14 S14 H locs ls hP hS hk hn hl hf
      unfold fx_X1_canUndo_J77 at hf
      refine lv_aload_n hx hb dX1_canUndo_77 rfl (lv_at hl 0 rfl) ?_
      obtain ⟨x15, t16, e17, hf⟩ := gw_b0E hf
      refine gw_rget (ci := 0) (k := 14) (T := TX1) C hP rfl in_X1 (by decide) e17 q407 rfl dX1_canUndo_78 (fun hP => ?_)
      refine lv_aload_n hx hb dX1_canUndo_81 rfl (lv_at hl 0 rfl) ?_
      obtain ⟨x18, t19, e20, hf⟩ := gw_b0E hf
      refine gw_iget (ci := 0) (k := 15) (T := TX1) C hP rfl in_X1 (by decide) e20 q408 rfl dX1_canUndo_82 (fun hP => ?_)
      obtain ⟨x21, t22, e23, hf⟩ := gw_b0E hf
      refine gw_aald C hP rfl e23 dX1_canUndo_85 (fun hP => ?_)
      refine lv_aload_n hx hb dX1_canUndo_86 rfl (lv_at hl 0 rfl) ?_
      obtain ⟨x24, t25, e26, hf⟩ := gw_b0E hf
      refine gw_rget (ci := 0) (k := 11) (T := TX1) C hP rfl in_X1 (by decide) e26 q404 rfl dX1_canUndo_87 (fun hP => ?_)
      obtain ⟨x27, t28, e29, hf⟩ := gw_b0E hf
      refine gw_cVr (As := [.ref x24]) (rest := []) (ci := 2) (T := TX3) (N := 4) C hml hP hS rfl (gw_onE e29).1 (mx_X3_like (l := l) (K := K) hA _ _ _ _ _ (gw_onE e29).2) (cwV 1 hts (lw_V q819 q820 q821 q103 q822) rfl rfl rfl hdX3_like ⟨Nat.le_of_ble_eq_true rfl, Nat.le_of_ble_eq_true rfl⟩) rfl hl.1 rfl (Nat.le_of_ble_eq_true rfl) (Nat.le.intro hk) (Nat.le.intro hn) dX1_canUndo_90 (fun H locs hP hS => ?_)
      refine lv_pop hx hb dX1_canUndo_93 rfl ?_
      refine lv_aload_n hx hb dX1_canUndo_94 rfl (lv_at hl 0 rfl) ?_
      refine lv_dup hx hb dX1_canUndo_95 rfl ?_
      obtain ⟨x30, t31, e32, hf⟩ := gw_b0E hf
      refine gw_iget (ci := 0) (k := 15) (T := TX1) C hP rfl in_X1 (by decide) e32 q408 rfl dX1_canUndo_96 (fun hP => ?_)
      refine lv_iconst (v := (1 : Int32)) hx hb dX1_canUndo_99 (by decide) ?_
      refine lv_iadd hx hb dX1_canUndo_100 ?_
      obtain ⟨x33, t34, e35, hf⟩ := gw_b0E hf
      refine gw_vput (ci := 0) (k := 15) (T := TX1) C hP hS rfl in_X1 tyX1 tyX1_ok nmX1 (by decide) e35 q408 rfl rfl (vp_nar_int _) rfl dX1_canUndo_101 (fun H locs hP hS => ?_)
      obtain ⟨h1, h2, h3, h4⟩ := gw_rcE hf hk hn
      exact gw_iretv h2 h3 h4 C hr hP hS hlk dX1_canUndo_104
    rcases x11 with _ | x36
    · refine lv_ifnonnullN hx hb dX1_canUndo_58 ?_
      refine lv_aload_n hx hb dX1_canUndo_61 rfl (lv_at hl 0 rfl) ?_
      obtain ⟨x37, t38, e39, hf⟩ := gw_b0E hf
      refine gw_rget (ci := 0) (k := 14) (T := TX1) C hP rfl in_X1 (by decide) e39 q407 rfl dX1_canUndo_62 (fun hP => ?_)
      refine lv_aload_n hx hb dX1_canUndo_65 rfl (lv_at hl 0 rfl) ?_
      obtain ⟨x40, t41, e42, hf⟩ := gw_b0E hf
      refine gw_iget (ci := 0) (k := 15) (T := TX1) C hP rfl in_X1 (by decide) e42 q408 rfl dX1_canUndo_66 (fun hP => ?_)
      obtain ⟨x43, t44, c44, s44, C44, S44, e45, hf, hk, hn⟩ := gw_bcE hf hk hn
      refine gw_new (T := TX3) C hP hS rfl in_X3 tyX3_ok e45 q223 q224 q103 (Nat.le.intro hk) (Nat.le.intro hn) dX1_canUndo_69 (fun H hP hS => ?_)
      refine lv_dup hx hb dX1_canUndo_72 rfl ?_
      obtain ⟨x46, t47, c47, s47, C47, S47, e48, hf, hk, hn⟩ := gw_bcE hf hk hn
      refine gw_cJv (As := []) (rest := [.ref x43, .int x40, .ref x37]) C hml hP hS (mx_X3_init (l := l) (K := K) hA _ _ _ _ _ _ e48) ⟨va_cnB 0 hts (lw_meth q227) rfl rfl rfl (hN _ q225 rfl) (hts _ q103) hdX3_init.2 ⟨Nat.le_of_ble_eq_true rfl, Nat.le_of_ble_eq_true rfl⟩, rfl, hts _ q226⟩ rfl hl.1 rfl (Nat.le_of_ble_eq_true rfl) (Nat.le.intro hk) (Nat.le.intro hn) dX1_canUndo_73 (fun H locs hP hS => ?_)
      obtain ⟨x49, t50, e51, hf⟩ := gw_b0E hf
      refine gw_aast (r := (RX3, TX3, 4)) C hP hS rfl rfl e51 dX1_canUndo_76 (fun H locs hP hS => ?_)
      exact k77 _ _ _ _ _ _ _ _ hP hS hk hn (lv_sub hl [0] rfl) hf
    · refine lv_ifnonnull (tgt := 77) hx hb dX1_canUndo_58 (by decide) ?_
      exact k77 _ _ _ _ _ _ _ _ hP hS hk hn (lv_sub hl [0] rfl) hf
  refine lv_icmp_ne (tgt := 49) hx hb dX1_canUndo_6 (by decide) (fun hc => ?_) (fun hc => ?_)
  · have hf := tw_ifF hc hf
    exact k49 _ _ _ _ _ _ _ _ hP hS hk hn (lv_sub hl [0] rfl) hf
  · have hf := tw_ifT hc hf
    refine lv_aload_n hx hb dX1_canUndo_9 rfl (lv_at hl 0 rfl) ?_
    obtain ⟨x52, t53, e54, hf⟩ := gw_b0E hf
    refine gw_rget (ci := 0) (k := 14) (T := TX1) C hP rfl in_X1 (by decide) e54 q407 rfl dX1_canUndo_10 (fun hP => ?_)
    refine lv_iconst (v := (0 : Int32)) hx hb dX1_canUndo_13 (by decide) ?_
    obtain ⟨x55, t56, e57, hf⟩ := gw_b0E hf
    refine gw_aald C hP rfl e57 dX1_canUndo_14 (fun hP => ?_)
    refine lv_astore_n (lv' := [(1, .ref x55), (0, .ref a0)]) hx hb dX1_canUndo_15 rfl hl (by decide) rfl (fun ls hl => ?_)
    refine lv_aload_n hx hb dX1_canUndo_16 rfl (lv_at hl 1 rfl) ?_
    obtain ⟨x58, t59, e60, hf⟩ := gw_b0E hf
    refine gw_rget (ci := 0) (k := 14) (T := TX1) C hP rfl in_X1 (by decide) e60 q407 rfl dX1_canUndo_17 (fun hP => ?_)
    refine lv_iconst (v := (1 : Int32)) hx hb dX1_canUndo_20 (by decide) ?_
    refine lv_aload_n hx hb dX1_canUndo_21 rfl (lv_at hl 1 rfl) ?_
    obtain ⟨x61, t62, e63, hf⟩ := gw_b0E hf
    refine gw_rget (ci := 0) (k := 14) (T := TX1) C hP rfl in_X1 (by decide) e63 q407 rfl dX1_canUndo_22 (fun hP => ?_)
    refine lv_iconst (v := (0 : Int32)) hx hb dX1_canUndo_25 (by decide) ?_
    refine lv_bipush (v := (19 : Int32)) hx hb dX1_canUndo_26 (by decide) ?_
    obtain ⟨x64, t65, e66, hf⟩ := gw_b0E hf
    refine gw_copyq (rest := []) (r := (RX3, TX3, 4)) C (hml.trans hl.1.symm) hP hS rfl rfl e66 q851 q829 q828 q119 (Nat.le_of_ble_eq_true rfl) (Nat.le_of_ble_eq_true rfl) dX1_canUndo_28 (fun H locs hP hS => ?_)
    refine lv_aload_n hx hb dX1_canUndo_31 rfl (lv_at hl 1 rfl) ?_
    obtain ⟨x67, t68, e69, hf⟩ := gw_b0E hf
    refine gw_rget (ci := 0) (k := 14) (T := TX1) C hP rfl in_X1 (by decide) e69 q407 rfl dX1_canUndo_32 (fun hP => ?_)
    refine lv_bipush (v := (19 : Int32)) hx hb dX1_canUndo_35 (by decide) ?_
    refine lv_aload_n hx hb dX1_canUndo_37 rfl (lv_at hl 0 rfl) ?_
    obtain ⟨x70, t71, e72, hf⟩ := gw_b0E hf
    refine gw_aast (r := (RX3, TX3, 4)) C hP hS rfl rfl e72 dX1_canUndo_38 (fun H locs hP hS => ?_)
    refine lv_aload_n hx hb dX1_canUndo_39 rfl (lv_at hl 1 rfl) ?_
    refine lv_dup hx hb dX1_canUndo_40 rfl ?_
    obtain ⟨x73, t74, e75, hf⟩ := gw_b0E hf
    refine gw_iget (ci := 0) (k := 15) (T := TX1) C hP rfl in_X1 (by decide) e75 q408 rfl dX1_canUndo_41 (fun hP => ?_)
    refine lv_iconst (v := (1 : Int32)) hx hb dX1_canUndo_44 (by decide) ?_
    refine lv_isub hx hb dX1_canUndo_45 ?_
    obtain ⟨x76, t77, e78, hf⟩ := gw_b0E hf
    refine gw_vput (ci := 0) (k := 15) (T := TX1) C hP hS rfl in_X1 tyX1 tyX1_ok nmX1 (by decide) e78 q408 rfl rfl (vp_nar_int _) rfl dX1_canUndo_46 (fun H locs hP hS => ?_)
    exact k49 _ _ _ _ _ _ _ _ hP hS hk hn (lv_sub hl [1] rfl) hf
def fx_X1_bounds_J33   : gM Int32 :=
  gw_rz (0 : Int32)
def fx_X1_bounds (a0 : Nat) (a1 : Int32) (a2 : Int32) (a3 : Int32) : gM Int32 :=
  gw_bc (gw_on 0 a0 (fx_X1_isLink a0 a1)) fun x1 =>
  if x1 = 0 then (fx_X1_bounds_J33)
  else (gw_b0 (fx_X1_isIn (a2.toInt64) (1 : Int64) (999 : Int64)) fun x5 =>
  if x5 = 0 then (fx_X1_bounds_J33)
  else (gw_b0 (fx_X1_isIn (a3.toInt64) (0 : Int64) ((a2 - (1 : Int32)).toInt64)) fun x8 =>
  if x8 = 0 then (fx_X1_bounds_J33)
  else (gw_bc (gw_on 0 a0 (fx_X1_canUndo a0)) fun _ =>
  gw_b0 (gw_gr 0 11 a0) fun x14 =>
  gw_b0 (gw_gr 2 2 x14) fun x17 =>
  gw_b0 (gw_lr 6 x17 a1) fun x20 =>
  gw_b0 (gw_pi 3 1 x20 a2) fun _ =>
  gw_b0 (gw_gr 0 11 a0) fun x26 =>
  gw_b0 (gw_gr 2 2 x26) fun x29 =>
  gw_b0 (gw_lr 6 x29 a1) fun x32 =>
  gw_b0 (gw_pi 3 2 x32 a3) fun _ =>
  gw_rz (1 : Int32))))
theorem hdX1_bounds : yX1_bounds.cls = "LosslessFabric" ∧ (yX1_bounds.cls ≠ "java/lang/invoke/MethodHandle" ∧ yX1_bounds.cls ≠ "java/lang/invoke/VarHandle" ∧ (parseMethodDescriptor yX1_bounds.desc).map (fun d => d.parameters.length) = some 3) := by decide +kernel
set_option maxHeartbeats 4000000 in
theorem mx_X1_bounds {l : Launch} {K : GK} (hA : gw_A K) (a0 : Nat) (a1 : Int32) (a2 : Int32) (a3 : Int32) (t0 tZ : Hp) (r : Int32) (C0 S0 : Nat) (hf : fx_X1_bounds a0 a1 a2 a3 t0 = some (r, tZ, C0, S0)) : Met l yX1_bounds (ws_ yX1_bounds cX1_bounds 4 (some (.boolean))) ({ frames := 5, cells := C0, slots := S0, locals := 124 }) (va_Pc [.ref a0, .int a1, .int a2, .int a3] (gw_W K t0)) (gw_Qi K r tZ) C0 S0 K.2.2.2.1 := by
  refine Met.ofW (cc := cX1_bounds) (maxL := 4) (ret := some (.boolean)) (by decide) rfl ?_
  intro p e s m args below meth c s₁ B hml hv
  obtain ⟨rfl, hP, hK, hX, hN, hL⟩ := hv
  have hx := B.exec
  have hb := B.bytes
  have hr := B.returns
  have hts := atoms_spec (ws := (ws_ yX1_bounds cX1_bounds 4 (some (.boolean)))) B.pre
  have hts : ∀ w ∈ lw_all, w.before _ s = true := fun w h => hts w (List.mem_cons_of_mem _ h)
  have hown : s.vm.findClass "LosslessFabric" = some m.cls := findClass_of_methodNamed B.named
  have hlk := B.notSynchronized
  have C : gw_C K "LosslessFabric" p s m _ c cX1_bounds := ⟨hx, hb, hts, hown, hK, hA, hX, hN, hL⟩
  have hk : 0 + C0 = C0 := Nat.zero_add _
  have hn : 0 + S0 = S0 := Nat.zero_add _
  have hS : va_S K.2.2.2.1 s.heap s.heap [] := va_S.rf
  have hl := lv_entry ([.ref a0, .int a1, .int a2, .int a3]) (n := 4) (Nat.le_of_ble_eq_true rfl)
  rw [lg_entry_eq]
  generalize (lg_sl ([.ref a0, .int a1, .int a2, .int a3]) ++ List.replicate (4 - (lg_sl ([.ref a0, .int a1, .int a2, .int a3])).length) Slot.unset).toArray = ls at hl ⊢
  have hl : lv_has ls 4 [(0, .ref a0), (1, .int a1), (2, .int a2), (3, .int a3)] := hl
  unfold fx_X1_bounds at hf
  refine lv_aload_n hx hb dX1_bounds_0 rfl (lv_at hl 0 rfl) ?_
  refine lv_iload_n hx hb dX1_bounds_1 rfl (lv_at hl 1 rfl) ?_
  obtain ⟨x1, t2, c2, s2, C2, S2, e3, hf, hk, hn⟩ := gw_bcE hf hk hn
  refine gw_cVi (As := [.int a1]) (rest := []) (ci := 0) (T := TX1) (N := 18) C hml hP hS rfl (gw_onE e3).1 (mx_X1_isLink (l := l) (K := K) hA _ _ _ _ _ _ _ (gw_onE e3).2) (cwV 1 hts (lw_V q968 q970 qs22 q101 q971) rfl rfl rfl hdX1_isLink ⟨Nat.le_of_ble_eq_true rfl, Nat.le_of_ble_eq_true rfl⟩) rfl hl.1 rfl (Nat.le_of_ble_eq_true rfl) (Nat.le.intro hk) (Nat.le.intro hn) dX1_bounds_2 (fun H locs hP hS => ?_)
  have k33 : ∀  (t4 : Hp) (k4 n4 C4 S4 : Nat) (H : Heap) (locs : List Loc) (ls : Array Slot), gw_P K t4 H → va_S K.2.2.2.1 s.heap H locs → k4 + C4 = C0 → n4 + S4 = S0 → lv_has ls 4 [] → fx_X1_bounds_J33  t4 = some (r, tZ, C4, S4) → W p l e (headSpec (ws_ yX1_bounds cX1_bounds 4 (some (.boolean))) ({ frames := 5, cells := C0, slots := S0, locals := 124 })).room s m ([.ref a0, .int a1, .int a2, .int a3] : List Value).toArray below meth c H locs k4 n4 (MQ below (gw_Qi K r tZ) ([.ref a0, .int a1, .int a2, .int a3] : List Value).toArray s C0 S0 K.2.2.2.1) (F0 m 33 ls []) := by
    intro t4 k4 n4 C4 S4 H locs ls hP hS hk hn hl hf
    unfold fx_X1_bounds_J33 at hf
    refine lv_iconst (v := (0 : Int32)) hx hb dX1_bounds_33 (by decide) ?_
    obtain ⟨h0, h1, h2, h3, h4⟩ := gw_rzE hf hk hn
    exact gw_iretz h0 h1 h2 h3 h4 C hr hP hS hlk dX1_bounds_34
  refine lv_if_eq (tgt := 33) hx hb dX1_bounds_5 (by decide) (fun hc => ?_) (fun hc => ?_)
  · have hf := tw_ifT hc hf
    exact k33 _ _ _ _ _ _ _ _ hP hS hk hn (lv_sub hl [] rfl) hf
  · have hf := tw_ifF hc hf
    refine lv_iload_n hx hb dX1_bounds_8 rfl (lv_at hl 2 rfl) ?_
    refine lv_i2l hx hb dX1_bounds_9 rfl ?_
    refine lv_lconst (v := (1 : Int64)) hx hb dX1_bounds_10 (by decide) ?_
    refine lv_ldc2 hx hb hown (hts _ q972) dX1_bounds_11 ?_
    obtain ⟨x5, t6, e7, hf⟩ := gw_b0E hf
    refine gw_cSi (As := [.long (a2.toInt64), .long (1 : Int64), .long (999 : Int64)]) (rest := []) C hml hP hS (mx_X1_isIn (l := l) (K := K) hA _ _ _ _ _ _ e7) (va_cwS 3 hts (lw_S q457 q458 q101 q459) rfl rfl rfl hdX1_isIn ⟨Nat.le_of_ble_eq_true rfl, Nat.le_of_ble_eq_true rfl⟩) rfl hl.1 rfl (Nat.le_of_ble_eq_true rfl) (Nat.le.intro hk) (Nat.le.intro hn) dX1_bounds_14 (fun H locs hP hS => ?_)
    refine lv_if_eq (tgt := 33) hx hb dX1_bounds_17 (by decide) (fun hc => ?_) (fun hc => ?_)
    · have hf := tw_ifT hc hf
      exact k33 _ _ _ _ _ _ _ _ hP hS hk hn (lv_sub hl [] rfl) hf
    · have hf := tw_ifF hc hf
      refine lv_iload_n hx hb dX1_bounds_20 rfl (lv_at hl 3 rfl) ?_
      refine lv_i2l hx hb dX1_bounds_21 rfl ?_
      refine lv_lconst (v := (0 : Int64)) hx hb dX1_bounds_22 (by decide) ?_
      refine lv_iload_n hx hb dX1_bounds_23 rfl (lv_at hl 2 rfl) ?_
      refine lv_iconst (v := (1 : Int32)) hx hb dX1_bounds_24 (by decide) ?_
      refine lv_isub hx hb dX1_bounds_25 ?_
      refine lv_i2l hx hb dX1_bounds_26 rfl ?_
      obtain ⟨x8, t9, e10, hf⟩ := gw_b0E hf
      refine gw_cSi (As := [.long (a3.toInt64), .long (0 : Int64), .long ((a2 - (1 : Int32)).toInt64)]) (rest := []) C hml hP hS (mx_X1_isIn (l := l) (K := K) hA _ _ _ _ _ _ e10) (va_cwS 3 hts (lw_S q457 q458 q101 q459) rfl rfl rfl hdX1_isIn ⟨Nat.le_of_ble_eq_true rfl, Nat.le_of_ble_eq_true rfl⟩) rfl hl.1 rfl (Nat.le_of_ble_eq_true rfl) (Nat.le.intro hk) (Nat.le.intro hn) dX1_bounds_27 (fun H locs hP hS => ?_)
      refine lv_if_ne (tgt := 35) hx hb dX1_bounds_30 (by decide) (fun hc => ?_) (fun hc => ?_)
      · have hf := tw_ifF hc hf
        refine lv_aload_n hx hb dX1_bounds_35 rfl (lv_at hl 0 rfl) ?_
        obtain ⟨x11, t12, c12, s12, C12, S12, e13, hf, hk, hn⟩ := gw_bcE hf hk hn
        refine gw_cVv (As := []) (rest := []) (ci := 0) (T := TX1) (N := 18) C hml hP hS rfl (gw_onE e13).1 (mx_X1_canUndo (l := l) (K := K) hA _ _ _ _ _ _ (gw_onE e13).2) (cwV 0 hts (lw_V q847 q849 qs15 q101 q850) rfl rfl rfl hdX1_canUndo ⟨Nat.le_of_ble_eq_true rfl, Nat.le_of_ble_eq_true rfl⟩) rfl hl.1 rfl (Nat.le_of_ble_eq_true rfl) (Nat.le.intro hk) (Nat.le.intro hn) dX1_bounds_36 (fun H locs hP hS => ?_)
        refine lv_aload_n hx hb dX1_bounds_39 rfl (lv_at hl 0 rfl) ?_
        obtain ⟨x14, t15, e16, hf⟩ := gw_b0E hf
        refine gw_rget (ci := 0) (k := 11) (T := TX1) C hP rfl in_X1 (by decide) e16 q404 rfl dX1_bounds_40 (fun hP => ?_)
        obtain ⟨x17, t18, e19, hf⟩ := gw_b0E hf
        refine gw_rgetN (ci := 2) (k := 2) (T := TX3) C hP rfl in_X3 (by decide) e19 q355 rfl dX1_bounds_43 (fun hP => ?_)
        refine lv_iload_n hx hb dX1_bounds_46 rfl (lv_at hl 1 rfl) ?_
        obtain ⟨x20, t21, e22, hf⟩ := gw_b0E hf
        refine gw_aald C hP rfl e22 dX1_bounds_47 (fun hP => ?_)
        refine lv_iload_n hx hb dX1_bounds_48 rfl (lv_at hl 2 rfl) ?_
        obtain ⟨x23, t24, e25, hf⟩ := gw_b0E hf
        refine gw_vputN (ci := 3) (k := 1) (T := TX4) C hP hS rfl in_X4 tyX4 tyX4_ok nmX4 (by decide) e25 q242 rfl rfl (vp_nar_int _) rfl dX1_bounds_49 (fun H locs hP hS => ?_)
        refine lv_aload_n hx hb dX1_bounds_52 rfl (lv_at hl 0 rfl) ?_
        obtain ⟨x26, t27, e28, hf⟩ := gw_b0E hf
        refine gw_rget (ci := 0) (k := 11) (T := TX1) C hP rfl in_X1 (by decide) e28 q404 rfl dX1_bounds_53 (fun hP => ?_)
        obtain ⟨x29, t30, e31, hf⟩ := gw_b0E hf
        refine gw_rgetN (ci := 2) (k := 2) (T := TX3) C hP rfl in_X3 (by decide) e31 q355 rfl dX1_bounds_56 (fun hP => ?_)
        refine lv_iload_n hx hb dX1_bounds_59 rfl (lv_at hl 1 rfl) ?_
        obtain ⟨x32, t33, e34, hf⟩ := gw_b0E hf
        refine gw_aald C hP rfl e34 dX1_bounds_60 (fun hP => ?_)
        refine lv_iload_n hx hb dX1_bounds_61 rfl (lv_at hl 3 rfl) ?_
        obtain ⟨x35, t36, e37, hf⟩ := gw_b0E hf
        refine gw_vputN (ci := 3) (k := 2) (T := TX4) C hP hS rfl in_X4 tyX4 tyX4_ok nmX4 (by decide) e37 q244 rfl rfl (vp_nar_int _) rfl dX1_bounds_62 (fun H locs hP hS => ?_)
        refine lv_iconst (v := (1 : Int32)) hx hb dX1_bounds_65 (by decide) ?_
        obtain ⟨h0, h1, h2, h3, h4⟩ := gw_rzE hf hk hn
        exact gw_iretz h0 h1 h2 h3 h4 C hr hP hS hlk dX1_bounds_66
      · have hf := tw_ifT hc hf
        exact k33 _ _ _ _ _ _ _ _ hP hS hk hn (lv_sub hl [] rfl) hf
def fx_X1_draw (a0 : Nat) (a1 : Int32) : HM Int32 :=
  tw_bd (gw_gl 0 17 a0) fun x1 =>
  tw_bd (gw_pl 0 17 a0 (((x1 * (1103515245 : Int64)) + (12345 : Int64)) &&& (2147483647 : Int64))) fun _ =>
  tw_bd (gw_gl 0 17 a0) fun x7 =>
  tw_bd (tw_nl (65536 : Int64)) fun _ =>
  tw_bd (tw_nl (a1.toInt64)) fun _ =>
  tw_rt (((x7 / (65536 : Int64)) - (x7 / (65536 : Int64)) / (a1.toInt64) * (a1.toInt64)).toInt32)
theorem hdX1_draw : yX1_draw.cls = "LosslessFabric" ∧ (yX1_draw.cls ≠ "java/lang/invoke/MethodHandle" ∧ yX1_draw.cls ≠ "java/lang/invoke/VarHandle" ∧ (parseMethodDescriptor yX1_draw.desc).map (fun d => d.parameters.length) = some 1) := by decide +kernel
set_option maxHeartbeats 4000000 in
theorem mx_X1_draw {l : Launch} {K : GK} (hA : gw_A K) (a0 : Nat) (a1 : Int32) (t0 tZ : Hp) (r : Int32) (hf : fx_X1_draw a0 a1 t0 = some (r, tZ)) : Met l yX1_draw (ws_ yX1_draw cX1_draw 2 (some (.int))) ({ frames := 2, cells := 0, slots := 0, locals := 12 }) (va_Pc [.ref a0, .int a1] (gw_W K t0)) (gw_Qi K r tZ) 0 0 K.2.2.2.1 := by
  refine Met.ofW (cc := cX1_draw) (maxL := 2) (ret := some (.int)) (by decide) rfl ?_
  intro p e s m args below meth c s₁ B hml hv
  obtain ⟨rfl, hP, hK, hX, hN, hL⟩ := hv
  have hx := B.exec
  have hb := B.bytes
  have hr := B.returns
  have hts := atoms_spec (ws := (ws_ yX1_draw cX1_draw 2 (some (.int)))) B.pre
  have hts : ∀ w ∈ lw_all, w.before _ s = true := fun w h => hts w (List.mem_cons_of_mem _ h)
  have hown : s.vm.findClass "LosslessFabric" = some m.cls := findClass_of_methodNamed B.named
  have hlk := B.notSynchronized
  have C : gw_C K "LosslessFabric" p s m _ c cX1_draw := ⟨hx, hb, hts, hown, hK, hA, hX, hN, hL⟩
  have hS : va_S K.2.2.2.1 s.heap s.heap [] := va_S.rf
  have hl := lv_entry ([.ref a0, .int a1]) (n := 2) (Nat.le_of_ble_eq_true rfl)
  rw [lg_entry_eq]
  generalize (lg_sl ([.ref a0, .int a1]) ++ List.replicate (2 - (lg_sl ([.ref a0, .int a1])).length) Slot.unset).toArray = ls at hl ⊢
  have hl : lv_has ls 2 [(0, .ref a0), (1, .int a1)] := hl
  unfold fx_X1_draw at hf
  refine lv_aload_n hx hb dX1_draw_0 rfl (lv_at hl 0 rfl) ?_
  refine lv_aload_n hx hb dX1_draw_1 rfl (lv_at hl 0 rfl) ?_
  obtain ⟨x1, t2, e3, hf⟩ := tw_bdE hf
  refine gw_lget (ci := 0) (k := 17) (T := TX1) C hP rfl in_X1 (by decide) e3 q410 rfl dX1_draw_2 (fun hP => ?_)
  refine lv_ldc2 hx hb hown (hts _ q1255) dX1_draw_5 ?_
  refine lv_lmul hx hb dX1_draw_8 ?_
  refine lv_ldc2 hx hb hown (hts _ q1256) dX1_draw_9 ?_
  refine lv_ladd hx hb dX1_draw_12 ?_
  refine lv_ldc2 hx hb hown (hts _ q1257) dX1_draw_13 ?_
  refine lv_land hx hb dX1_draw_16 ?_
  obtain ⟨x4, t5, e6, hf⟩ := tw_bdE hf
  refine gw_vput (ci := 0) (k := 17) (T := TX1) C hP hS rfl in_X1 tyX1 tyX1_ok nmX1 (by decide) e6 q410 rfl rfl rfl rfl dX1_draw_17 (fun H locs hP hS => ?_)
  refine lv_aload_n hx hb dX1_draw_20 rfl (lv_at hl 0 rfl) ?_
  obtain ⟨x7, t8, e9, hf⟩ := tw_bdE hf
  refine gw_lget (ci := 0) (k := 17) (T := TX1) C hP rfl in_X1 (by decide) e9 q410 rfl dX1_draw_21 (fun hP => ?_)
  refine lv_ldc2 hx hb hown (hts _ q1258) dX1_draw_24 ?_
  obtain ⟨w10, t11, e12, hf⟩ := tw_bdE hf
  rw [← (tw_nlE e12).2] at hf
  refine lv_ldiv hx hb dX1_draw_27 (tw_nlE e12).1 ?_
  refine lv_iload_n hx hb dX1_draw_28 rfl (lv_at hl 1 rfl) ?_
  refine lv_i2l hx hb dX1_draw_29 rfl ?_
  obtain ⟨w13, t14, e15, hf⟩ := tw_bdE hf
  rw [← (tw_nlE e15).2] at hf
  refine lv_lrem hx hb dX1_draw_30 (tw_nlE e15).1 ?_
  refine lv_l2i hx hb dX1_draw_31 rfl ?_
  exact gw_ireti (tw_rtE hf).1 (tw_rtE hf).2 rfl rfl C hr hP hS hlk dX1_draw_32
def fx_X12_init (a0 : Nat) (a1 : Nat) (a2 : Nat) : gM Unit :=
  gw_b0 (gw_pr 11 4 a0 a1) fun _ =>
   gw_bc (gw_na 0 (10 : Int32)) fun x4 =>
  gw_b0 (gw_pr 11 1 a0 x4) fun _ =>
  gw_bc (gw_na 0 (10 : Int32)) fun x10 =>
  gw_b0 (gw_pr 11 2 a0 x10) fun _ =>
  gw_b0 (gw_pr 11 0 a0 a2) fun _ =>
  gw_rc ()
theorem hdX12_init : yX12_init.cls = "LosslessFabric$Cycle" ∧ (yX12_init.cls ≠ "java/lang/invoke/MethodHandle" ∧ yX12_init.cls ≠ "java/lang/invoke/VarHandle" ∧ (parseMethodDescriptor yX12_init.desc).map (fun d => d.parameters.length) = some 2) := by decide +kernel
set_option maxHeartbeats 4000000 in
theorem mx_X12_init {l : Launch} {K : GK} (hA : gw_A K) (a0 : Nat) (a1 : Nat) (a2 : Nat) (t0 tZ : Hp) (r : Unit) (C0 S0 : Nat) (hf : fx_X12_init a0 a1 a2 t0 = some (r, tZ, C0, S0)) : Met l yX12_init (ws_ yX12_init cX12_init 3 (none)) ({ frames := 2, cells := C0, slots := S0, locals := 30 }) (va_Pc [.ref a0, .ref a1, .ref a2] (gw_W K t0)) (gw_Qv K tZ) C0 S0 K.2.2.2.1 := by
  refine Met.ofW (cc := cX12_init) (maxL := 3) (ret := none) (by decide) rfl ?_
  intro p e s m args below meth c s₁ B hml hv
  obtain ⟨rfl, hP, hK, hX, hN, hL⟩ := hv
  have hx := B.exec
  have hb := B.bytes
  have hr := B.returns
  have hts := atoms_spec (ws := (ws_ yX12_init cX12_init 3 (none))) B.pre
  have hts : ∀ w ∈ lw_all, w.before _ s = true := fun w h => hts w (List.mem_cons_of_mem _ h)
  have hown : s.vm.findClass "LosslessFabric$Cycle" = some m.cls := findClass_of_methodNamed B.named
  have hlk := B.notSynchronized
  have hin : meth.name = "<init>" := (name_of_methodNamed B.named B.method).1
  have C : gw_C K "LosslessFabric$Cycle" p s m _ c cX12_init := ⟨hx, hb, hts, hown, hK, hA, hX, hN, hL⟩
  have hk : 0 + C0 = C0 := Nat.zero_add _
  have hn : 0 + S0 = S0 := Nat.zero_add _
  have hS : va_S K.2.2.2.1 s.heap s.heap [] := va_S.rf
  have hl := lv_entry ([.ref a0, .ref a1, .ref a2]) (n := 3) (Nat.le_of_ble_eq_true rfl)
  rw [lg_entry_eq]
  generalize (lg_sl ([.ref a0, .ref a1, .ref a2]) ++ List.replicate (3 - (lg_sl ([.ref a0, .ref a1, .ref a2])).length) Slot.unset).toArray = ls at hl ⊢
  have hl : lv_has ls 3 [(0, .ref a0), (1, .ref a1), (2, .ref a2)] := hl
  unfold fx_X12_init at hf
  refine lv_aload_n hx hb dX12_init_0 rfl (lv_at hl 0 rfl) ?_
  refine lv_aload_n hx hb dX12_init_1 rfl (lv_at hl 1 rfl) ?_
  obtain ⟨x1, t2, e3, hf⟩ := gw_b0E hf
  refine gw_vputF (ci := 11) (k := 4) (T := TX12) C hP hS rfl in_X12 tyX12 tyX12_ok nmX12 (by decide) e3 q1060 rfl rfl hin rfl rfl rfl dX12_init_2 (fun H locs hP hS => ?_)
  refine lv_aload_n hx hb dX12_init_5 rfl (lv_at hl 0 rfl) ?_
  refine W.objInit (rest := []) hx hb hown (hts _ q1053) (hts _ q134) (hts _ q135) rfl (by rw [hml]; exact hl.1) rfl dX12_init_6 (Nat.le_of_ble_eq_true rfl) (Nat.le_of_ble_eq_true rfl) ?_
  refine W.eq (g2 := F0 m 9 ls []) rfl ?_
  refine lv_aload_n hx hb dX12_init_9 rfl (lv_at hl 0 rfl) ?_
  refine lv_bipush (v := (10 : Int32)) hx hb dX12_init_10 (by decide) ?_
  obtain ⟨x4, t5, c5, s5, C5, S5, e6, hf, hk, hn⟩ := gw_bcE hf hk hn
  refine gw_newa (atype := .int) C hP hS e6 q290 rfl rfl (fun h => h) rfl (by decide) (Nat.le.intro hk) (Nat.le.intro hn) dX12_init_12 (fun H hP hS => ?_)
  obtain ⟨x7, t8, e9, hf⟩ := gw_b0E hf
  refine gw_vputF (ci := 11) (k := 1) (T := TX12) C hP hS rfl in_X12 tyX12 tyX12_ok nmX12 (by decide) e9 q1055 rfl rfl hin rfl rfl rfl dX12_init_14 (fun H locs hP hS => ?_)
  refine lv_aload_n hx hb dX12_init_17 rfl (lv_at hl 0 rfl) ?_
  refine lv_bipush (v := (10 : Int32)) hx hb dX12_init_18 (by decide) ?_
  obtain ⟨x10, t11, c11, s11, C11, S11, e12, hf, hk, hn⟩ := gw_bcE hf hk hn
  refine gw_newa (atype := .int) C hP hS e12 q290 rfl rfl (fun h => h) rfl (by decide) (Nat.le.intro hk) (Nat.le.intro hn) dX12_init_20 (fun H hP hS => ?_)
  obtain ⟨x13, t14, e15, hf⟩ := gw_b0E hf
  refine gw_vputF (ci := 11) (k := 2) (T := TX12) C hP hS rfl in_X12 tyX12 tyX12_ok nmX12 (by decide) e15 q1056 rfl rfl hin rfl rfl rfl dX12_init_22 (fun H locs hP hS => ?_)
  refine lv_aload_n hx hb dX12_init_25 rfl (lv_at hl 0 rfl) ?_
  refine lv_aload_n hx hb dX12_init_26 rfl (lv_at hl 2 rfl) ?_
  obtain ⟨x16, t17, e18, hf⟩ := gw_b0E hf
  refine gw_vputF (ci := 11) (k := 0) (T := TX12) C hP hS rfl in_X12 tyX12 tyX12_ok nmX12 (by decide) e18 q1054 rfl rfl hin rfl rfl rfl dX12_init_27 (fun H locs hP hS => ?_)
  obtain ⟨h1, h2, h3, h4⟩ := gw_rcE hf hk hn
  exact gw_iretv h2 h3 h4 C hr hP hS hlk dX12_init_30
def fx_X1_paused (a0 : Nat) (a1 : Nat) : gM Nat :=
  gw_bc (gw_nw 11 5 tyX12) fun x1 =>
  gw_bc (gw_n1 2 a1) fun x4 =>
  gw_bc (fx_X12_init x1 a0 x4) fun _ =>
  gw_rc x1
theorem hdX1_paused : yX1_paused.cls = "LosslessFabric" ∧ (yX1_paused.cls ≠ "java/lang/invoke/MethodHandle" ∧ yX1_paused.cls ≠ "java/lang/invoke/VarHandle" ∧ (parseMethodDescriptor yX1_paused.desc).map (fun d => d.parameters.length) = some 1) := by decide +kernel
set_option maxHeartbeats 4000000 in
theorem mx_X1_paused {l : Launch} {K : GK} (hA : gw_A K) (a0 : Nat) (a1 : Nat) (t0 tZ : Hp) (r : Nat) (C0 S0 : Nat) (hf : fx_X1_paused a0 a1 t0 = some (r, tZ, C0, S0)) : Met l yX1_paused (ws_ yX1_paused cX1_paused 2 (some (.object "LosslessFabric$Cycle"))) ({ frames := 3, cells := C0, slots := S0, locals := 3200 }) (va_Pc [.ref a0, .ref a1] (gw_W K t0)) (gw_Qr K r tZ) C0 S0 K.2.2.2.1 := by
  refine Met.ofW (cc := cX1_paused) (maxL := 2) (ret := some (.object "LosslessFabric$Cycle")) (by decide) rfl ?_
  intro p e s m args below meth c s₁ B hml hv
  obtain ⟨rfl, hP, hK, hX, hN, hL⟩ := hv
  have hx := B.exec
  have hb := B.bytes
  have hr := B.returns
  have hts := atoms_spec (ws := (ws_ yX1_paused cX1_paused 2 (some (.object "LosslessFabric$Cycle")))) B.pre
  have hts : ∀ w ∈ lw_all, w.before _ s = true := fun w h => hts w (List.mem_cons_of_mem _ h)
  have hown : s.vm.findClass "LosslessFabric" = some m.cls := findClass_of_methodNamed B.named
  have hlk := B.notSynchronized
  have C : gw_C K "LosslessFabric" p s m _ c cX1_paused := ⟨hx, hb, hts, hown, hK, hA, hX, hN, hL⟩
  have hk : 0 + C0 = C0 := Nat.zero_add _
  have hn : 0 + S0 = S0 := Nat.zero_add _
  have hS : va_S K.2.2.2.1 s.heap s.heap [] := va_S.rf
  have hl := lv_entry ([.ref a0, .ref a1]) (n := 2) (Nat.le_of_ble_eq_true rfl)
  rw [lg_entry_eq]
  generalize (lg_sl ([.ref a0, .ref a1]) ++ List.replicate (2 - (lg_sl ([.ref a0, .ref a1])).length) Slot.unset).toArray = ls at hl ⊢
  have hl : lv_has ls 2 [(0, .ref a0), (1, .ref a1)] := hl
  unfold fx_X1_paused at hf
  obtain ⟨x1, t2, c2, s2, C2, S2, e3, hf, hk, hn⟩ := gw_bcE hf hk hn
  refine gw_new (T := TX12) C hP hS rfl in_X12 tyX12_ok e3 q1046 q1047 q125 (Nat.le.intro hk) (Nat.le.intro hn) dX1_paused_0 (fun H hP hS => ?_)
  refine lv_dup hx hb dX1_paused_3 rfl ?_
  refine lv_aload_n hx hb dX1_paused_4 rfl (lv_at hl 0 rfl) ?_
  refine lv_aload_n hx hb dX1_paused_5 rfl (lv_at hl 1 rfl) ?_
  obtain ⟨x4, t5, c5, s5, C5, S5, e6, hf, hk, hn⟩ := gw_bcE hf hk hn
  refine gw_mk2 (rest := [.ref a0, .ref x1, .ref x1]) C (hml.trans hl.1.symm) B.named hP hS e6 (show 4 + 3072 ≤ _ from Nat.le_of_ble_eq_true rfl) (Nat.le.intro hk) (Nat.le.intro hn) dX1_paused_6 (fun H hP hS => ?_)
  obtain ⟨x7, t8, c8, s8, C8, S8, e9, hf, hk, hn⟩ := gw_bcE hf hk hn
  refine gw_cIv (As := [.ref a0, .ref x4]) (rest := [.ref x1]) C hml hP hS (mx_X12_init (l := l) (K := K) hA _ _ _ _ _ _ _ _ e9) (cwI 2 hts (lw_meth q1052) rfl rfl rfl (hts _ q125) (hts _ q1050) (hts _ q1051) rfl hdX12_init.2 ⟨Nat.le_of_ble_eq_true rfl, Nat.le_of_ble_eq_true rfl⟩) rfl hl.1 rfl (Nat.le_of_ble_eq_true rfl) (Nat.le.intro hk) (Nat.le.intro hn) dX1_paused_11 (fun H locs hP hS => ?_)
  obtain ⟨h1, h2, h3, h4⟩ := gw_rcE hf hk hn
  exact gw_iretr h1 h2 h3 h4 C hr (Or.inl ⟨_, rfl⟩) hP hS hlk dX1_paused_14
def fx_X1_tried_L14 (a1 : Int32) (a0 : Nat) (sf14 : Int32 → gM Nat) (v14_2 : Int32) : gM Nat :=
  if a1 ≤ v14_2 then (gw_b0 (gw_gr 0 13 a0) fun x11 =>
  gw_rc x11)
  else (gw_b0 (gw_gr 0 13 a0) fun x14 =>
  gw_bc (gw_on 0 a0 (fx_X1_ticks a0 x14)) fun _ =>
 
  sf14 (v14_2 + (1 : Int32)))
def fx_X1_tried (a0 : Nat) (a1 : Int32) : gM Nat :=
  gw_b0 (gw_gr 0 13 a0) fun x1 =>
  gw_b0 (gw_gr 0 11 a0) fun x4 =>
  gw_b0 (gw_on 2 x1 (fx_X3_like x1 x4)) fun x7 =>
 
  tw_lp (fx_X1_tried_L14 a1 a0) (fun _ _ => none) tw_fu (0 : Int32)
theorem hdX1_tried : yX1_tried.cls = "LosslessFabric" ∧ (yX1_tried.cls ≠ "java/lang/invoke/MethodHandle" ∧ yX1_tried.cls ≠ "java/lang/invoke/VarHandle" ∧ (parseMethodDescriptor yX1_tried.desc).map (fun d => d.parameters.length) = some 1) := by decide +kernel
set_option maxHeartbeats 4000000 in
theorem mx_X1_tried {l : Launch} {K : GK} (hA : gw_A K) (a0 : Nat) (a1 : Int32) (t0 tZ : Hp) (r : Nat) (C0 S0 : Nat) (hf : fx_X1_tried a0 a1 t0 = some (r, tZ, C0, S0)) : Met l yX1_tried (ws_ yX1_tried cX1_tried 3 (some (.object "LosslessFabric$State"))) ({ frames := 7, cells := C0, slots := S0, locals := 3249 }) (va_Pc [.ref a0, .int a1] (gw_W K t0)) (gw_Qr K r tZ) C0 S0 K.2.2.2.1 := by
  refine Met.ofW (cc := cX1_tried) (maxL := 3) (ret := some (.object "LosslessFabric$State")) (by decide) rfl ?_
  intro p e s m args below meth c s₁ B hml hv
  obtain ⟨rfl, hP, hK, hX, hN, hL⟩ := hv
  have hx := B.exec
  have hb := B.bytes
  have hr := B.returns
  have hts := atoms_spec (ws := (ws_ yX1_tried cX1_tried 3 (some (.object "LosslessFabric$State")))) B.pre
  have hts : ∀ w ∈ lw_all, w.before _ s = true := fun w h => hts w (List.mem_cons_of_mem _ h)
  have hown : s.vm.findClass "LosslessFabric" = some m.cls := findClass_of_methodNamed B.named
  have hlk := B.notSynchronized
  have C : gw_C K "LosslessFabric" p s m _ c cX1_tried := ⟨hx, hb, hts, hown, hK, hA, hX, hN, hL⟩
  have hk : 0 + C0 = C0 := Nat.zero_add _
  have hn : 0 + S0 = S0 := Nat.zero_add _
  have hS : va_S K.2.2.2.1 s.heap s.heap [] := va_S.rf
  have hl := lv_entry ([.ref a0, .int a1]) (n := 3) (Nat.le_of_ble_eq_true rfl)
  rw [lg_entry_eq]
  generalize (lg_sl ([.ref a0, .int a1]) ++ List.replicate (3 - (lg_sl ([.ref a0, .int a1])).length) Slot.unset).toArray = ls at hl ⊢
  have hl : lv_has ls 3 [(0, .ref a0), (1, .int a1)] := hl
  unfold fx_X1_tried at hf
  refine lv_aload_n hx hb dX1_tried_0 rfl (lv_at hl 0 rfl) ?_
  obtain ⟨x1, t2, e3, hf⟩ := gw_b0E hf
  refine gw_rget (ci := 0) (k := 13) (T := TX1) C hP rfl in_X1 (by decide) e3 q406 rfl dX1_tried_1 (fun hP => ?_)
  refine lv_aload_n hx hb dX1_tried_4 rfl (lv_at hl 0 rfl) ?_
  obtain ⟨x4, t5, e6, hf⟩ := gw_b0E hf
  refine gw_rget (ci := 0) (k := 11) (T := TX1) C hP rfl in_X1 (by decide) e6 q404 rfl dX1_tried_5 (fun hP => ?_)
  obtain ⟨x7, t8, e9, hf⟩ := gw_b0E hf
  refine gw_cVr (As := [.ref x4]) (rest := []) (ci := 2) (T := TX3) (N := 4) C hml hP hS rfl (gw_onE e9).1 (mx_X3_like (l := l) (K := K) hA _ _ _ _ _ (gw_onE e9).2) (cwV 1 hts (lw_V q819 q820 q821 q103 q822) rfl rfl rfl hdX3_like ⟨Nat.le_of_ble_eq_true rfl, Nat.le_of_ble_eq_true rfl⟩) rfl hl.1 rfl (Nat.le_of_ble_eq_true rfl) (Nat.le.intro hk) (Nat.le.intro hn) dX1_tried_8 (fun H locs hP hS => ?_)
  refine lv_pop hx hb dX1_tried_11 rfl ?_
  refine lv_iconst (v := (0 : Int32)) hx hb dX1_tried_12 (by decide) ?_
  refine lv_istore_n (lv' := [(2, .int (0 : Int32)), (0, .ref a0), (1, .int a1)]) hx hb dX1_tried_13 rfl hl (by decide) rfl (fun ls hl => ?_)
  have k14 : ∀ (n : Nat) (v14_2 : Int32) (t10 : Hp) (k10 n10 C10 S10 : Nat) (H : Heap) (locs : List Loc) (ls : Array Slot), gw_P K t10 H → va_S K.2.2.2.1 s.heap H locs → k10 + C10 = C0 → n10 + S10 = S0 → lv_has ls 3 [(0, .ref a0), (1, .int a1), (2, .int v14_2)] → tw_lp (fx_X1_tried_L14 a1 a0) (fun _ _ => none) n v14_2 t10 = some (r, tZ, C10, S10) → W p l e (headSpec (ws_ yX1_tried cX1_tried 3 (some (.object "LosslessFabric$State"))) ({ frames := 7, cells := C0, slots := S0, locals := 3249 })).room s m ([.ref a0, .int a1] : List Value).toArray below meth c H locs k10 n10 (MQ below (gw_Qr K r tZ) ([.ref a0, .int a1] : List Value).toArray s C0 S0 K.2.2.2.1) (F0 m 14 ls []) := by
    intro n
    induction n with
    | zero => intro v14_2 t10 k10 n10 C10 S10 H locs ls hP hS hk hn hl hf; exact (tw_no hf).elim
    | succ n ih14 =>
      intro v14_2 t10 k10 n10 C10 S10 H locs ls hP hS hk hn hl hf
      obtain ⟨sf14, hs14⟩ : ∃ f, f = tw_lp (fx_X1_tried_L14 a1 a0) (fun _ _ => none) n := ⟨_, rfl⟩
      rw [← hs14] at ih14
      have hf : fx_X1_tried_L14 a1 a0 sf14 v14_2 t10 = some (r, tZ, C10, S10) := by rw [hs14]; exact hf
      clear hs14
      unfold fx_X1_tried_L14 at hf
      refine lv_iload_n hx hb dX1_tried_14 rfl (lv_at hl 2 rfl) ?_
      refine lv_iload_n hx hb dX1_tried_15 rfl (lv_at hl 1 rfl) ?_
      refine lv_icmp_ge (tgt := 33) hx hb dX1_tried_16 (by decide) (fun hc => ?_) (fun hc => ?_)
      · have hf := tw_ifT hc hf
        refine lv_aload_n hx hb dX1_tried_33 rfl (lv_at hl 0 rfl) ?_
        obtain ⟨x11, t12, e13, hf⟩ := gw_b0E hf
        refine gw_rget (ci := 0) (k := 13) (T := TX1) C hP rfl in_X1 (by decide) e13 q406 rfl dX1_tried_34 (fun hP => ?_)
        obtain ⟨h1, h2, h3, h4⟩ := gw_rcE hf hk hn
        exact gw_iretr h1 h2 h3 h4 C hr (Or.inl ⟨_, rfl⟩) hP hS hlk dX1_tried_37
      · have hf := tw_ifF hc hf
        refine lv_aload_n hx hb dX1_tried_19 rfl (lv_at hl 0 rfl) ?_
        refine lv_aload_n hx hb dX1_tried_20 rfl (lv_at hl 0 rfl) ?_
        obtain ⟨x14, t15, e16, hf⟩ := gw_b0E hf
        refine gw_rget (ci := 0) (k := 13) (T := TX1) C hP rfl in_X1 (by decide) e16 q406 rfl dX1_tried_21 (fun hP => ?_)
        obtain ⟨x17, t18, c18, s18, C18, S18, e19, hf, hk, hn⟩ := gw_bcE hf hk hn
        refine gw_cVv (As := [.ref x14]) (rest := []) (ci := 0) (T := TX1) (N := 18) C hml hP hS rfl (gw_onE e19).1 (mx_X1_ticks (l := l) (K := K) hA _ _ _ _ _ _ _ (gw_onE e19).2) (cwV 1 hts (lw_V q852 q854 qs16 q101 q855) rfl rfl rfl hdX1_ticks ⟨Nat.le_of_ble_eq_true rfl, Nat.le_of_ble_eq_true rfl⟩) rfl hl.1 rfl (Nat.le_of_ble_eq_true rfl) (Nat.le.intro hk) (Nat.le.intro hn) dX1_tried_24 (fun H locs hP hS => ?_)
        refine lv_iinc (v := (v14_2 + (1 : Int32))) (lv' := [(2, .int (v14_2 + (1 : Int32))), (0, .ref a0), (1, .int a1)]) hx hb dX1_tried_27 hl (k := 2) rfl rfl (by decide) rfl (fun ls hl => ?_)
        refine lv_goto (tgt := 14) hx hb dX1_tried_30 (by decide) ?_
        exact ih14 _ _ _ _ _ _ _ _ _ hP hS hk hn (lv_sub hl [1, 2, 0] rfl) hf
  exact k14 _ _ _ _ _ _ _ _ _ _ hP hS hk hn (lv_sub hl [1, 2, 0] rfl) hf
def fx_X10_next_J32  (w32_0 : Int32) : HM Int32 :=
  tw_rt w32_0
def fx_X10_next_J20   : HM Int32 :=
  fx_X10_next_J32 (-1 : Int32)
def fx_X10_next (a0 : Nat) (a1 : Int32) : HM Int32 :=
  tw_bd (gw_on 9 a0 (fx_X10_at a0 a1)) fun x1 =>
  if x1 < 0 then (fx_X10_next_J20)
  else (tw_bd (gw_gi 9 3 a0) fun x6 =>
  if (x1 + (1 : Int32)) = x6 then (fx_X10_next_J20)
  else (tw_bd (gw_gr 9 2 a0) fun x9 =>
  tw_bd (gw_ld 0 x9 (x1 + (1 : Int32))) fun x12 =>
 
  fx_X10_next_J32 x12))
theorem hdX10_next : yX10_next.cls = "LosslessFabric$Flow" ∧ (yX10_next.cls ≠ "java/lang/invoke/MethodHandle" ∧ yX10_next.cls ≠ "java/lang/invoke/VarHandle" ∧ (parseMethodDescriptor yX10_next.desc).map (fun d => d.parameters.length) = some 1) := by decide +kernel
set_option maxHeartbeats 4000000 in
theorem mx_X10_next {l : Launch} {K : GK} (hA : gw_A K) (a0 : Nat) (a1 : Int32) (t0 tZ : Hp) (r : Int32) (hf : fx_X10_next a0 a1 t0 = some (r, tZ)) : Met l yX10_next (ws_ yX10_next cX10_next 3 (some (.int))) ({ frames := 3, cells := 0, slots := 0, locals := 34 }) (va_Pc [.ref a0, .int a1] (gw_W K t0)) (gw_Qi K r tZ) 0 0 K.2.2.2.1 := by
  refine Met.ofW (cc := cX10_next) (maxL := 3) (ret := some (.int)) (by decide) rfl ?_
  intro p e s m args below meth c s₁ B hml hv
  obtain ⟨rfl, hP, hK, hX, hN, hL⟩ := hv
  have hx := B.exec
  have hb := B.bytes
  have hr := B.returns
  have hts := atoms_spec (ws := (ws_ yX10_next cX10_next 3 (some (.int)))) B.pre
  have hts : ∀ w ∈ lw_all, w.before _ s = true := fun w h => hts w (List.mem_cons_of_mem _ h)
  have hown : s.vm.findClass "LosslessFabric$Flow" = some m.cls := findClass_of_methodNamed B.named
  have hlk := B.notSynchronized
  have C : gw_C K "LosslessFabric$Flow" p s m _ c cX10_next := ⟨hx, hb, hts, hown, hK, hA, hX, hN, hL⟩
  have hS : va_S K.2.2.2.1 s.heap s.heap [] := va_S.rf
  have hl := lv_entry ([.ref a0, .int a1]) (n := 3) (Nat.le_of_ble_eq_true rfl)
  rw [lg_entry_eq]
  generalize (lg_sl ([.ref a0, .int a1]) ++ List.replicate (3 - (lg_sl ([.ref a0, .int a1])).length) Slot.unset).toArray = ls at hl ⊢
  have hl : lv_has ls 3 [(0, .ref a0), (1, .int a1)] := hl
  unfold fx_X10_next at hf
  refine lv_aload_n hx hb dX10_next_0 rfl (lv_at hl 0 rfl) ?_
  refine lv_iload_n hx hb dX10_next_1 rfl (lv_at hl 1 rfl) ?_
  obtain ⟨x1, t2, e3, hf⟩ := tw_bdE hf
  refine gw_cVi (As := [.int a1]) (rest := []) (ci := 9) (T := TX10) (N := 5) C hml hP hS rfl (gw_onE e3).1 (mx_X10_at (l := l) (K := K) hA _ _ _ _ _ (gw_onE e3).2) (cwV 1 hts (lw_V q1037 q797 q798 q118 q799) rfl rfl rfl hdX10_at ⟨Nat.le_of_ble_eq_true rfl, Nat.le_of_ble_eq_true rfl⟩) rfl hl.1 rfl (Nat.le_of_ble_eq_true rfl) (Nat.zero_le _) (Nat.zero_le _) dX10_next_2 (fun H locs hP hS => ?_)
  refine lv_istore_n (lv' := [(2, .int x1), (0, .ref a0), (1, .int a1)]) hx hb dX10_next_5 rfl hl (by decide) rfl (fun ls hl => ?_)
  refine lv_iload_n hx hb dX10_next_6 rfl (lv_at hl 0 rfl) ?_
  have k32 : ∀ (w32_0 : Int32) (t4 : Hp) (H : Heap) (locs : List Loc) (ls : Array Slot), gw_P K t4 H → va_S K.2.2.2.1 s.heap H locs → lv_has ls 3 [] → fx_X10_next_J32 w32_0 t4 = some (r, tZ) → W p l e (headSpec (ws_ yX10_next cX10_next 3 (some (.int))) ({ frames := 3, cells := 0, slots := 0, locals := 34 })).room s m ([.ref a0, .int a1] : List Value).toArray below meth c H locs 0 0 (MQ below (gw_Qi K r tZ) ([.ref a0, .int a1] : List Value).toArray s 0 0 K.2.2.2.1) (F0 m 32 ls [.int w32_0]) := by
    intro w32_0 t4 H locs ls hP hS hl hf
    unfold fx_X10_next_J32 at hf
    exact gw_ireti (tw_rtE hf).1 (tw_rtE hf).2 rfl rfl C hr hP hS hlk dX10_next_32
  have k20 : ∀  (t5 : Hp) (H : Heap) (locs : List Loc) (ls : Array Slot), gw_P K t5 H → va_S K.2.2.2.1 s.heap H locs → lv_has ls 3 [] → fx_X10_next_J20  t5 = some (r, tZ) → W p l e (headSpec (ws_ yX10_next cX10_next 3 (some (.int))) ({ frames := 3, cells := 0, slots := 0, locals := 34 })).room s m ([.ref a0, .int a1] : List Value).toArray below meth c H locs 0 0 (MQ below (gw_Qi K r tZ) ([.ref a0, .int a1] : List Value).toArray s 0 0 K.2.2.2.1) (F0 m 20 ls []) := by
    intro t5 H locs ls hP hS hl hf
    unfold fx_X10_next_J20 at hf
    refine lv_iconst (v := (-1 : Int32)) hx hb dX10_next_20 (by decide) ?_
    refine lv_goto (tgt := 32) hx hb dX10_next_21 (by decide) ?_
    exact k32 _ _ _ _ _ hP hS (lv_sub hl [] rfl) hf
  refine lv_if_lt (tgt := 20) hx hb dX10_next_7 (by decide) (fun hc => ?_) (fun hc => ?_)
  · have hf := tw_ifT hc hf
    exact k20 _ _ _ _ hP hS (lv_sub hl [] rfl) hf
  · have hf := tw_ifF hc hf
    refine lv_iload_n hx hb dX10_next_10 rfl (lv_at hl 0 rfl) ?_
    refine lv_iconst (v := (1 : Int32)) hx hb dX10_next_11 (by decide) ?_
    refine lv_iadd hx hb dX10_next_12 ?_
    refine lv_aload_n hx hb dX10_next_13 rfl (lv_at hl 1 rfl) ?_
    obtain ⟨x6, t7, e8, hf⟩ := tw_bdE hf
    refine gw_iget (ci := 9) (k := 3) (T := TX10) C hP rfl in_X10 (by decide) e8 q780 rfl dX10_next_14 (fun hP => ?_)
    refine lv_icmp_ne (tgt := 24) hx hb dX10_next_17 (by decide) (fun hc => ?_) (fun hc => ?_)
    · have hf := tw_ifF hc hf
      refine lv_aload_n hx hb dX10_next_24 rfl (lv_at hl 1 rfl) ?_
      obtain ⟨x9, t10, e11, hf⟩ := tw_bdE hf
      refine gw_rget (ci := 9) (k := 2) (T := TX10) C hP rfl in_X10 (by decide) e11 q776 rfl dX10_next_25 (fun hP => ?_)
      refine lv_iload_n hx hb dX10_next_28 rfl (lv_at hl 0 rfl) ?_
      refine lv_iconst (v := (1 : Int32)) hx hb dX10_next_29 (by decide) ?_
      refine lv_iadd hx hb dX10_next_30 ?_
      obtain ⟨x12, t13, e14, hf⟩ := tw_bdE hf
      refine gw_iald C hP e14 dX10_next_31 (fun hP => ?_)
      exact k32 _ _ _ _ _ hP hS (lv_sub hl [] rfl) hf
    · have hf := tw_ifT hc hf
      exact k20 _ _ _ _ hP hS (lv_sub hl [] rfl) hf
def fx_X1_mayWait_L2 (a0 : Nat) (a1 : Int32) (a2 : Int32) (sf2 : Int32 → HM Int32) (v2_3 : Int32) : HM Int32 :=
  tw_bd (gw_gr 0 4 a0) fun x2 =>
  tw_bd (gw_gi 1 3 x2) fun x5 =>
  if x5 ≤ v2_3 then (tw_rz (0 : Int32))
  else (tw_bd (gw_gr 0 4 a0) fun x8 =>
  tw_bd (gw_gr 1 1 x8) fun x11 =>
  tw_bd (gw_lr 5 x11 v2_3) fun x14 =>
  tw_bd (gw_on 9 x14 (fx_X10_next x14 a1)) fun x17 =>
  if x17 = a2 then (tw_rz (1 : Int32))
  else (sf2 (v2_3 + (1 : Int32))))
def fx_X1_mayWait (a0 : Nat) (a1 : Int32) (a2 : Int32) : HM Int32 :=
  tw_lp (fx_X1_mayWait_L2 a0 a1 a2) (fun _ _ => none) tw_fu (0 : Int32)
theorem hdX1_mayWait : yX1_mayWait.cls = "LosslessFabric" ∧ (yX1_mayWait.cls ≠ "java/lang/invoke/MethodHandle" ∧ yX1_mayWait.cls ≠ "java/lang/invoke/VarHandle" ∧ (parseMethodDescriptor yX1_mayWait.desc).map (fun d => d.parameters.length) = some 2) := by decide +kernel
set_option maxHeartbeats 4000000 in
theorem mx_X1_mayWait {l : Launch} {K : GK} (hA : gw_A K) (a0 : Nat) (a1 : Int32) (a2 : Int32) (t0 tZ : Hp) (r : Int32) (hf : fx_X1_mayWait a0 a1 a2 t0 = some (r, tZ)) : Met l yX1_mayWait (ws_ yX1_mayWait cX1_mayWait 4 (some (.boolean))) ({ frames := 4, cells := 0, slots := 0, locals := 56 }) (va_Pc [.ref a0, .int a1, .int a2] (gw_W K t0)) (gw_Qi K r tZ) 0 0 K.2.2.2.1 := by
  refine Met.ofW (cc := cX1_mayWait) (maxL := 4) (ret := some (.boolean)) (by decide) rfl ?_
  intro p e s m args below meth c s₁ B hml hv
  obtain ⟨rfl, hP, hK, hX, hN, hL⟩ := hv
  have hx := B.exec
  have hb := B.bytes
  have hr := B.returns
  have hts := atoms_spec (ws := (ws_ yX1_mayWait cX1_mayWait 4 (some (.boolean)))) B.pre
  have hts : ∀ w ∈ lw_all, w.before _ s = true := fun w h => hts w (List.mem_cons_of_mem _ h)
  have hown : s.vm.findClass "LosslessFabric" = some m.cls := findClass_of_methodNamed B.named
  have hlk := B.notSynchronized
  have C : gw_C K "LosslessFabric" p s m _ c cX1_mayWait := ⟨hx, hb, hts, hown, hK, hA, hX, hN, hL⟩
  have hS : va_S K.2.2.2.1 s.heap s.heap [] := va_S.rf
  have hl := lv_entry ([.ref a0, .int a1, .int a2]) (n := 4) (Nat.le_of_ble_eq_true rfl)
  rw [lg_entry_eq]
  generalize (lg_sl ([.ref a0, .int a1, .int a2]) ++ List.replicate (4 - (lg_sl ([.ref a0, .int a1, .int a2])).length) Slot.unset).toArray = ls at hl ⊢
  have hl : lv_has ls 4 [(0, .ref a0), (1, .int a1), (2, .int a2)] := hl
  unfold fx_X1_mayWait at hf
  refine lv_iconst (v := (0 : Int32)) hx hb dX1_mayWait_0 (by decide) ?_
  refine lv_istore_n (lv' := [(3, .int (0 : Int32)), (0, .ref a0), (1, .int a1), (2, .int a2)]) hx hb dX1_mayWait_1 rfl hl (by decide) rfl (fun ls hl => ?_)
  have k2 : ∀ (n : Nat) (v2_3 : Int32) (t1 : Hp) (H : Heap) (locs : List Loc) (ls : Array Slot), gw_P K t1 H → va_S K.2.2.2.1 s.heap H locs → lv_has ls 4 [(0, .ref a0), (1, .int a1), (2, .int a2), (3, .int v2_3)] → tw_lp (fx_X1_mayWait_L2 a0 a1 a2) (fun _ _ => none) n v2_3 t1 = some (r, tZ) → W p l e (headSpec (ws_ yX1_mayWait cX1_mayWait 4 (some (.boolean))) ({ frames := 4, cells := 0, slots := 0, locals := 56 })).room s m ([.ref a0, .int a1, .int a2] : List Value).toArray below meth c H locs 0 0 (MQ below (gw_Qi K r tZ) ([.ref a0, .int a1, .int a2] : List Value).toArray s 0 0 K.2.2.2.1) (F0 m 2 ls []) := by
    intro n
    induction n with
    | zero => intro v2_3 t1 H locs ls hP hS hl hf; exact (tw_no hf).elim
    | succ n ih2 =>
      intro v2_3 t1 H locs ls hP hS hl hf
      obtain ⟨sf2, hs2⟩ : ∃ f, f = tw_lp (fx_X1_mayWait_L2 a0 a1 a2) (fun _ _ => none) n := ⟨_, rfl⟩
      rw [← hs2] at ih2
      have hf : fx_X1_mayWait_L2 a0 a1 a2 sf2 v2_3 t1 = some (r, tZ) := by rw [hs2]; exact hf
      clear hs2
      unfold fx_X1_mayWait_L2 at hf
      refine lv_iload_n hx hb dX1_mayWait_2 rfl (lv_at hl 3 rfl) ?_
      refine lv_aload_n hx hb dX1_mayWait_3 rfl (lv_at hl 0 rfl) ?_
      obtain ⟨x2, t3, e4, hf⟩ := tw_bdE hf
      refine gw_rget (ci := 0) (k := 4) (T := TX1) C hP rfl in_X1 (by decide) e4 q394 rfl dX1_mayWait_4 (fun hP => ?_)
      obtain ⟨x5, t6, e7, hf⟩ := tw_bdE hf
      refine gw_igetN (ci := 1) (k := 3) (T := TX2) C hP rfl in_X2 (by decide) e7 q165 rfl dX1_mayWait_7 (fun hP => ?_)
      refine lv_icmp_ge (tgt := 38) hx hb dX1_mayWait_10 (by decide) (fun hc => ?_) (fun hc => ?_)
      · have hf := tw_ifT hc hf
        refine lv_iconst (v := (0 : Int32)) hx hb dX1_mayWait_38 (by decide) ?_
        obtain ⟨h0, h1, h2⟩ := tw_rzE hf
        exact gw_iretz h0 h1 h2 rfl rfl C hr hP hS hlk dX1_mayWait_39
      · have hf := tw_ifF hc hf
        refine lv_aload_n hx hb dX1_mayWait_13 rfl (lv_at hl 0 rfl) ?_
        obtain ⟨x8, t9, e10, hf⟩ := tw_bdE hf
        refine gw_rget (ci := 0) (k := 4) (T := TX1) C hP rfl in_X1 (by decide) e10 q394 rfl dX1_mayWait_14 (fun hP => ?_)
        obtain ⟨x11, t12, e13, hf⟩ := tw_bdE hf
        refine gw_rgetN (ci := 1) (k := 1) (T := TX2) C hP rfl in_X2 (by decide) e13 q154 rfl dX1_mayWait_17 (fun hP => ?_)
        refine lv_iload_n hx hb dX1_mayWait_20 rfl (lv_at hl 3 rfl) ?_
        obtain ⟨x14, t15, e16, hf⟩ := tw_bdE hf
        refine gw_aald C hP rfl e16 dX1_mayWait_21 (fun hP => ?_)
        refine lv_iload_n hx hb dX1_mayWait_22 rfl (lv_at hl 1 rfl) ?_
        obtain ⟨x17, t18, e19, hf⟩ := tw_bdE hf
        refine gw_cVi (As := [.int a1]) (rest := []) (ci := 9) (T := TX10) (N := 5) C hml hP hS rfl (gw_onE e19).1 (mx_X10_next (l := l) (K := K) hA _ _ _ _ _ (gw_onE e19).2) (cwV 1 hts (lw_V q1117 q1034 q1035 q118 q1036) rfl rfl rfl hdX10_next ⟨Nat.le_of_ble_eq_true rfl, Nat.le_of_ble_eq_true rfl⟩) rfl hl.1 rfl (Nat.le_of_ble_eq_true rfl) (Nat.zero_le _) (Nat.zero_le _) dX1_mayWait_23 (fun H locs hP hS => ?_)
        refine lv_iload_n hx hb dX1_mayWait_26 rfl (lv_at hl 2 rfl) ?_
        refine lv_icmp_ne (tgt := 32) hx hb dX1_mayWait_27 (by decide) (fun hc => ?_) (fun hc => ?_)
        · have hf := tw_ifF hc hf
          refine lv_iinc (v := (v2_3 + (1 : Int32))) (lv' := [(3, .int (v2_3 + (1 : Int32))), (0, .ref a0), (1, .int a1), (2, .int a2)]) hx hb dX1_mayWait_32 hl (k := 3) rfl rfl (by decide) rfl (fun ls hl => ?_)
          refine lv_goto (tgt := 2) hx hb dX1_mayWait_35 (by decide) ?_
          exact ih2 _ _ _ _ _ hP hS (lv_sub hl [1, 2, 3, 0] rfl) hf
        · have hf := tw_ifT hc hf
          refine lv_iconst (v := (1 : Int32)) hx hb dX1_mayWait_30 (by decide) ?_
          obtain ⟨h0, h1, h2⟩ := tw_rzE hf
          exact gw_iretz h0 h1 h2 rfl rfl C hr hP hS hlk dX1_mayWait_31
  exact k2 _ _ _ _ _ _ hP hS (lv_sub hl [1, 2, 3, 0] rfl) hf
def fx_X1_lambda_inCycles_3 (a0 : Nat) (a1 : Int32) (a2 : Int32) : HM Int32 :=
  tw_bd (gw_on 0 a0 (fx_X1_mayWait a0 a1 a2)) fun x1 =>
  tw_rz x1
theorem hdX1_lambda_inCycles_3 : yX1_lambda_inCycles_3.cls = "LosslessFabric" ∧ (yX1_lambda_inCycles_3.cls ≠ "java/lang/invoke/MethodHandle" ∧ yX1_lambda_inCycles_3.cls ≠ "java/lang/invoke/VarHandle" ∧ (parseMethodDescriptor yX1_lambda_inCycles_3.desc).map (fun d => d.parameters.length) = some 2) := by decide +kernel
set_option maxHeartbeats 4000000 in
theorem mx_X1_lambda_inCycles_3 {l : Launch} {K : GK} (hA : gw_A K) (a0 : Nat) (a1 : Int32) (a2 : Int32) (t0 tZ : Hp) (r : Int32) (hf : fx_X1_lambda_inCycles_3 a0 a1 a2 t0 = some (r, tZ)) : Met l yX1_lambda_inCycles_3 (ws_ yX1_lambda_inCycles_3 cX1_lambda_inCycles_3 3 (some (.boolean))) ({ frames := 5, cells := 0, slots := 0, locals := 79 }) (va_Pc [.ref a0, .int a1, .int a2] (gw_W K t0)) (gw_Qi K r tZ) 0 0 K.2.2.2.1 := by
  refine Met.ofW (cc := cX1_lambda_inCycles_3) (maxL := 3) (ret := some (.boolean)) (by decide) rfl ?_
  intro p e s m args below meth c s₁ B hml hv
  obtain ⟨rfl, hP, hK, hX, hN, hL⟩ := hv
  have hx := B.exec
  have hb := B.bytes
  have hr := B.returns
  have hts := atoms_spec (ws := (ws_ yX1_lambda_inCycles_3 cX1_lambda_inCycles_3 3 (some (.boolean)))) B.pre
  have hts : ∀ w ∈ lw_all, w.before _ s = true := fun w h => hts w (List.mem_cons_of_mem _ h)
  have hown : s.vm.findClass "LosslessFabric" = some m.cls := findClass_of_methodNamed B.named
  have hlk := B.notSynchronized
  have C : gw_C K "LosslessFabric" p s m _ c cX1_lambda_inCycles_3 := ⟨hx, hb, hts, hown, hK, hA, hX, hN, hL⟩
  have hS : va_S K.2.2.2.1 s.heap s.heap [] := va_S.rf
  have hl := lv_entry ([.ref a0, .int a1, .int a2]) (n := 3) (Nat.le_of_ble_eq_true rfl)
  rw [lg_entry_eq]
  generalize (lg_sl ([.ref a0, .int a1, .int a2]) ++ List.replicate (3 - (lg_sl ([.ref a0, .int a1, .int a2])).length) Slot.unset).toArray = ls at hl ⊢
  have hl : lv_has ls 3 [(0, .ref a0), (1, .int a1), (2, .int a2)] := hl
  unfold fx_X1_lambda_inCycles_3 at hf
  refine lv_aload_n hx hb dX1_lambda_inCycles_3_0 rfl (lv_at hl 0 rfl) ?_
  refine lv_iload_n hx hb dX1_lambda_inCycles_3_1 rfl (lv_at hl 1 rfl) ?_
  refine lv_iload_n hx hb dX1_lambda_inCycles_3_2 rfl (lv_at hl 2 rfl) ?_
  obtain ⟨x1, t2, e3, hf⟩ := tw_bdE hf
  refine gw_cVi (As := [.int a1, .int a2]) (rest := []) (ci := 0) (T := TX1) (N := 18) C hml hP hS rfl (gw_onE e3).1 (mx_X1_mayWait (l := l) (K := K) hA _ _ _ _ _ _ (gw_onE e3).2) (cwV 2 hts (lw_V q1113 q1115 qs29 q101 q1116) rfl rfl rfl hdX1_mayWait ⟨Nat.le_of_ble_eq_true rfl, Nat.le_of_ble_eq_true rfl⟩) rfl hl.1 rfl (Nat.le_of_ble_eq_true rfl) (Nat.zero_le _) (Nat.zero_le _) dX1_lambda_inCycles_3_3 (fun H locs hP hS => ?_)
  obtain ⟨h0, h1, h2⟩ := tw_rzE hf
  exact gw_iretz h0 h1 h2 rfl rfl C hr hP hS hlk dX1_lambda_inCycles_3_6