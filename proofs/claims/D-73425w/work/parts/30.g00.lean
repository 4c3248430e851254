def fx_X1_isIn_J18  (w18_0 : Int32) : HM Int32 :=
  tw_rz w18_0
def fx_X1_isIn_J17   : HM Int32 :=
  fx_X1_isIn_J18 (0 : Int32)
def fx_X1_isIn (a0 : Int64) (a2 : Int64) (a4 : Int64) : HM Int32 :=
  if (lg_cmp a0 a2) < 0 then (fx_X1_isIn_J17)
  else (if 0 < (lg_cmp a0 a4) then (fx_X1_isIn_J17)
  else (fx_X1_isIn_J18 (1 : Int32)))
theorem hdX1_isIn : (yX1_isIn.cls ≠ "java/lang/invoke/MethodHandle" ∧ yX1_isIn.cls ≠ "java/lang/invoke/VarHandle" ∧ (parseMethodDescriptor yX1_isIn.desc).map (fun d => d.parameters.length) = some 3) := by decide +kernel
set_option maxHeartbeats 4000000 in
theorem mx_X1_isIn {l : Launch} {K : GK} (hA : gw_A K) (a0 : Int64) (a2 : Int64) (a4 : Int64) (t0 tZ : Hp) (r : Int32) (hf : fx_X1_isIn a0 a2 a4 t0 = some (r, tZ)) : Met l yX1_isIn (ws_ yX1_isIn cX1_isIn 6 (some (.boolean))) ({ frames := 2, cells := 0, slots := 0, locals := 12 }) (va_Pc [.long a0, .long a2, .long a4] (gw_W K t0)) (gw_Qi K r tZ) 0 0 K.2.2.2.1 := by
  refine Met.ofW (cc := cX1_isIn) (maxL := 6) (ret := some (.boolean)) (by decide) rfl ?_
  intro p e s m args below meth c s₁ B hml hv
  obtain ⟨rfl, hP, hK, hX, hN, hL⟩ := hv
  have hx := B.exec
  have hb := B.bytes
  have hr := B.returns
  have hts := atoms_spec (ws := (ws_ yX1_isIn cX1_isIn 6 (some (.boolean)))) B.pre
  have hts : ∀ w ∈ lw_all, w.before _ s = true := fun w h => hts w (List.mem_cons_of_mem _ h)
  have hown : s.vm.findClass "LosslessFabric" = some m.cls := findClass_of_methodNamed B.named
  have hlk := B.notSynchronized
  have C : gw_C K "LosslessFabric" p s m _ c cX1_isIn := ⟨hx, hb, hts, hown, hK, hA, hX, hN, hL⟩
  have hS : va_S K.2.2.2.1 s.heap s.heap [] := va_S.rf
  have hl := lv_entry ([.long a0, .long a2, .long a4]) (n := 6) (Nat.le_of_ble_eq_true rfl)
  rw [lg_entry_eq]
  generalize (lg_sl ([.long a0, .long a2, .long a4]) ++ List.replicate (6 - (lg_sl ([.long a0, .long a2, .long a4])).length) Slot.unset).toArray = ls at hl ⊢
  have hl : lv_has ls 6 [(0, .long a0), (2, .long a2), (4, .long a4)] := hl
  unfold fx_X1_isIn at hf
  refine lv_lload_n hx hb dX1_isIn_0 rfl (lv_at hl 0 rfl) ?_
  refine lv_lload_n hx hb dX1_isIn_1 rfl (lv_at hl 1 rfl) ?_
  refine W.lcmp hx hb dX1_isIn_2 ?_
  have k18 : ∀ (w18_0 : Int32) (t1 : Hp) (H : Heap) (locs : List Loc) (ls : Array Slot), gw_P K t1 H → va_S K.2.2.2.1 s.heap H locs → lv_has ls 6 [] → fx_X1_isIn_J18 w18_0 t1 = some (r, tZ) → W p l e (headSpec (ws_ yX1_isIn cX1_isIn 6 (some (.boolean))) ({ frames := 2, cells := 0, slots := 0, locals := 12 })).room s m ([.long a0, .long a2, .long a4] : List Value).toArray below meth c H locs 0 0 (MQ below (gw_Qi K r tZ) ([.long a0, .long a2, .long a4] : List Value).toArray s 0 0 K.2.2.2.1) (F0 m 18 ls [.int w18_0]) := by
    intro w18_0 t1 H locs ls hP hS hl hf
    unfold fx_X1_isIn_J18 at hf
    obtain ⟨h0, h1, h2⟩ := tw_rzE hf
    exact gw_iretz h0 h1 h2 rfl rfl C hr hP hS hlk dX1_isIn_18
  have k17 : ∀  (t2 : Hp) (H : Heap) (locs : List Loc) (ls : Array Slot), gw_P K t2 H → va_S K.2.2.2.1 s.heap H locs → lv_has ls 6 [] → fx_X1_isIn_J17  t2 = some (r, tZ) → W p l e (headSpec (ws_ yX1_isIn cX1_isIn 6 (some (.boolean))) ({ frames := 2, cells := 0, slots := 0, locals := 12 })).room s m ([.long a0, .long a2, .long a4] : List Value).toArray below meth c H locs 0 0 (MQ below (gw_Qi K r tZ) ([.long a0, .long a2, .long a4] : List Value).toArray s 0 0 K.2.2.2.1) (F0 m 17 ls []) := by
    intro t2 H locs ls hP hS hl hf
    unfold fx_X1_isIn_J17 at hf
    refine lv_iconst (v := (0 : Int32)) hx hb dX1_isIn_17 (by decide) ?_
    exact k18 _ _ _ _ _ hP hS (lv_sub hl [] rfl) hf
  refine lv_if_lt (tgt := 17) hx hb dX1_isIn_3 (by decide) (fun hc => ?_) (fun hc => ?_)
  · have hf := tw_ifT hc hf
    exact k17 _ _ _ _ hP hS (lv_sub hl [] rfl) hf
  · have hf := tw_ifF hc hf
    refine lv_lload_n hx hb dX1_isIn_6 rfl (lv_at hl 0 rfl) ?_
    refine lv_lload hx hb dX1_isIn_7 (lv_at hl 2 rfl) ?_
    refine W.lcmp hx hb dX1_isIn_9 ?_
    refine lv_if_gt (tgt := 17) hx hb dX1_isIn_10 (by decide) (fun hc => ?_) (fun hc => ?_)
    · have hf := tw_ifT hc hf
      exact k17 _ _ _ _ hP hS (lv_sub hl [] rfl) hf
    · have hf := tw_ifF hc hf
      refine lv_iconst (v := (1 : Int32)) hx hb dX1_isIn_13 (by decide) ?_
      refine lv_goto (tgt := 18) hx hb dX1_isIn_14 (by decide) ?_
      exact k18 _ _ _ _ _ hP hS (lv_sub hl [] rfl) hf
def fx_X1_isAhead (a0 : Int32) : HM Int32 :=
  tw_bd (fx_X1_isIn (a0.toInt64) (0 : Int64) (300 : Int64)) fun x1 =>
  tw_rz x1
theorem hdX1_isAhead : (yX1_isAhead.cls ≠ "java/lang/invoke/MethodHandle" ∧ yX1_isAhead.cls ≠ "java/lang/invoke/VarHandle" ∧ (parseMethodDescriptor yX1_isAhead.desc).map (fun d => d.parameters.length) = some 1) := by decide +kernel
set_option maxHeartbeats 4000000 in
theorem mx_X1_isAhead {l : Launch} {K : GK} (hA : gw_A K) (a0 : Int32) (t0 tZ : Hp) (r : Int32) (hf : fx_X1_isAhead a0 t0 = some (r, tZ)) : Met l yX1_isAhead (ws_ yX1_isAhead cX1_isAhead 1 (some (.boolean))) ({ frames := 3, cells := 0, slots := 0, locals := 37 }) (va_Pc [.int a0] (gw_W K t0)) (gw_Qi K r tZ) 0 0 K.2.2.2.1 := by
  refine Met.ofW (cc := cX1_isAhead) (maxL := 1) (ret := some (.boolean)) (by decide) rfl ?_
  intro p e s m args below meth c s₁ B hml hv
  obtain ⟨rfl, hP, hK, hX, hN, hL⟩ := hv
  have hx := B.exec
  have hb := B.bytes
  have hr := B.returns
  have hts := atoms_spec (ws := (ws_ yX1_isAhead cX1_isAhead 1 (some (.boolean)))) B.pre
  have hts : ∀ w ∈ lw_all, w.before _ s = true := fun w h => hts w (List.mem_cons_of_mem _ h)
  have hown : s.vm.findClass "LosslessFabric" = some m.cls := findClass_of_methodNamed B.named
  have hlk := B.notSynchronized
  have C : gw_C K "LosslessFabric" p s m _ c cX1_isAhead := ⟨hx, hb, hts, hown, hK, hA, hX, hN, hL⟩
  have hS : va_S K.2.2.2.1 s.heap s.heap [] := va_S.rf
  have hl := lv_entry ([.int a0]) (n := 1) (Nat.le_of_ble_eq_true rfl)
  rw [lg_entry_eq]
  generalize (lg_sl ([.int a0]) ++ List.replicate (1 - (lg_sl ([.int a0])).length) Slot.unset).toArray = ls at hl ⊢
  have hl : lv_has ls 1 [(0, .int a0)] := hl
  unfold fx_X1_isAhead at hf
  refine lv_iload_n hx hb dX1_isAhead_0 rfl (lv_at hl 0 rfl) ?_
  refine lv_i2l hx hb dX1_isAhead_1 rfl ?_
  refine lv_lconst (v := (0 : Int64)) hx hb dX1_isAhead_2 (by decide) ?_
  refine lv_ldc2 hx hb hown (hts _ q1196) dX1_isAhead_3 ?_
  obtain ⟨x1, t2, e3, hf⟩ := tw_bdE hf
  refine gw_cSi (As := [.long (a0.toInt64), .long (0 : Int64), .long (300 : Int64)]) (rest := []) C hml hP hS (mx_X1_isIn (l := l) (K := K) hA _ _ _ _ _ _ e3) (va_cwS 3 hts (lw_S q457 q458 q101 q459) rfl rfl rfl hdX1_isIn ⟨Nat.le_of_ble_eq_true rfl, Nat.le_of_ble_eq_true rfl⟩) rfl hl.1 rfl (Nat.le_of_ble_eq_true rfl) (Nat.zero_le _) (Nat.zero_le _) dX1_isAhead_6 (fun H locs hP hS => ?_)
  obtain ⟨h0, h1, h2⟩ := tw_rzE hf
  exact gw_iretz h0 h1 h2 rfl rfl C hr hP hS hlk dX1_isAhead_9
def fx_X1_areIn_J48 (sf13 : Int32 → Int32 → HM Int32) (v13_6 : Int32) (w48_0 : Int32) : HM Int32 :=
  sf13 w48_0 (v13_6 + (1 : Int32))
def fx_X1_areIn_J47 (sf13 : Int32 → Int32 → HM Int32) (v13_6 : Int32)  : HM Int32 :=
  fx_X1_areIn_J48 sf13 v13_6 (0 : Int32)
def fx_X1_areIn_L13 (x1 : Int32) (a2 : Nat) (a0 : Int32) (a1 : Int32) (sf13 : Int32 → Int32 → HM Int32) (v13_3 : Int32) (v13_6 : Int32) : HM Int32 :=
  if x1 ≤ v13_6 then (tw_rz v13_3)
  else (tw_bd (gw_ld 0 a2 v13_6) fun x5 =>
  if v13_3 = 0 then (fx_X1_areIn_J47 sf13 v13_6)
  else (if x5 < a0 then (fx_X1_areIn_J47 sf13 v13_6)
  else (if a1 < x5 then (fx_X1_areIn_J47 sf13 v13_6)
  else (fx_X1_areIn_J48 sf13 v13_6 (1 : Int32)))))
def fx_X1_areIn (a0 : Int32) (a1 : Int32) (a2 : Nat) : HM Int32 :=
  tw_bd (gw_al 0 a2) fun x1 =>
 
  tw_lp (fx_X1_areIn_L13 x1 a2 a0 a1) (fun _ _ _ => none) tw_fu (1 : Int32) (0 : Int32)
theorem hdX1_areIn : (yX1_areIn.cls ≠ "java/lang/invoke/MethodHandle" ∧ yX1_areIn.cls ≠ "java/lang/invoke/VarHandle" ∧ (parseMethodDescriptor yX1_areIn.desc).map (fun d => d.parameters.length) = some 3) := by decide +kernel
set_option maxHeartbeats 4000000 in
theorem mx_X1_areIn {l : Launch} {K : GK} (hA : gw_A K) (a0 : Int32) (a1 : Int32) (a2 : Nat) (t0 tZ : Hp) (r : Int32) (hf : fx_X1_areIn a0 a1 a2 t0 = some (r, tZ)) : Met l yX1_areIn (ws_ yX1_areIn cX1_areIn 8 (some (.boolean))) ({ frames := 2, cells := 0, slots := 0, locals := 12 }) (va_Pc [.int a0, .int a1, .ref a2] (gw_W K t0)) (gw_Qi K r tZ) 0 0 K.2.2.2.1 := by
  refine Met.ofW (cc := cX1_areIn) (maxL := 8) (ret := some (.boolean)) (by decide) rfl ?_
  intro p e s m args below meth c s₁ B hml hv
  obtain ⟨rfl, hP, hK, hX, hN, hL⟩ := hv
  have hx := B.exec
  have hb := B.bytes
  have hr := B.returns
  have hts := atoms_spec (ws := (ws_ yX1_areIn cX1_areIn 8 (some (.boolean)))) B.pre
  have hts : ∀ w ∈ lw_all, w.before _ s = true := fun w h => hts w (List.mem_cons_of_mem _ h)
  have hown : s.vm.findClass "LosslessFabric" = some m.cls := findClass_of_methodNamed B.named
  have hlk := B.notSynchronized
  have C : gw_C K "LosslessFabric" p s m _ c cX1_areIn := ⟨hx, hb, hts, hown, hK, hA, hX, hN, hL⟩
  have hS : va_S K.2.2.2.1 s.heap s.heap [] := va_S.rf
  have hl := lv_entry ([.int a0, .int a1, .ref a2]) (n := 8) (Nat.le_of_ble_eq_true rfl)
  rw [lg_entry_eq]
  generalize (lg_sl ([.int a0, .int a1, .ref a2]) ++ List.replicate (8 - (lg_sl ([.int a0, .int a1, .ref a2])).length) Slot.unset).toArray = ls at hl ⊢
  have hl : lv_has ls 8 [(0, .int a0), (1, .int a1), (2, .ref a2)] := hl
  unfold fx_X1_areIn at hf
  refine lv_iconst (v := (1 : Int32)) hx hb dX1_areIn_0 (by decide) ?_
  refine lv_istore_n (lv' := [(3, .int (1 : Int32)), (0, .int a0), (1, .int a1), (2, .ref a2)]) hx hb dX1_areIn_1 rfl hl (by decide) rfl (fun ls hl => ?_)
  refine lv_aload_n hx hb dX1_areIn_2 rfl (lv_at hl 3 rfl) ?_
  refine lv_astore (lv' := [(4, .ref a2), (3, .int (1 : Int32)), (0, .int a0), (1, .int a1), (2, .ref a2)]) hx hb dX1_areIn_3 hl (by decide) rfl (fun ls hl => ?_)
  refine lv_aload hx hb dX1_areIn_5 (lv_at hl 0 rfl) ?_
  obtain ⟨x1, t2, e3, hf⟩ := tw_bdE hf
  refine gw_alen C hP rfl e3 dX1_areIn_7 (fun hP => ?_)
  refine lv_istore (lv' := [(5, .int x1), (4, .ref a2), (3, .int (1 : Int32)), (0, .int a0), (1, .int a1), (2, .ref a2)]) hx hb dX1_areIn_8 hl (by decide) rfl (fun ls hl => ?_)
  refine lv_iconst (v := (0 : Int32)) hx hb dX1_areIn_10 (by decide) ?_
  refine lv_istore (lv' := [(6, .int (0 : Int32)), (5, .int x1), (4, .ref a2), (3, .int (1 : Int32)), (0, .int a0), (1, .int a1), (2, .ref a2)]) hx hb dX1_areIn_11 hl (by decide) rfl (fun ls hl => ?_)
  have k13 : ∀ (n : Nat) (v13_3 : Int32) (v13_6 : Int32) (t4 : Hp) (H : Heap) (locs : List Loc) (ls : Array Slot), gw_P K t4 H → va_S K.2.2.2.1 s.heap H locs → lv_has ls 8 [(0, .int a0), (1, .int a1), (3, .int v13_3), (4, .ref a2), (5, .int x1), (6, .int v13_6)] → tw_lp (fx_X1_areIn_L13 x1 a2 a0 a1) (fun _ _ _ => none) n v13_3 v13_6 t4 = some (r, tZ) → W p l e (headSpec (ws_ yX1_areIn cX1_areIn 8 (some (.boolean))) ({ frames := 2, cells := 0, slots := 0, locals := 12 })).room s m ([.int a0, .int a1, .ref a2] : List Value).toArray below meth c H locs 0 0 (MQ below (gw_Qi K r tZ) ([.int a0, .int a1, .ref a2] : List Value).toArray s 0 0 K.2.2.2.1) (F0 m 13 ls []) := by
    intro n
    induction n with
    | zero => intro v13_3 v13_6 t4 H locs ls hP hS hl hf; exact (tw_no hf).elim
    | succ n ih13 =>
      intro v13_3 v13_6 t4 H locs ls hP hS hl hf
      obtain ⟨sf13, hs13⟩ : ∃ f, f = tw_lp (fx_X1_areIn_L13 x1 a2 a0 a1) (fun _ _ _ => none) n := ⟨_, rfl⟩
      rw [← hs13] at ih13
      have hf : fx_X1_areIn_L13 x1 a2 a0 a1 sf13 v13_3 v13_6 t4 = some (r, tZ) := by rw [hs13]; exact hf
      clear hs13
      unfold fx_X1_areIn_L13 at hf
      refine lv_iload hx hb dX1_areIn_13 (lv_at hl 5 rfl) ?_
      refine lv_iload hx hb dX1_areIn_15 (lv_at hl 4 rfl) ?_
      refine lv_icmp_ge (tgt := 55) hx hb dX1_areIn_17 (by decide) (fun hc => ?_) (fun hc => ?_)
      · have hf := tw_ifT hc hf
        refine lv_iload_n hx hb dX1_areIn_55 rfl (lv_at hl 2 rfl) ?_
        obtain ⟨h0, h1, h2⟩ := tw_rzE hf
        exact gw_iretz h0 h1 h2 rfl rfl C hr hP hS hlk dX1_areIn_56
      · have hf := tw_ifF hc hf
        refine lv_aload hx hb dX1_areIn_20 (lv_at hl 3 rfl) ?_
        refine lv_iload hx hb dX1_areIn_22 (lv_at hl 5 rfl) ?_
        obtain ⟨x5, t6, e7, hf⟩ := tw_bdE hf
        refine gw_iald C hP e7 dX1_areIn_24 (fun hP => ?_)
        refine lv_istore (lv' := [(7, .int x5), (0, .int a0), (1, .int a1), (3, .int v13_3), (4, .ref a2), (5, .int x1), (6, .int v13_6)]) hx hb dX1_areIn_25 hl (by decide) rfl (fun ls hl => ?_)
        refine lv_iload_n hx hb dX1_areIn_27 rfl (lv_at hl 3 rfl) ?_
        have k48 : ∀ (w48_0 : Int32) (t8 : Hp) (H : Heap) (locs : List Loc) (ls : Array Slot), gw_P K t8 H → va_S K.2.2.2.1 s.heap H locs → lv_has ls 8 [(0, .int a0), (1, .int a1), (4, .ref a2), (5, .int x1), (6, .int v13_6)] → fx_X1_areIn_J48 sf13 v13_6 w48_0 t8 = some (r, tZ) → W p l e (headSpec (ws_ yX1_areIn cX1_areIn 8 (some (.boolean))) ({ frames := 2, cells := 0, slots := 0, locals := 12 })).room s m ([.int a0, .int a1, .ref a2] : List Value).toArray below meth c H locs 0 0 (MQ below (gw_Qi K r tZ) ([.int a0, .int a1, .ref a2] : List Value).toArray s 0 0 K.2.2.2.1) (F0 m 48 ls [.int w48_0]) := by
          intro w48_0 t8 H locs ls hP hS hl hf
          unfold fx_X1_areIn_J48 at hf
          refine lv_istore_n (lv' := [(3, .int w48_0), (0, .int a0), (1, .int a1), (4, .ref a2), (5, .int x1), (6, .int v13_6)]) hx hb dX1_areIn_48 rfl hl (by decide) rfl (fun ls hl => ?_)
          refine lv_iinc (v := (v13_6 + (1 : Int32))) (lv' := [(6, .int (v13_6 + (1 : Int32))), (3, .int w48_0), (0, .int a0), (1, .int a1), (4, .ref a2), (5, .int x1)]) hx hb dX1_areIn_49 hl (k := 5) rfl rfl (by decide) rfl (fun ls hl => ?_)
          refine lv_goto (tgt := 13) hx hb dX1_areIn_52 (by decide) ?_
          exact ih13 _ _ _ _ _ _ hP hS (lv_sub hl [2, 3, 1, 4, 5, 0] rfl) hf
        have k47 : ∀  (t9 : Hp) (H : Heap) (locs : List Loc) (ls : Array Slot), gw_P K t9 H → va_S K.2.2.2.1 s.heap H locs → lv_has ls 8 [(0, .int a0), (1, .int a1), (4, .ref a2), (5, .int x1), (6, .int v13_6)] → fx_X1_areIn_J47 sf13 v13_6  t9 = some (r, tZ) → W p l e (headSpec (ws_ yX1_areIn cX1_areIn 8 (some (.boolean))) ({ frames := 2, cells := 0, slots := 0, locals := 12 })).room s m ([.int a0, .int a1, .ref a2] : List Value).toArray below meth c H locs 0 0 (MQ below (gw_Qi K r tZ) ([.int a0, .int a1, .ref a2] : List Value).toArray s 0 0 K.2.2.2.1) (F0 m 47 ls []) := by
          intro t9 H locs ls hP hS hl hf
          unfold fx_X1_areIn_J47 at hf
          refine lv_iconst (v := (0 : Int32)) hx hb dX1_areIn_47 (by decide) ?_
          exact k48 _ _ _ _ _ hP hS (lv_sub hl [0, 1, 2, 3, 4] rfl) hf
        refine lv_if_eq (tgt := 47) hx hb dX1_areIn_28 (by decide) (fun hc => ?_) (fun hc => ?_)
        · have hf := tw_ifT hc hf
          exact k47 _ _ _ _ hP hS (lv_sub hl [1, 2, 4, 5, 6] rfl) hf
        · have hf := tw_ifF hc hf
          refine lv_iload hx hb dX1_areIn_31 (lv_at hl 0 rfl) ?_
          refine lv_iload_n hx hb dX1_areIn_33 rfl (lv_at hl 1 rfl) ?_
          refine lv_icmp_lt (tgt := 47) hx hb dX1_areIn_34 (by decide) (fun hc => ?_) (fun hc => ?_)
          · have hf := tw_ifT hc hf
            exact k47 _ _ _ _ hP hS (lv_sub hl [1, 2, 4, 5, 6] rfl) hf
          · have hf := tw_ifF hc hf
            refine lv_iload hx hb dX1_areIn_37 (lv_at hl 0 rfl) ?_
            refine lv_iload_n hx hb dX1_areIn_39 rfl (lv_at hl 2 rfl) ?_
            refine lv_icmp_gt (tgt := 47) hx hb dX1_areIn_40 (by decide) (fun hc => ?_) (fun hc => ?_)
            · have hf := tw_ifT hc hf
              exact k47 _ _ _ _ hP hS (lv_sub hl [1, 2, 4, 5, 6] rfl) hf
            · have hf := tw_ifF hc hf
              refine lv_iconst (v := (1 : Int32)) hx hb dX1_areIn_43 (by decide) ?_
              refine lv_goto (tgt := 48) hx hb dX1_areIn_44 (by decide) ?_
              exact k48 _ _ _ _ _ hP hS (lv_sub hl [1, 2, 4, 5, 6] rfl) hf
  exact k13 _ _ _ _ _ _ _ hP hS (lv_sub hl [4, 5, 3, 2, 1, 0] rfl) hf
def fx_X1_isLink (a0 : Nat) (a1 : Int32) : gM Int32 :=
  gw_b0 (gw_gr 0 4 a0) fun x1 =>
  gw_b0 (gw_gi 1 2 x1) fun x4 =>
  gw_bc (gw_na 0 (1 : Int32)) fun x7 =>
  gw_b0 (gw_st x7 (0 : Int32) a1) fun _ =>
  gw_b0 (fx_X1_areIn (0 : Int32) (x4 - (1 : Int32)) x7) fun x13 =>
  gw_rz x13
theorem hdX1_isLink : yX1_isLink.cls = "LosslessFabric" ∧ (yX1_isLink.cls ≠ "java/lang/invoke/MethodHandle" ∧ yX1_isLink.cls ≠ "java/lang/invoke/VarHandle" ∧ (parseMethodDescriptor yX1_isLink.desc).map (fun d => d.parameters.length) = some 1) := by decide +kernel
set_option maxHeartbeats 4000000 in
theorem mx_X1_isLink {l : Launch} {K : GK} (hA : gw_A K) (a0 : Nat) (a1 : Int32) (t0 tZ : Hp) (r : Int32) (C0 S0 : Nat) (hf : fx_X1_isLink a0 a1 t0 = some (r, tZ, C0, S0)) : Met l yX1_isLink (ws_ yX1_isLink cX1_isLink 2 (some (.boolean))) ({ frames := 3, cells := C0, slots := S0, locals := 39 }) (va_Pc [.ref a0, .int a1] (gw_W K t0)) (gw_Qi K r tZ) C0 S0 K.2.2.2.1 := by
  refine Met.ofW (cc := cX1_isLink) (maxL := 2) (ret := some (.boolean)) (by decide) rfl ?_
  intro p e s m args below meth c s₁ B hml hv
  obtain ⟨rfl, hP, hK, hX, hN, hL⟩ := hv
  have hx := B.exec
  have hb := B.bytes
  have hr := B.returns
  have hts := atoms_spec (ws := (ws_ yX1_isLink cX1_isLink 2 (some (.boolean)))) B.pre
  have hts : ∀ w ∈ lw_all, w.before _ s = true := fun w h => hts w (List.mem_cons_of_mem _ h)
  have hown : s.vm.findClass "LosslessFabric" = some m.cls := findClass_of_methodNamed B.named
  have hlk := B.notSynchronized
  have C : gw_C K "LosslessFabric" p s m _ c cX1_isLink := ⟨hx, hb, hts, hown, hK, hA, hX, hN, hL⟩
  have hk : 0 + C0 = C0 := Nat.zero_add _
  have hn : 0 + S0 = S0 := Nat.zero_add _
  have hS : va_S K.2.2.2.1 s.heap s.heap [] := va_S.rf
  have hl := lv_entry ([.ref a0, .int a1]) (n := 2) (Nat.le_of_ble_eq_true rfl)
  rw [lg_entry_eq]
  generalize (lg_sl ([.ref a0, .int a1]) ++ List.replicate (2 - (lg_sl ([.ref a0, .int a1])).length) Slot.unset).toArray = ls at hl ⊢
  have hl : lv_has ls 2 [(0, .ref a0), (1, .int a1)] := hl
  unfold fx_X1_isLink at hf
  refine lv_iconst (v := (0 : Int32)) hx hb dX1_isLink_0 (by decide) ?_
  refine lv_aload_n hx hb dX1_isLink_1 rfl (lv_at hl 0 rfl) ?_
  obtain ⟨x1, t2, e3, hf⟩ := gw_b0E hf
  refine gw_rget (ci := 0) (k := 4) (T := TX1) C hP rfl in_X1 (by decide) e3 q394 rfl dX1_isLink_2 (fun hP => ?_)
  obtain ⟨x4, t5, e6, hf⟩ := gw_b0E hf
  refine gw_igetN (ci := 1) (k := 2) (T := TX2) C hP rfl in_X2 (by decide) e6 q160 rfl dX1_isLink_5 (fun hP => ?_)
  refine lv_iconst (v := (1 : Int32)) hx hb dX1_isLink_8 (by decide) ?_
  refine lv_isub hx hb dX1_isLink_9 ?_
  refine lv_iconst (v := (1 : Int32)) hx hb dX1_isLink_10 (by decide) ?_
  obtain ⟨x7, t8, c8, s8, C8, S8, e9, hf, hk, hn⟩ := gw_bcE hf hk hn
  refine gw_newa (atype := .int) C hP hS e9 q290 rfl rfl (fun h => h) rfl (by decide) (Nat.le.intro hk) (Nat.le.intro hn) dX1_isLink_11 (fun H hP hS => ?_)
  refine lv_dup hx hb dX1_isLink_13 rfl ?_
  refine lv_iconst (v := (0 : Int32)) hx hb dX1_isLink_14 (by decide) ?_
  refine lv_iload_n hx hb dX1_isLink_15 rfl (lv_at hl 1 rfl) ?_
  obtain ⟨x10, t11, e12, hf⟩ := gw_b0E hf
  refine gw_iast C hP hS e12 dX1_isLink_16 (fun H locs hP hS => ?_)
  obtain ⟨x13, t14, e15, hf⟩ := gw_b0E hf
  refine gw_cSi (As := [.int (0 : Int32), .int (x4 - (1 : Int32)), .ref x7]) (rest := []) C hml hP hS (mx_X1_areIn (l := l) (K := K) hA _ _ _ _ _ _ e15) (va_cwS 3 hts (lw_S q956 q957 q101 q958) rfl rfl rfl hdX1_areIn ⟨Nat.le_of_ble_eq_true rfl, Nat.le_of_ble_eq_true rfl⟩) rfl hl.1 rfl (Nat.le_of_ble_eq_true rfl) (Nat.le.intro hk) (Nat.le.intro hn) dX1_isLink_17 (fun H locs hP hS => ?_)
  obtain ⟨h0, h1, h2, h3, h4⟩ := gw_rzE hf hk hn
  exact gw_iretz h0 h1 h2 h3 h4 C hr hP hS hlk dX1_isLink_20
def fx_X5_forgets (a0 : Nat) : HM Unit :=
  tw_bd (gw_gr 4 10 a0) fun x1 =>
  tw_bd (gw_st x1 (0 : Int32) (0 : Int32)) fun _ =>
  tw_bd (gw_gr 4 10 a0) fun x7 =>
  tw_bd (gw_st x7 (1 : Int32) (0 : Int32)) fun _ =>
  tw_bd (gw_pi 4 7 a0 (0 : Int32)) fun _ =>
  tw_bd (gw_pi 4 8 a0 (0 : Int32)) fun _ =>
  tw_rt ()
theorem hdX5_forgets : yX5_forgets.cls = "LosslessFabric$Sender" ∧ (yX5_forgets.cls ≠ "java/lang/invoke/MethodHandle" ∧ yX5_forgets.cls ≠ "java/lang/invoke/VarHandle" ∧ (parseMethodDescriptor yX5_forgets.desc).map (fun d => d.parameters.length) = some 0) := by decide +kernel
set_option maxHeartbeats 4000000 in
theorem mx_X5_forgets {l : Launch} {K : GK} (hA : gw_A K) (a0 : Nat) (t0 tZ : Hp) (r : Unit) (hf : fx_X5_forgets a0 t0 = some (r, tZ)) : Met l yX5_forgets (ws_ yX5_forgets cX5_forgets 1 (none)) ({ frames := 2, cells := 0, slots := 0, locals := 12 }) (va_Pc [.ref a0] (gw_W K t0)) (gw_Qv K tZ) 0 0 K.2.2.2.1 := by
  refine Met.ofW (cc := cX5_forgets) (maxL := 1) (ret := none) (by decide) rfl ?_
  intro p e s m args below meth c s₁ B hml hv
  obtain ⟨rfl, hP, hK, hX, hN, hL⟩ := hv
  have hx := B.exec
  have hb := B.bytes
  have hr := B.returns
  have hts := atoms_spec (ws := (ws_ yX5_forgets cX5_forgets 1 (none))) B.pre
  have hts : ∀ w ∈ lw_all, w.before _ s = true := fun w h => hts w (List.mem_cons_of_mem _ h)
  have hown : s.vm.findClass "LosslessFabric$Sender" = some m.cls := findClass_of_methodNamed B.named
  have hlk := B.notSynchronized
  have C : gw_C K "LosslessFabric$Sender" p s m _ c cX5_forgets := ⟨hx, hb, hts, hown, hK, hA, hX, hN, hL⟩
  have hS : va_S K.2.2.2.1 s.heap s.heap [] := va_S.rf
  have hl := lv_entry ([.ref a0]) (n := 1) (Nat.le_of_ble_eq_true rfl)
  rw [lg_entry_eq]
  generalize (lg_sl ([.ref a0]) ++ List.replicate (1 - (lg_sl ([.ref a0])).length) Slot.unset).toArray = ls at hl ⊢
  have hl : lv_has ls 1 [(0, .ref a0)] := hl
  unfold fx_X5_forgets at hf
  refine lv_aload_n hx hb dX5_forgets_0 rfl (lv_at hl 0 rfl) ?_
  obtain ⟨x1, t2, e3, hf⟩ := tw_bdE hf
  refine gw_rget (ci := 4) (k := 10) (T := TX5) C hP rfl in_X5 (by decide) e3 q321 rfl dX5_forgets_1 (fun hP => ?_)
  refine lv_iconst (v := (0 : Int32)) hx hb dX5_forgets_4 (by decide) ?_
  refine lv_iconst (v := (0 : Int32)) hx hb dX5_forgets_5 (by decide) ?_
  obtain ⟨x4, t5, e6, hf⟩ := tw_bdE hf
  refine gw_iast C hP hS e6 dX5_forgets_6 (fun H locs hP hS => ?_)
  refine lv_aload_n hx hb dX5_forgets_7 rfl (lv_at hl 0 rfl) ?_
  obtain ⟨x7, t8, e9, hf⟩ := tw_bdE hf
  refine gw_rget (ci := 4) (k := 10) (T := TX5) C hP rfl in_X5 (by decide) e9 q321 rfl dX5_forgets_8 (fun hP => ?_)
  refine lv_iconst (v := (1 : Int32)) hx hb dX5_forgets_11 (by decide) ?_
  refine lv_iconst (v := (0 : Int32)) hx hb dX5_forgets_12 (by decide) ?_
  obtain ⟨x10, t11, e12, hf⟩ := tw_bdE hf
  refine gw_iast C hP hS e12 dX5_forgets_13 (fun H locs hP hS => ?_)
  refine lv_aload_n hx hb dX5_forgets_14 rfl (lv_at hl 0 rfl) ?_
  refine lv_iconst (v := (0 : Int32)) hx hb dX5_forgets_15 (by decide) ?_
  obtain ⟨x13, t14, e15, hf⟩ := tw_bdE hf
  refine gw_vput (ci := 4) (k := 7) (T := TX5) C hP hS rfl in_X5 tyX5 tyX5_ok nmX5 (by decide) e15 q315 rfl rfl (vp_nar_int _) rfl dX5_forgets_16 (fun H locs hP hS => ?_)
  refine lv_aload_n hx hb dX5_forgets_19 rfl (lv_at hl 0 rfl) ?_
  refine lv_iconst (v := (0 : Int32)) hx hb dX5_forgets_20 (by decide) ?_
  obtain ⟨x16, t17, e18, hf⟩ := tw_bdE hf
  refine gw_vput (ci := 4) (k := 8) (T := TX5) C hP hS rfl in_X5 tyX5 tyX5_ok nmX5 (by decide) e18 q317 rfl rfl (vp_nar_int _) rfl dX5_forgets_21 (fun H locs hP hS => ?_)
  exact gw_iretv (tw_rtE hf).2 rfl rfl C hr hP hS hlk dX5_forgets_24
def fx_X5_cuts (a0 : Nat) (a1 : Int32) : HM Unit :=
  tw_bd (gw_gi 4 4 a0) fun x1 =>
  tw_bd (gw_pi 4 4 a0 (x1 + (1 : Int32))) fun _ =>
  tw_bd (gw_gi 4 0 a0) fun x7 =>
  tw_bd (gw_pi 4 1 a0 x7) fun _ =>
  tw_bd (gw_gi 4 0 a0) fun x13 =>
  tw_bd (gw_gi 4 0 a0) fun x16 =>
  tw_bd (tw_nz (128 : Int32)) fun _ =>
   tw_bd (gw_pi 4 0 a0 (if (1 : Int32) < (x13 - ((x16 * a1) / (128 : Int32))) then (x13 - ((x16 * a1) / (128 : Int32))) else (1 : Int32))) fun _ =>
  tw_bd (gw_on 4 a0 (fx_X5_forgets a0)) fun _ =>
  tw_rt ()
theorem hdX5_cuts : yX5_cuts.cls = "LosslessFabric$Sender" ∧ (yX5_cuts.cls ≠ "java/lang/invoke/MethodHandle" ∧ yX5_cuts.cls ≠ "java/lang/invoke/VarHandle" ∧ (parseMethodDescriptor yX5_cuts.desc).map (fun d => d.parameters.length) = some 1) := by decide +kernel
set_option maxHeartbeats 4000000 in
theorem mx_X5_cuts {l : Launch} {K : GK} (hA : gw_A K) (a0 : Nat) (a1 : Int32) (t0 tZ : Hp) (r : Unit) (hf : fx_X5_cuts a0 a1 t0 = some (r, tZ)) : Met l yX5_cuts (ws_ yX5_cuts cX5_cuts 2 (none)) ({ frames := 3, cells := 0, slots := 0, locals := 32 }) (va_Pc [.ref a0, .int a1] (gw_W K t0)) (gw_Qv K tZ) 0 0 K.2.2.2.1 := by
  refine Met.ofW (cc := cX5_cuts) (maxL := 2) (ret := none) (by decide) rfl ?_
  intro p e s m args below meth c s₁ B hml hv
  obtain ⟨rfl, hP, hK, hX, hN, hL⟩ := hv
  have hx := B.exec
  have hb := B.bytes
  have hr := B.returns
  have hts := atoms_spec (ws := (ws_ yX5_cuts cX5_cuts 2 (none))) B.pre
  have hts : ∀ w ∈ lw_all, w.before _ s = true := fun w h => hts w (List.mem_cons_of_mem _ h)
  have hown : s.vm.findClass "LosslessFabric$Sender" = some m.cls := findClass_of_methodNamed B.named
  have hlk := B.notSynchronized
  have C : gw_C K "LosslessFabric$Sender" p s m _ c cX5_cuts := ⟨hx, hb, hts, hown, hK, hA, hX, hN, hL⟩
  have hS : va_S K.2.2.2.1 s.heap s.heap [] := va_S.rf
  have hl := lv_entry ([.ref a0, .int a1]) (n := 2) (Nat.le_of_ble_eq_true rfl)
  rw [lg_entry_eq]
  generalize (lg_sl ([.ref a0, .int a1]) ++ List.replicate (2 - (lg_sl ([.ref a0, .int a1])).length) Slot.unset).toArray = ls at hl ⊢
  have hl : lv_has ls 2 [(0, .ref a0), (1, .int a1)] := hl
  unfold fx_X5_cuts at hf
  refine lv_aload_n hx hb dX5_cuts_0 rfl (lv_at hl 0 rfl) ?_
  refine lv_dup hx hb dX5_cuts_1 rfl ?_
  obtain ⟨x1, t2, e3, hf⟩ := tw_bdE hf
  refine gw_iget (ci := 4) (k := 4) (T := TX5) C hP rfl in_X5 (by decide) e3 q306 rfl dX5_cuts_2 (fun hP => ?_)
  refine lv_iconst (v := (1 : Int32)) hx hb dX5_cuts_5 (by decide) ?_
  refine lv_iadd hx hb dX5_cuts_6 ?_
  obtain ⟨x4, t5, e6, hf⟩ := tw_bdE hf
  refine gw_vput (ci := 4) (k := 4) (T := TX5) C hP hS rfl in_X5 tyX5 tyX5_ok nmX5 (by decide) e6 q306 rfl rfl (vp_nar_int _) rfl dX5_cuts_7 (fun H locs hP hS => ?_)
  refine lv_aload_n hx hb dX5_cuts_10 rfl (lv_at hl 0 rfl) ?_
  refine lv_aload_n hx hb dX5_cuts_11 rfl (lv_at hl 0 rfl) ?_
  obtain ⟨x7, t8, e9, hf⟩ := tw_bdE hf
  refine gw_iget (ci := 4) (k := 0) (T := TX5) C hP rfl in_X5 (by decide) e9 q296 rfl dX5_cuts_12 (fun hP => ?_)
  obtain ⟨x10, t11, e12, hf⟩ := tw_bdE hf
  refine gw_vput (ci := 4) (k := 1) (T := TX5) C hP hS rfl in_X5 tyX5 tyX5_ok nmX5 (by decide) e12 q298 rfl rfl (vp_nar_int _) rfl dX5_cuts_15 (fun H locs hP hS => ?_)
  refine lv_aload_n hx hb dX5_cuts_18 rfl (lv_at hl 0 rfl) ?_
  refine lv_iconst (v := (1 : Int32)) hx hb dX5_cuts_19 (by decide) ?_
  refine lv_aload_n hx hb dX5_cuts_20 rfl (lv_at hl 0 rfl) ?_
  obtain ⟨x13, t14, e15, hf⟩ := tw_bdE hf
  refine gw_iget (ci := 4) (k := 0) (T := TX5) C hP rfl in_X5 (by decide) e15 q296 rfl dX5_cuts_21 (fun hP => ?_)
  refine lv_aload_n hx hb dX5_cuts_24 rfl (lv_at hl 0 rfl) ?_
  obtain ⟨x16, t17, e18, hf⟩ := tw_bdE hf
  refine gw_iget (ci := 4) (k := 0) (T := TX5) C hP rfl in_X5 (by decide) e18 q296 rfl dX5_cuts_25 (fun hP => ?_)
  refine lv_iload_n hx hb dX5_cuts_28 rfl (lv_at hl 1 rfl) ?_
  refine lv_imul hx hb dX5_cuts_29 ?_
  refine lv_sipush (v := (128 : Int32)) hx hb dX5_cuts_30 (by decide) ?_
  obtain ⟨w19, t20, e21, hf⟩ := tw_bdE hf
  rw [← (tw_nzE e21).2] at hf
  refine lv_idiv hx hb dX5_cuts_33 (tw_nzE e21).1 ?_
  refine lv_isub hx hb dX5_cuts_34 ?_
  refine va_mmax (rest := [.ref a0]) hx hb (hml.trans hl.1.symm) hown (hts _ q921) (hts _ q521) (hts _ q110) (hts _ q522) (Nat.le_of_ble_eq_true rfl) (Nat.le_of_ble_eq_true rfl) (Nat.zero_le _) (Nat.zero_le _) dX5_cuts_35 ?_
  obtain ⟨x22, t23, e24, hf⟩ := tw_bdE hf
  refine gw_vput (ci := 4) (k := 0) (T := TX5) C hP hS rfl in_X5 tyX5 tyX5_ok nmX5 (by decide) e24 q296 rfl rfl (vp_nar_int _) rfl dX5_cuts_38 (fun H locs hP hS => ?_)
  refine lv_aload_n hx hb dX5_cuts_41 rfl (lv_at hl 0 rfl) ?_
  obtain ⟨x25, t26, e27, hf⟩ := tw_bdE hf
  refine gw_cVv (As := []) (rest := []) (ci := 4) (T := TX5) (N := 12) C hml hP hS rfl (gw_onE e27).1 (mx_X5_forgets (l := l) (K := K) hA _ _ _ _ (gw_onE e27).2) (cwV 0 hts (lw_V q385 q386 q387 q105 q388) rfl rfl rfl hdX5_forgets ⟨Nat.le_of_ble_eq_true rfl, Nat.le_of_ble_eq_true rfl⟩) rfl hl.1 rfl (Nat.le_of_ble_eq_true rfl) (Nat.zero_le _) (Nat.zero_le _) dX5_cuts_42 (fun H locs hP hS => ?_)
  exact gw_iretv (tw_rtE hf).2 rfl rfl C hr hP hS hlk dX5_cuts_45
def fx_X1_lambda_samples_1 (a0 : Int32) (a1 : Int32) (a2 : Nat) : HM Unit :=
  tw_bd (gw_gr 2 3 a2) fun x1 =>
  tw_bd (gw_lr 7 x1 a0) fun x4 =>
  tw_bd (gw_on 4 x4 (fx_X5_cuts x4 a1)) fun _ =>
  tw_rt ()
theorem hdX1_lambda_samples_1 : (yX1_lambda_samples_1.cls ≠ "java/lang/invoke/MethodHandle" ∧ yX1_lambda_samples_1.cls ≠ "java/lang/invoke/VarHandle" ∧ (parseMethodDescriptor yX1_lambda_samples_1.desc).map (fun d => d.parameters.length) = some 3) := by decide +kernel
set_option maxHeartbeats 4000000 in
theorem mx_X1_lambda_samples_1 {l : Launch} {K : GK} (hA : gw_A K) (a0 : Int32) (a1 : Int32) (a2 : Nat) (t0 tZ : Hp) (r : Unit) (hf : fx_X1_lambda_samples_1 a0 a1 a2 t0 = some (r, tZ)) : Met l yX1_lambda_samples_1 (ws_ yX1_lambda_samples_1 cX1_lambda_samples_1 3 (none)) ({ frames := 4, cells := 0, slots := 0, locals := 53 }) (va_Pc [.int a0, .int a1, .ref a2] (gw_W K t0)) (gw_Qv K tZ) 0 0 K.2.2.2.1 := by
  refine Met.ofW (cc := cX1_lambda_samples_1) (maxL := 3) (ret := none) (by decide) rfl ?_
  intro p e s m args below meth c s₁ B hml hv
  obtain ⟨rfl, hP, hK, hX, hN, hL⟩ := hv
  have hx := B.exec
  have hb := B.bytes
  have hr := B.returns
  have hts := atoms_spec (ws := (ws_ yX1_lambda_samples_1 cX1_lambda_samples_1 3 (none))) B.pre
  have hts : ∀ w ∈ lw_all, w.before _ s = true := fun w h => hts w (List.mem_cons_of_mem _ h)
  have hown : s.vm.findClass "LosslessFabric" = some m.cls := findClass_of_methodNamed B.named
  have hlk := B.notSynchronized
  have C : gw_C K "LosslessFabric" p s m _ c cX1_lambda_samples_1 := ⟨hx, hb, hts, hown, hK, hA, hX, hN, hL⟩
  have hS : va_S K.2.2.2.1 s.heap s.heap [] := va_S.rf
  have hl := lv_entry ([.int a0, .int a1, .ref a2]) (n := 3) (Nat.le_of_ble_eq_true rfl)
  rw [lg_entry_eq]
  generalize (lg_sl ([.int a0, .int a1, .ref a2]) ++ List.replicate (3 - (lg_sl ([.int a0, .int a1, .ref a2])).length) Slot.unset).toArray = ls at hl ⊢
  have hl : lv_has ls 3 [(0, .int a0), (1, .int a1), (2, .ref a2)] := hl
  unfold fx_X1_lambda_samples_1 at hf
  refine lv_aload_n hx hb dX1_lambda_samples_1_0 rfl (lv_at hl 2 rfl) ?_
  obtain ⟨x1, t2, e3, hf⟩ := tw_bdE hf
  refine gw_rgetN (ci := 2) (k := 3) (T := TX3) C hP rfl in_X3 (by decide) e3 q358 rfl dX1_lambda_samples_1_1 (fun hP => ?_)
  refine lv_iload_n hx hb dX1_lambda_samples_1_4 rfl (lv_at hl 0 rfl) ?_
  obtain ⟨x4, t5, e6, hf⟩ := tw_bdE hf
  refine gw_aald C hP rfl e6 dX1_lambda_samples_1_5 (fun hP => ?_)
  refine lv_iload_n hx hb dX1_lambda_samples_1_6 rfl (lv_at hl 1 rfl) ?_
  obtain ⟨x7, t8, e9, hf⟩ := tw_bdE hf
  refine gw_cVv (As := [.int a1]) (rest := []) (ci := 4) (T := TX5) (N := 12) C hml hP hS rfl (gw_onE e9).1 (mx_X5_cuts (l := l) (K := K) hA _ _ _ _ _ (gw_onE e9).2) (cwV 1 hts (lw_V q917 q918 q919 q105 q920) rfl rfl rfl hdX5_cuts ⟨Nat.le_of_ble_eq_true rfl, Nat.le_of_ble_eq_true rfl⟩) rfl hl.1 rfl (Nat.le_of_ble_eq_true rfl) (Nat.zero_le _) (Nat.zero_le _) dX1_lambda_samples_1_7 (fun H locs hP hS => ?_)
  exact gw_iretv (tw_rtE hf).2 rfl rfl C hr hP hS hlk dX1_lambda_samples_1_10
theorem gl_y1 : ∀ sig, parseMethodDescriptor gl_n1.desc = some sig → 1 = sig.parameters.length := by
  intro sig h
  have h1 : (parseMethodDescriptor gl_n1.desc).map (fun d => d.parameters.length) = some 1 := by decide +kernel
  rw [h] at h1
  exact (Option.some.inj h1).symm
theorem gl_z1 : ∀ sig, parseMethodDescriptor yX1_lambda_samples_1.desc = some sig → 3 = sig.parameters.length := by
  intro sig h
  have h1 : (parseMethodDescriptor yX1_lambda_samples_1.desc).map (fun d => d.parameters.length) = some 3 := by decide +kernel
  rw [h] at h1
  exact (Option.some.inj h1).symm
section GwFw1
variable {p : Program} {l : Launch} {e : Env} {R : Room} {s : State} {m : MethodId} {args : Array Value} {below : List Frame} {meth : Method} {c : Code} {H : Heap} {locs : List Loc} {cells slots : Nat} {Q : State → Prop}
variable {cc : ByteArray} {pc : Nat} {ls : Array Slot} {rest : List Value} {K : GK} {h u : Hp} {H0 : Heap} {own : String}

set_option maxHeartbeats 4000000 in
theorem gw_fw1 {r index : Nat} {z0 : Int32} {z1 : Int32} {p0 : Nat} {v : Unit} {F : Nat → Value} (C : gw_C K own p s m args c cc) (hP : gw_P K h H) (hS : va_S K.2.2.2.1 s.heap H locs) (hO : gw_ob h r 101 = some F) (hF0 : F 0 = .int z0) (hF1 : F 1 = .int z1) (he : fx_X1_lambda_samples_1 z0 z1 p0 h = some (v, u)) (hlink : Cond.methodLink own index gl_n1 ∈ lw_all) (hsize : ls.size = c.maxLocals) (hw : (rest.map fun v => v.category).sum ≤ 8) (hfr : 6 ≤ R.frames) (hlo : 96 ≤ R.locals) (hcells : cells + 0 ≤ R.cells) (hslots : slots + 0 ≤ R.slots) (hdg : decode cc pc = .ok (.invokeinterface index 2, 5)) : va_Run5 p l e R s m args below meth c H locs cells slots 0 0 (F0 m pc ls (.ref p0 :: .ref r :: rest)) rest (gw_Qv K u (Value.ref r :: [.ref p0]).toArray) K.2.2.2.1 := by
  have hcell := (hP.1 r _ (gw_obE hO)).1
  unfold gw_at at hcell
  dsimp only at hcell
  rw [if_neg (by decide)] at hcell
  obtain ⟨cell, g1, g2, g3, g4⟩ := hcell
  have g50 : cell.slots[0]? = some (.int z0) := by rw [g4 0 (by decide), hF0]
  have g51 : cell.slots[1]? = some (.int z1) := by rw [g4 1 (by decide), hF1]
  refine gl_call (xi := gl_n1) (y := yX1_lambda_samples_1) (R' := { frames := 5, cells := 0, slots := 0, locals := 75 }) (Qc := gw_Qv K u) (mc := 0) (ms := 0) (free := K.2.2.2.1) (As := [.ref p0]) C.1 C.2.1 C.2.2.2.1 (C.2.2.1 _ hlink) (va_Nw.use (w := .declares gl_n1) rfl C.2.2.2.2.2.2.2.2.2.2.1.1) (va_Nw.use (w := .interfaceMethod gl_n1.cls gl_n1.cls gl_n1.name gl_n1.desc) rfl C.2.2.2.2.2.2.2.2.2.2.1.2) (by decide) C.2.2.2.2.2.2.2.2.1.2.1 rfl (C.2.2.1 _ q1943) (C.2.2.1 _ q129) rfl rfl gl_t1.2 gl_f1 rfl rfl gl_t1.1 gl_g1 gl_h1 gl_i1 gl_p1 gl_k1 gl_l1 rfl g1 g2 g3 gl_y1 rfl hsize rfl hdg hfr (by show 2 * 0 + _ + (2 + 11) + 75 ≤ _; omega) hcells hslots ?_
  intro s' below' methk ck hH' hW' hbytes hmlK hlk hret hR hfld
  obtain ⟨fd0, hfd0, hfs0, hfl0⟩ := hfld 16 _ _ 0 0 "arg$1" _ gl_q1_0.1 gl_q1_0.2 rfl rfl
  obtain ⟨fd1, hfd1, hfs1, hfl1⟩ := hfld 18 _ _ 1 1 "arg$2" _ gl_q1_1.1 gl_q1_1.2 rfl rfl
  rw [lg_entry_eq]
  have hl := lv_entry ([.ref r, .ref p0]) (n := 2) (Nat.le_of_ble_eq_true rfl)
  generalize (lg_sl ([.ref r, .ref p0]) ++ List.replicate (2 - (lg_sl ([.ref r, .ref p0])).length) Slot.unset).toArray = ls' at hl ⊢
  have hl : lv_has ls' 2 [(0, .ref r), (1, .ref p0)] := hl
  refine lv_aload_n C.1 hbytes gl_d1_0 rfl (lv_at hl 0 rfl) ?_
  refine gl_getf C.1 hbytes hfd0 hfs0 g1 (by rw [g3]; exact fun h => by cases h) (by rw [hfl0]; exact g50) gl_d1_1 ?_
  refine lv_aload_n C.1 hbytes gl_d1_4 rfl (lv_at hl 0 rfl) ?_
  refine gl_getf C.1 hbytes hfd1 hfs1 g1 (by rw [g3]; exact fun h => by cases h) (by rw [hfl1]; exact g51) gl_d1_5 ?_
  refine lv_aload_n C.1 hbytes gl_d1_8 rfl (lv_at hl 1 rfl) ?_
  have here9 : ∀ U : State, U.heap = H → s'.WarmedH U.vm → va_Pc [.int z0, .int z1, .ref p0] (gw_W K h) ([.int z0, .int z1, .ref p0] : List Value).toArray U := fun U hU hW9 => gw_here C hS hP U hU (State.WarmedH.trans hW' hW9)
  have hS9 : va_S K.2.2.2.1 s'.heap H [] := by rw [hH']; exact va_S.rf
  refine va_callv (gl_runS (n := 0) (bytes := cX1_lambda_samples_1) (maxL := 3) (ret := none) (As := [.int z0, .int z1, .ref p0]) (rest := []) C.1 hbytes (mx_X1_lambda_samples_1 (l := l) (K := K) C.2.2.2.2.2.1 _ _ _ _ _ _ he) rfl rfl (Nat.le_of_ble_eq_true rfl) (Nat.le_of_ble_eq_true rfl) (fun w hw a' U hU => pay_in C.2.2.1 (lw_meth q916) w hw a' U (State.WarmedH.trans hW' hU)) List.mem_cons_self (pay_in C.2.2.1 lw_self _ q916 _ s' hW') (pay_in C.2.2.1 lw_self _ q101 _ s' hW') (pay_in C.2.2.1 lw_self _ q915 _ s' hW') rfl gl_z1 hR ⟨gw_blind, here9⟩ rfl (by rw [hmlK]; exact hl.1) rfl (lv_room (Nat.le_of_ble_eq_true rfl)) gl_d1_9 ⟨Nat.le_of_eq (Nat.zero_add _), Nat.le_of_eq (Nat.zero_add _)⟩) hS9 (fun q _ h => h) (fun q h => h) (fun u9 t9 H1 locs1 ht hvm hp hB hz hk hS1 => ?_)
  subst ht
  exact W.vret C.1 hbytes hret (fun t2 ht2 hW2 => ⟨⟨(), rfl, trivial, by show gw_P K u t2.heap; rw [ht2]; exact hB⟩, hS1.F ht2⟩) hS1.2.2 gl_d1_12 hlk
end GwFw1

def fj_1 (r : Nat) (p0 : Nat) : HM Unit := fun h => match gw_ob h r 101 with
  | some F => (match F 0, F 1 with | .int z0, .int z1 => (fx_X1_lambda_samples_1 z0 z1 p0) h | _, _ => none)
  | none => none
def fi_1 (r : Nat) (p0 : Nat) : HM Unit := fj_1 r p0
section GwIf1
variable {p : Program} {l : Launch} {e : Env} {R : Room} {s : State} {m : MethodId} {args : Array Value} {below : List Frame} {meth : Method} {c : Code} {H : Heap} {locs : List Loc} {cells slots : Nat} {Q : State → Prop}
variable {cc : ByteArray} {pc : Nat} {ls : Array Slot} {rest : List Value} {K : GK} {h u : Hp} {H0 : Heap} {own : String}

theorem gw_if1 {r index : Nat} {p0 : Nat} {v : Unit} (C : gw_C K own p s m args c cc) (hP : gw_P K h H) (hS : va_S K.2.2.2.1 s.heap H locs) (he : fi_1 r p0 h = some (v, u)) (hlink : Cond.methodLink own index gl_n1 ∈ lw_all) (hsize : ls.size = c.maxLocals) (hw : (rest.map fun v => v.category).sum ≤ 8) (hfr : 6 ≤ R.frames) (hlo : 96 ≤ R.locals) (hcells : cells ≤ R.cells) (hslots : slots ≤ R.slots) (hdg : decode cc pc = .ok (.invokeinterface index 2, 5))
    (kk : ∀ (H1 : Heap) (locs1 : List Loc), gw_P K u H1 → va_S K.2.2.2.1 s.heap H1 locs1 → W p l e R s m args below meth c H1 locs1 (cells) (slots) Q (F0 m (pc + 5) ls (rest))) : W p l e R s m args below meth c H locs cells slots Q (F0 m pc ls (.ref p0 :: .ref r :: rest)) := by
  unfold fi_1 at he
  unfold fj_1 at he
  split at he
  case h_1 F hO =>
    split at he
    case h_2 => cases he
    case h_1 z0 z1 hF0 hF1 =>
    refine va_callFv (gw_fw1 C hP hS hO hF0 hF1 he hlink hsize hw (Nat.le_trans (Nat.le_of_ble_eq_true rfl) hfr) (Nat.le_trans (Nat.le_of_ble_eq_true rfl) hlo) hcells hslots hdg) hS (fun q _ h => h) (fun q h => h) (fun u9 t9 H1 locs1 ht hvm hp hB hz hk hS1 => ?_)
    subst ht
    exact kk _ locs1 hB hS1
  case h_2 =>
    cases he
end GwIf1

def fx_X10_isLast_J20  (w20_0 : Int32) : HM Int32 :=
  tw_rz w20_0
def fx_X10_isLast (a0 : Nat) (a1 : Int32) : HM Int32 :=
  tw_bd (gw_gr 9 2 a0) fun x1 =>
  tw_bd (gw_gi 9 3 a0) fun x4 =>
  tw_bd (gw_ld 0 x1 (x4 - (1 : Int32))) fun x7 =>
  if x7 = a1 then (fx_X10_isLast_J20 (1 : Int32))
  else (fx_X10_isLast_J20 (0 : Int32))
theorem hdX10_isLast : yX10_isLast.cls = "LosslessFabric$Flow" ∧ (yX10_isLast.cls ≠ "java/lang/invoke/MethodHandle" ∧ yX10_isLast.cls ≠ "java/lang/invoke/VarHandle" ∧ (parseMethodDescriptor yX10_isLast.desc).map (fun d => d.parameters.length) = some 1) := by decide +kernel
set_option maxHeartbeats 4000000 in
theorem mx_X10_isLast {l : Launch} {K : GK} (hA : gw_A K) (a0 : Nat) (a1 : Int32) (t0 tZ : Hp) (r : Int32) (hf : fx_X10_isLast a0 a1 t0 = some (r, tZ)) : Met l yX10_isLast (ws_ yX10_isLast cX10_isLast 2 (some (.boolean))) ({ frames := 2, cells := 0, slots := 0, locals := 12 }) (va_Pc [.ref a0, .int a1] (gw_W K t0)) (gw_Qi K r tZ) 0 0 K.2.2.2.1 := by
  refine Met.ofW (cc := cX10_isLast) (maxL := 2) (ret := some (.boolean)) (by decide) rfl ?_
  intro p e s m args below meth c s₁ B hml hv
  obtain ⟨rfl, hP, hK, hX, hN, hL⟩ := hv
  have hx := B.exec
  have hb := B.bytes
  have hr := B.returns
  have hts := atoms_spec (ws := (ws_ yX10_isLast cX10_isLast 2 (some (.boolean)))) B.pre
  have hts : ∀ w ∈ lw_all, w.before _ s = true := fun w h => hts w (List.mem_cons_of_mem _ h)
  have hown : s.vm.findClass "LosslessFabric$Flow" = some m.cls := findClass_of_methodNamed B.named
  have hlk := B.notSynchronized
  have C : gw_C K "LosslessFabric$Flow" p s m _ c cX10_isLast := ⟨hx, hb, hts, hown, hK, hA, hX, hN, hL⟩
  have hS : va_S K.2.2.2.1 s.heap s.heap [] := va_S.rf
  have hl := lv_entry ([.ref a0, .int a1]) (n := 2) (Nat.le_of_ble_eq_true rfl)
  rw [lg_entry_eq]
  generalize (lg_sl ([.ref a0, .int a1]) ++ List.replicate (2 - (lg_sl ([.ref a0, .int a1])).length) Slot.unset).toArray = ls at hl ⊢
  have hl : lv_has ls 2 [(0, .ref a0), (1, .int a1)] := hl
  unfold fx_X10_isLast at hf
  refine lv_aload_n hx hb dX10_isLast_0 rfl (lv_at hl 0 rfl) ?_
  obtain ⟨x1, t2, e3, hf⟩ := tw_bdE hf
  refine gw_rget (ci := 9) (k := 2) (T := TX10) C hP rfl in_X10 (by decide) e3 q776 rfl dX10_isLast_1 (fun hP => ?_)
  refine lv_aload_n hx hb dX10_isLast_4 rfl (lv_at hl 0 rfl) ?_
  obtain ⟨x4, t5, e6, hf⟩ := tw_bdE hf
  refine gw_iget (ci := 9) (k := 3) (T := TX10) C hP rfl in_X10 (by decide) e6 q780 rfl dX10_isLast_5 (fun hP => ?_)
  refine lv_iconst (v := (1 : Int32)) hx hb dX10_isLast_8 (by decide) ?_
  refine lv_isub hx hb dX10_isLast_9 ?_
  obtain ⟨x7, t8, e9, hf⟩ := tw_bdE hf
  refine gw_iald C hP e9 dX10_isLast_10 (fun hP => ?_)
  refine lv_iload_n hx hb dX10_isLast_11 rfl (lv_at hl 1 rfl) ?_
  have k20 : ∀ (w20_0 : Int32) (t10 : Hp) (H : Heap) (locs : List Loc) (ls : Array Slot), gw_P K t10 H → va_S K.2.2.2.1 s.heap H locs → lv_has ls 2 [] → fx_X10_isLast_J20 w20_0 t10 = some (r, tZ) → W p l e (headSpec (ws_ yX10_isLast cX10_isLast 2 (some (.boolean))) ({ frames := 2, cells := 0, slots := 0, locals := 12 })).room s m ([.ref a0, .int a1] : List Value).toArray below meth c H locs 0 0 (MQ below (gw_Qi K r tZ) ([.ref a0, .int a1] : List Value).toArray s 0 0 K.2.2.2.1) (F0 m 20 ls [.int w20_0]) := by
    intro w20_0 t10 H locs ls hP hS hl hf
    unfold fx_X10_isLast_J20 at hf
    obtain ⟨h0, h1, h2⟩ := tw_rzE hf
    exact gw_iretz h0 h1 h2 rfl rfl C hr hP hS hlk dX10_isLast_20
  refine lv_icmp_ne (tgt := 19) hx hb dX10_isLast_12 (by decide) (fun hc => ?_) (fun hc => ?_)
  · have hf := tw_ifF hc hf
    refine lv_iconst (v := (0 : Int32)) hx hb dX10_isLast_19 (by decide) ?_
    exact k20 _ _ _ _ _ hP hS (lv_sub hl [] rfl) hf
  · have hf := tw_ifT hc hf
    refine lv_iconst (v := (1 : Int32)) hx hb dX10_isLast_15 (by decide) ?_
    refine lv_goto (tgt := 20) hx hb dX10_isLast_16 (by decide) ?_
    exact k20 _ _ _ _ _ hP hS (lv_sub hl [] rfl) hf
def fx_X4_queue_L13 (x4 : Int32) (x1 : Nat) (sf13 : Int32 → Int32 → HM Int32) (v13_1 : Int32) (v13_4 : Int32) : HM Int32 :=
  if x4 ≤ v13_4 then (tw_rt v13_1)
  else (tw_bd (gw_ld 0 x1 v13_4) fun x8 =>
 
  sf13 (v13_1 + x8) (v13_4 + (1 : Int32)))
def fx_X4_queue (a0 : Nat) : HM Int32 :=
  tw_bd (gw_gr 3 0 a0) fun x1 =>
  tw_bd (gw_al 0 x1) fun x4 =>
 
  tw_lp (fx_X4_queue_L13 x4 x1) (fun _ _ _ => none) tw_fu (0 : Int32) (0 : Int32)
theorem hdX4_queue : yX4_queue.cls = "LosslessFabric$End" ∧ (yX4_queue.cls ≠ "java/lang/invoke/MethodHandle" ∧ yX4_queue.cls ≠ "java/lang/invoke/VarHandle" ∧ (parseMethodDescriptor yX4_queue.desc).map (fun d => d.parameters.length) = some 0) := by decide +kernel
set_option maxHeartbeats 4000000 in
theorem mx_X4_queue {l : Launch} {K : GK} (hA : gw_A K) (a0 : Nat) (t0 tZ : Hp) (r : Int32) (hf : fx_X4_queue a0 t0 = some (r, tZ)) : Met l yX4_queue (ws_ yX4_queue cX4_queue 6 (some (.int))) ({ frames := 2, cells := 0, slots := 0, locals := 12 }) (va_Pc [.ref a0] (gw_W K t0)) (gw_Qi K r tZ) 0 0 K.2.2.2.1 := by
  refine Met.ofW (cc := cX4_queue) (maxL := 6) (ret := some (.int)) (by decide) rfl ?_
  intro p e s m args below meth c s₁ B hml hv
  obtain ⟨rfl, hP, hK, hX, hN, hL⟩ := hv
  have hx := B.exec
  have hb := B.bytes
  have hr := B.returns
  have hts := atoms_spec (ws := (ws_ yX4_queue cX4_queue 6 (some (.int)))) B.pre
  have hts : ∀ w ∈ lw_all, w.before _ s = true := fun w h => hts w (List.mem_cons_of_mem _ h)
  have hown : s.vm.findClass "LosslessFabric$End" = some m.cls := findClass_of_methodNamed B.named
  have hlk := B.notSynchronized
  have C : gw_C K "LosslessFabric$End" p s m _ c cX4_queue := ⟨hx, hb, hts, hown, hK, hA, hX, hN, hL⟩
  have hS : va_S K.2.2.2.1 s.heap s.heap [] := va_S.rf
  have hl := lv_entry ([.ref a0]) (n := 6) (Nat.le_of_ble_eq_true rfl)
  rw [lg_entry_eq]
  generalize (lg_sl ([.ref a0]) ++ List.replicate (6 - (lg_sl ([.ref a0])).length) Slot.unset).toArray = ls at hl ⊢
  have hl : lv_has ls 6 [(0, .ref a0)] := hl
  unfold fx_X4_queue at hf
  refine lv_iconst (v := (0 : Int32)) hx hb dX4_queue_0 (by decide) ?_
  refine lv_istore_n (lv' := [(1, .int (0 : Int32)), (0, .ref a0)]) hx hb dX4_queue_1 rfl hl (by decide) rfl (fun ls hl => ?_)
  refine lv_aload_n hx hb dX4_queue_2 rfl (lv_at hl 1 rfl) ?_
  obtain ⟨x1, t2, e3, hf⟩ := tw_bdE hf
  refine gw_rget (ci := 3) (k := 0) (T := TX4) C hP rfl in_X4 (by decide) e3 q238 rfl dX4_queue_3 (fun hP => ?_)
  refine lv_astore_n (lv' := [(2, .ref x1), (1, .int (0 : Int32)), (0, .ref a0)]) hx hb dX4_queue_6 rfl hl (by decide) rfl (fun ls hl => ?_)
  refine lv_aload_n hx hb dX4_queue_7 rfl (lv_at hl 0 rfl) ?_
  obtain ⟨x4, t5, e6, hf⟩ := tw_bdE hf
  refine gw_alen C hP rfl e6 dX4_queue_8 (fun hP => ?_)
  refine lv_istore_n (lv' := [(3, .int x4), (2, .ref x1), (1, .int (0 : Int32)), (0, .ref a0)]) hx hb dX4_queue_9 rfl hl (by decide) rfl (fun ls hl => ?_)
  refine lv_iconst (v := (0 : Int32)) hx hb dX4_queue_10 (by decide) ?_
  refine lv_istore (lv' := [(4, .int (0 : Int32)), (3, .int x4), (2, .ref x1), (1, .int (0 : Int32)), (0, .ref a0)]) hx hb dX4_queue_11 hl (by decide) rfl (fun ls hl => ?_)
  have k13 : ∀ (n : Nat) (v13_1 : Int32) (v13_4 : Int32) (t7 : Hp) (H : Heap) (locs : List Loc) (ls : Array Slot), gw_P K t7 H → va_S K.2.2.2.1 s.heap H locs → lv_has ls 6 [(1, .int v13_1), (2, .ref x1), (3, .int x4), (4, .int v13_4)] → tw_lp (fx_X4_queue_L13 x4 x1) (fun _ _ _ => none) n v13_1 v13_4 t7 = some (r, tZ) → W p l e (headSpec (ws_ yX4_queue cX4_queue 6 (some (.int))) ({ frames := 2, cells := 0, slots := 0, locals := 12 })).room s m ([.ref a0] : List Value).toArray below meth c H locs 0 0 (MQ below (gw_Qi K r tZ) ([.ref a0] : List Value).toArray s 0 0 K.2.2.2.1) (F0 m 13 ls []) := by
    intro n
    induction n with
    | zero => intro v13_1 v13_4 t7 H locs ls hP hS hl hf; exact (tw_no hf).elim
    | succ n ih13 =>
      intro v13_1 v13_4 t7 H locs ls hP hS hl hf
      obtain ⟨sf13, hs13⟩ : ∃ f, f = tw_lp (fx_X4_queue_L13 x4 x1) (fun _ _ _ => none) n := ⟨_, rfl⟩
      rw [← hs13] at ih13
      have hf : fx_X4_queue_L13 x4 x1 sf13 v13_1 v13_4 t7 = some (r, tZ) := by rw [hs13]; exact hf
      clear hs13
      unfold fx_X4_queue_L13 at hf
      refine lv_iload hx hb dX4_queue_13 (lv_at hl 3 rfl) ?_
      refine lv_iload_n hx hb dX4_queue_15 rfl (lv_at hl 2 rfl) ?_
      refine lv_icmp_ge (tgt := 36) hx hb dX4_queue_16 (by decide) (fun hc => ?_) (fun hc => ?_)
      · have hf := tw_ifT hc hf
        refine lv_iload_n hx hb dX4_queue_36 rfl (lv_at hl 0 rfl) ?_
        exact gw_ireti (tw_rtE hf).1 (tw_rtE hf).2 rfl rfl C hr hP hS hlk dX4_queue_37
      · have hf := tw_ifF hc hf
        refine lv_aload_n hx hb dX4_queue_19 rfl (lv_at hl 1 rfl) ?_
        refine lv_iload hx hb dX4_queue_20 (lv_at hl 3 rfl) ?_
        obtain ⟨x8, t9, e10, hf⟩ := tw_bdE hf
        refine gw_iald C hP e10 dX4_queue_22 (fun hP => ?_)
        refine lv_istore (lv' := [(5, .int x8), (1, .int v13_1), (2, .ref x1), (3, .int x4), (4, .int v13_4)]) hx hb dX4_queue_23 hl (by decide) rfl (fun ls hl => ?_)
        refine lv_iload_n hx hb dX4_queue_25 rfl (lv_at hl 1 rfl) ?_
        refine lv_iload hx hb dX4_queue_26 (lv_at hl 0 rfl) ?_
        refine lv_iadd hx hb dX4_queue_28 ?_
        refine lv_istore_n (lv' := [(1, .int (v13_1 + x8)), (5, .int x8), (2, .ref x1), (3, .int x4), (4, .int v13_4)]) hx hb dX4_queue_29 rfl hl (by decide) rfl (fun ls hl => ?_)
        refine lv_iinc (v := (v13_4 + (1 : Int32))) (lv' := [(4, .int (v13_4 + (1 : Int32))), (1, .int (v13_1 + x8)), (5, .int x8), (2, .ref x1), (3, .int x4)]) hx hb dX4_queue_30 hl (k := 4) rfl rfl (by decide) rfl (fun ls hl => ?_)
        refine lv_goto (tgt := 13) hx hb dX4_queue_33 (by decide) ?_
        exact ih13 _ _ _ _ _ _ hP hS (lv_sub hl [1, 3, 4, 0] rfl) hf
  exact k13 _ _ _ _ _ _ _ hP hS (lv_sub hl [3, 2, 1, 0] rfl) hf
def fx_X1_arrives_J195 (sf10 : Int32 → HM Unit) (v10_4 : Int32)  : HM Unit :=
  sf10 (v10_4 + (1 : Int32))
def fx_X1_arrives_L10 (a0 : Nat) (x4 : Nat) (a2 : Int32) (a1 : Nat) (sf10 : Int32 → HM Unit) (v10_4 : Int32) : HM Unit :=
  tw_bd (gw_gr 0 4 a0) fun x8 =>
  tw_bd (gw_gi 1 3 x8) fun x11 =>
  if x11 ≤ v10_4 then (tw_bd (gw_gi 3 6 x4) fun x14 =>
  tw_bd (gw_on 3 x4 (fx_X4_queue x4)) fun x17 =>
   tw_bd (gw_pi 3 6 x4 (if x14 < x17 then x17 else x14)) fun _ =>
  tw_rt ())
  else (tw_bd (gw_gr 0 7 a0) fun x23 =>
  tw_bd (gw_st x23 (((8 : Int32) * a2) + v10_4) (0 : Int32)) fun _ =>
  tw_bd (gw_gr 0 6 a0) fun x29 =>
  tw_bd (gw_ld 0 x29 (((8 : Int32) * a2) + v10_4)) fun x32 =>
  if x32 = 0 then (fx_X1_arrives_J195 sf10 v10_4)
  else (tw_bd (gw_gr 0 4 a0) fun x36 =>
  tw_bd (gw_gr 1 1 x36) fun x39 =>
  tw_bd (gw_lr 5 x39 v10_4) fun x42 =>
  tw_bd (gw_on 9 x42 (fx_X10_isLast x42 a2)) fun x45 =>
  if x45 = 0 then (tw_bd (gw_gr 0 7 a0) fun x48 =>
  tw_bd (gw_gr 0 6 a0) fun x51 =>
  tw_bd (gw_ld 0 x51 (((8 : Int32) * a2) + v10_4)) fun x54 =>
  tw_bd (gw_gi 3 3 x4) fun x57 =>
  tw_bd (gw_on 3 x4 (fx_X4_queue x4)) fun x60 =>
    tw_bd (gw_st x48 (((8 : Int32) * a2) + v10_4) (if (if (0 : Int32) < (x57 - x60) then (x57 - x60) else (0 : Int32)) < x54 then (if (0 : Int32) < (x57 - x60) then (x57 - x60) else (0 : Int32)) else x54)) fun _ =>
  tw_bd (gw_gr 3 0 x4) fun x66 =>
  tw_bd (gw_ld 0 x66 v10_4) fun x69 =>
  tw_bd (gw_gr 0 7 a0) fun x72 =>
  tw_bd (gw_ld 0 x72 (((8 : Int32) * a2) + v10_4)) fun x75 =>
  tw_bd (gw_st x66 v10_4 (x69 + x75)) fun _ =>
  tw_bd (gw_gi 3 5 x4) fun x81 =>
  tw_bd (gw_gr 0 6 a0) fun x84 =>
  tw_bd (gw_ld 0 x84 (((8 : Int32) * a2) + v10_4)) fun x87 =>
  tw_bd (gw_gr 0 7 a0) fun x90 =>
  tw_bd (gw_ld 0 x90 (((8 : Int32) * a2) + v10_4)) fun x93 =>
  tw_bd (gw_pi 3 5 x4 (x81 + (x87 - x93))) fun _ =>
  tw_bd (gw_gr 2 3 a1) fun x99 =>
  tw_bd (gw_lr 7 x99 v10_4) fun x102 =>
  tw_bd (gw_gi 4 5 x102) fun x105 =>
  tw_bd (gw_gr 0 6 a0) fun x108 =>
  tw_bd (gw_ld 0 x108 (((8 : Int32) * a2) + v10_4)) fun x111 =>
  tw_bd (gw_gr 0 7 a0) fun x114 =>
  tw_bd (gw_ld 0 x114 (((8 : Int32) * a2) + v10_4)) fun x117 =>
  tw_bd (gw_pi 4 5 x102 (x105 + (x111 - x117))) fun _ =>
 
  fx_X1_arrives_J195 sf10 v10_4)
  else (tw_bd (gw_gr 2 3 a1) fun x123 =>
  tw_bd (gw_lr 7 x123 v10_4) fun x126 =>
  tw_bd (gw_gi 4 3 x126) fun x129 =>
  tw_bd (gw_gr 0 6 a0) fun x132 =>
  tw_bd (gw_ld 0 x132 (((8 : Int32) * a2) + v10_4)) fun x135 =>
  tw_bd (gw_pi 4 3 x126 (x129 + x135)) fun _ =>
 
  fx_X1_arrives_J195 sf10 v10_4)))
def fx_X1_arrives (a0 : Nat) (a1 : Nat) (a2 : Int32) : HM Unit :=
  tw_bd (gw_gr 2 2 a1) fun x1 =>
  tw_bd (gw_lr 6 x1 a2) fun x4 =>
 
  tw_lp (fx_X1_arrives_L10 a0 x4 a2 a1) (fun _ _ => none) tw_fu (0 : Int32)
theorem hdX1_arrives : yX1_arrives.cls = "LosslessFabric" ∧ (yX1_arrives.cls ≠ "java/lang/invoke/MethodHandle" ∧ yX1_arrives.cls ≠ "java/lang/invoke/VarHandle" ∧ (parseMethodDescriptor yX1_arrives.desc).map (fun d => d.parameters.length) = some 2) := by decide +kernel
set_option maxHeartbeats 4000000 in
theorem mx_X1_arrives {l : Launch} {K : GK} (hA : gw_A K) (a0 : Nat) (a1 : Nat) (a2 : Int32) (t0 tZ : Hp) (r : Unit) (hf : fx_X1_arrives a0 a1 a2 t0 = some (r, tZ)) : Met l yX1_arrives (ws_ yX1_arrives cX1_arrives 6 (none)) ({ frames := 3, cells := 0, slots := 0, locals := 37 }) (va_Pc [.ref a0, .ref a1, .int a2] (gw_W K t0)) (gw_Qv K tZ) 0 0 K.2.2.2.1 := by
  refine Met.ofW (cc := cX1_arrives) (maxL := 6) (ret := none) (by decide) rfl ?_
  intro p e s m args below meth c s₁ B hml hv
  obtain ⟨rfl, hP, hK, hX, hN, hL⟩ := hv
  have hx := B.exec
  have hb := B.bytes
  have hr := B.returns
  have hts := atoms_spec (ws := (ws_ yX1_arrives cX1_arrives 6 (none))) B.pre
  have hts : ∀ w ∈ lw_all, w.before _ s = true := fun w h => hts w (List.mem_cons_of_mem _ h)
  have hown : s.vm.findClass "LosslessFabric" = some m.cls := findClass_of_methodNamed B.named
  have hlk := B.notSynchronized
  have C : gw_C K "LosslessFabric" p s m _ c cX1_arrives := ⟨hx, hb, hts, hown, hK, hA, hX, hN, hL⟩
  have hS : va_S K.2.2.2.1 s.heap s.heap [] := va_S.rf
  have hl := lv_entry ([.ref a0, .ref a1, .int a2]) (n := 6) (Nat.le_of_ble_eq_true rfl)
  rw [lg_entry_eq]
  generalize (lg_sl ([.ref a0, .ref a1, .int a2]) ++ List.replicate (6 - (lg_sl ([.ref a0, .ref a1, .int a2])).length) Slot.unset).toArray = ls at hl ⊢
  have hl : lv_has ls 6 [(0, .ref a0), (1, .ref a1), (2, .int a2)] := hl
  unfold fx_X1_arrives at hf
  refine lv_aload_n hx hb dX1_arrives_0 rfl (lv_at hl 1 rfl) ?_
  obtain ⟨x1, t2, e3, hf⟩ := tw_bdE hf
  refine gw_rgetN (ci := 2) (k := 2) (T := TX3) C hP rfl in_X3 (by decide) e3 q355 rfl dX1_arrives_1 (fun hP => ?_)
  refine lv_iload_n hx hb dX1_arrives_4 rfl (lv_at hl 2 rfl) ?_
  obtain ⟨x4, t5, e6, hf⟩ := tw_bdE hf
  refine gw_aald C hP rfl e6 dX1_arrives_5 (fun hP => ?_)
  refine lv_astore_n (lv' := [(3, .ref x4), (0, .ref a0), (1, .ref a1), (2, .int a2)]) hx hb dX1_arrives_6 rfl hl (by decide) rfl (fun ls hl => ?_)
  refine lv_iconst (v := (0 : Int32)) hx hb dX1_arrives_7 (by decide) ?_
  refine lv_istore (lv' := [(4, .int (0 : Int32)), (3, .ref x4), (0, .ref a0), (1, .ref a1), (2, .int a2)]) hx hb dX1_arrives_8 hl (by decide) rfl (fun ls hl => ?_)
  have k10 : ∀ (n : Nat) (v10_4 : Int32) (t7 : Hp) (H : Heap) (locs : List Loc) (ls : Array Slot), gw_P K t7 H → va_S K.2.2.2.1 s.heap H locs → lv_has ls 6 [(0, .ref a0), (1, .ref a1), (2, .int a2), (3, .ref x4), (4, .int v10_4)] → tw_lp (fx_X1_arrives_L10 a0 x4 a2 a1) (fun _ _ => none) n v10_4 t7 = some (r, tZ) → W p l e (headSpec (ws_ yX1_arrives cX1_arrives 6 (none)) ({ frames := 3, cells := 0, slots := 0, locals := 37 })).room s m ([.ref a0, .ref a1, .int a2] : List Value).toArray below meth c H locs 0 0 (MQ below (gw_Qv K tZ) ([.ref a0, .ref a1, .int a2] : List Value).toArray s 0 0 K.2.2.2.1) (F0 m 10 ls []) := by
    intro n
    induction n with
    | zero => intro v10_4 t7 H locs ls hP hS hl hf; exact (tw_no hf).elim
    | succ n ih10 =>
      intro v10_4 t7 H locs ls hP hS hl hf
      obtain ⟨sf10, hs10⟩ : ∃ f, f = tw_lp (fx_X1_arrives_L10 a0 x4 a2 a1) (fun _ _ => none) n := ⟨_, rfl⟩
      rw [← hs10] at ih10
      have hf : fx_X1_arrives_L10 a0 x4 a2 a1 sf10 v10_4 t7 = some (r, tZ) := by rw [hs10]; exact hf
      clear hs10
      unfold fx_X1_arrives_L10 at hf
      refine lv_iload hx hb dX1_arrives_10 (lv_at hl 4 rfl) ?_
      refine lv_aload_n hx hb dX1_arrives_12 rfl (lv_at hl 0 rfl) ?_
      obtain ⟨x8, t9, e10, hf⟩ := tw_bdE hf
      refine gw_rget (ci := 0) (k := 4) (T := TX1) C hP rfl in_X1 (by decide) e10 q394 rfl dX1_arrives_13 (fun hP => ?_)
      obtain ⟨x11, t12, e13, hf⟩ := tw_bdE hf
      refine gw_igetN (ci := 1) (k := 3) (T := TX2) C hP rfl in_X2 (by decide) e13 q165 rfl dX1_arrives_16 (fun hP => ?_)
      refine lv_icmp_ge (tgt := 201) hx hb dX1_arrives_19 (by decide) (fun hc => ?_) (fun hc => ?_)
      · have hf := tw_ifT hc hf
        refine lv_aload_n hx hb dX1_arrives_201 rfl (lv_at hl 3 rfl) ?_
        refine lv_aload_n hx hb dX1_arrives_202 rfl (lv_at hl 3 rfl) ?_
        obtain ⟨x14, t15, e16, hf⟩ := tw_bdE hf
        refine gw_igetN (ci := 3) (k := 6) (T := TX4) C hP rfl in_X4 (by decide) e16 q253 rfl dX1_arrives_203 (fun hP => ?_)
        refine lv_aload_n hx hb dX1_arrives_206 rfl (lv_at hl 3 rfl) ?_
        obtain ⟨x17, t18, e19, hf⟩ := tw_bdE hf
        refine gw_cVi (As := []) (rest := [.int x14, .ref x4]) (ci := 3) (T := TX4) (N := 12) C hml hP hS rfl (gw_onE e19).1 (mx_X4_queue (l := l) (K := K) hA _ _ _ _ (gw_onE e19).2) (cwV 0 hts (lw_V q883 q884 q885 q104 q886) rfl rfl rfl hdX4_queue ⟨Nat.le_of_ble_eq_true rfl, Nat.le_of_ble_eq_true rfl⟩) rfl hl.1 rfl (Nat.le_of_ble_eq_true rfl) (Nat.zero_le _) (Nat.zero_le _) dX1_arrives_207 (fun H locs hP hS => ?_)
        refine va_mmax (rest := [.ref x4]) hx hb (hml.trans hl.1.symm) hown (hts _ q887) (hts _ q521) (hts _ q110) (hts _ q522) (Nat.le_of_ble_eq_true rfl) (Nat.le_of_ble_eq_true rfl) (Nat.zero_le _) (Nat.zero_le _) dX1_arrives_210 ?_
        obtain ⟨x20, t21, e22, hf⟩ := tw_bdE hf
        refine gw_vputN (ci := 3) (k := 6) (T := TX4) C hP hS rfl in_X4 tyX4 tyX4_ok nmX4 (by decide) e22 q253 rfl rfl (vp_nar_int _) rfl dX1_arrives_213 (fun H locs hP hS => ?_)
        exact gw_iretv (tw_rtE hf).2 rfl rfl C hr hP hS hlk dX1_arrives_216
      · have hf := tw_ifF hc hf
        refine lv_bipush (v := (8 : Int32)) hx hb dX1_arrives_22 (by decide) ?_
        refine lv_iload_n hx hb dX1_arrives_24 rfl (lv_at hl 2 rfl) ?_
        refine lv_imul hx hb dX1_arrives_25 ?_
        refine lv_iload hx hb dX1_arrives_26 (lv_at hl 4 rfl) ?_
        refine lv_iadd hx hb dX1_arrives_28 ?_
        refine lv_istore (lv' := [(5, .int (((8 : Int32) * a2) + v10_4)), (0, .ref a0), (1, .ref a1), (2, .int a2), (3, .ref x4), (4, .int v10_4)]) hx hb dX1_arrives_29 hl (by decide) rfl (fun ls hl => ?_)
        refine lv_aload_n hx hb dX1_arrives_31 rfl (lv_at hl 1 rfl) ?_
        obtain ⟨x23, t24, e25, hf⟩ := tw_bdE hf
        refine gw_rget (ci := 0) (k := 7) (T := TX1) C hP rfl in_X1 (by decide) e25 q399 rfl dX1_arrives_32 (fun hP => ?_)
        refine lv_iload hx hb dX1_arrives_35 (lv_at hl 0 rfl) ?_
        refine lv_iconst (v := (0 : Int32)) hx hb dX1_arrives_37 (by decide) ?_
        obtain ⟨x26, t27, e28, hf⟩ := tw_bdE hf
        refine gw_iast C hP hS e28 dX1_arrives_38 (fun H locs hP hS => ?_)
        refine lv_aload_n hx hb dX1_arrives_39 rfl (lv_at hl 1 rfl) ?_
        obtain ⟨x29, t30, e31, hf⟩ := tw_bdE hf
        refine gw_rget (ci := 0) (k := 6) (T := TX1) C hP rfl in_X1 (by decide) e31 q398 rfl dX1_arrives_40 (fun hP => ?_)
        refine lv_iload hx hb dX1_arrives_43 (lv_at hl 0 rfl) ?_
        obtain ⟨x32, t33, e34, hf⟩ := tw_bdE hf
        refine gw_iald C hP e34 dX1_arrives_45 (fun hP => ?_)
        have k195 : ∀  (t35 : Hp) (H : Heap) (locs : List Loc) (ls : Array Slot), gw_P K t35 H → va_S K.2.2.2.1 s.heap H locs → lv_has ls 6 [(0, .ref a0), (1, .ref a1), (2, .int a2), (3, .ref x4), (4, .int v10_4)] → fx_X1_arrives_J195 sf10 v10_4  t35 = some (r, tZ) → W p l e (headSpec (ws_ yX1_arrives cX1_arrives 6 (none)) ({ frames := 3, cells := 0, slots := 0, locals := 37 })).room s m ([.ref a0, .ref a1, .int a2] : List Value).toArray below meth c H locs 0 0 (MQ below (gw_Qv K tZ) ([.ref a0, .ref a1, .int a2] : List Value).toArray s 0 0 K.2.2.2.1) (F0 m 195 ls []) := by
          intro t35 H locs ls hP hS hl hf
          unfold fx_X1_arrives_J195 at hf
          refine lv_iinc (v := (v10_4 + (1 : Int32))) (lv' := [(4, .int (v10_4 + (1 : Int32))), (0, .ref a0), (1, .ref a1), (2, .int a2), (3, .ref x4)]) hx hb dX1_arrives_195 hl (k := 4) rfl rfl (by decide) rfl (fun ls hl => ?_)
          refine lv_goto (tgt := 10) hx hb dX1_arrives_198 (by decide) ?_
          exact ih10 _ _ _ _ _ hP hS (lv_sub hl [1, 2, 3, 4, 0] rfl) hf
        refine lv_if_ne (tgt := 52) hx hb dX1_arrives_46 (by decide) (fun hc => ?_) (fun hc => ?_)
        · have hf := tw_ifF hc hf
          refine lv_aload_n hx hb dX1_arrives_52 rfl (lv_at hl 1 rfl) ?_
          obtain ⟨x36, t37, e38, hf⟩ := tw_bdE hf
          refine gw_rget (ci := 0) (k := 4) (T := TX1) C hP rfl in_X1 (by decide) e38 q394 rfl dX1_arrives_53 (fun hP => ?_)
          obtain ⟨x39, t40, e41, hf⟩ := tw_bdE hf
          refine gw_rgetN (ci := 1) (k := 1) (T := TX2) C hP rfl in_X2 (by decide) e41 q154 rfl dX1_arrives_56 (fun hP => ?_)
          refine lv_iload hx hb dX1_arrives_59 (lv_at hl 5 rfl) ?_
          obtain ⟨x42, t43, e44, hf⟩ := tw_bdE hf
          refine gw_aald C hP rfl e44 dX1_arrives_61 (fun hP => ?_)
          refine lv_iload_n hx hb dX1_arrives_62 rfl (lv_at hl 3 rfl) ?_
          obtain ⟨x45, t46, e47, hf⟩ := tw_bdE hf
          refine gw_cVi (As := [.int a2]) (rest := []) (ci := 9) (T := TX10) (N := 5) C hml hP hS rfl (gw_onE e47).1 (mx_X10_isLast (l := l) (K := K) hA _ _ _ _ _ (gw_onE e47).2) (cwV 1 hts (lw_V q879 q880 q881 q118 q882) rfl rfl rfl hdX10_isLast ⟨Nat.le_of_ble_eq_true rfl, Nat.le_of_ble_eq_true rfl⟩) rfl hl.1 rfl (Nat.le_of_ble_eq_true rfl) (Nat.zero_le _) (Nat.zero_le _) dX1_arrives_63 (fun H locs hP hS => ?_)
          refine lv_if_eq (tgt := 94) hx hb dX1_arrives_66 (by decide) (fun hc => ?_) (fun hc => ?_)
          · have hf := tw_ifT hc hf
            refine lv_aload_n hx hb dX1_arrives_94 rfl (lv_at hl 1 rfl) ?_
            obtain ⟨x48, t49, e50, hf⟩ := tw_bdE hf
            refine gw_rget (ci := 0) (k := 7) (T := TX1) C hP rfl in_X1 (by decide) e50 q399 rfl dX1_arrives_95 (fun hP => ?_)
            refine lv_iload hx hb dX1_arrives_98 (lv_at hl 0 rfl) ?_
            refine lv_aload_n hx hb dX1_arrives_100 rfl (lv_at hl 1 rfl) ?_
            obtain ⟨x51, t52, e53, hf⟩ := tw_bdE hf
            refine gw_rget (ci := 0) (k := 6) (T := TX1) C hP rfl in_X1 (by decide) e53 q398 rfl dX1_arrives_101 (fun hP => ?_)
            refine lv_iload hx hb dX1_arrives_104 (lv_at hl 0 rfl) ?_
            obtain ⟨x54, t55, e56, hf⟩ := tw_bdE hf
            refine gw_iald C hP e56 dX1_arrives_106 (fun hP => ?_)
            refine lv_iconst (v := (0 : Int32)) hx hb dX1_arrives_107 (by decide) ?_
            refine lv_aload_n hx hb dX1_arrives_108 rfl (lv_at hl 4 rfl) ?_
            obtain ⟨x57, t58, e59, hf⟩ := tw_bdE hf
            refine gw_igetN (ci := 3) (k := 3) (T := TX4) C hP rfl in_X4 (by decide) e59 q246 rfl dX1_arrives_109 (fun hP => ?_)
            refine lv_aload_n hx hb dX1_arrives_112 rfl (lv_at hl 4 rfl) ?_
            obtain ⟨x60, t61, e62, hf⟩ := tw_bdE hf
            refine gw_cVi (As := []) (rest := [.int x57, .int (0 : Int32), .int x54, .int (((8 : Int32) * a2) + v10_4), .ref x48]) (ci := 3) (T := TX4) (N := 12) C hml hP hS rfl (gw_onE e62).1 (mx_X4_queue (l := l) (K := K) hA _ _ _ _ (gw_onE e62).2) (cwV 0 hts (lw_V q883 q884 q885 q104 q886) rfl rfl rfl hdX4_queue ⟨Nat.le_of_ble_eq_true rfl, Nat.le_of_ble_eq_true rfl⟩) rfl hl.1 rfl (Nat.le_of_ble_eq_true rfl) (Nat.zero_le _) (Nat.zero_le _) dX1_arrives_113 (fun H locs hP hS => ?_)
            refine lv_isub hx hb dX1_arrives_116 ?_
            refine va_mmax (rest := [.int x54, .int (((8 : Int32) * a2) + v10_4), .ref x48]) hx hb (hml.trans hl.1.symm) hown (hts _ q887) (hts _ q521) (hts _ q110) (hts _ q522) (Nat.le_of_ble_eq_true rfl) (Nat.le_of_ble_eq_true rfl) (Nat.zero_le _) (Nat.zero_le _) dX1_arrives_117 ?_
            refine va_mmin (rest := [.int (((8 : Int32) * a2) + v10_4), .ref x48]) hx hb (hml.trans hl.1.symm) hown (hts _ q856) (hts _ q524) (hts _ q110) (hts _ q525) (Nat.le_of_ble_eq_true rfl) (Nat.le_of_ble_eq_true rfl) (Nat.zero_le _) (Nat.zero_le _) dX1_arrives_120 ?_
            obtain ⟨x63, t64, e65, hf⟩ := tw_bdE hf
            refine gw_iast C hP hS e65 dX1_arrives_123 (fun H locs hP hS => ?_)
            refine lv_aload_n hx hb dX1_arrives_124 rfl (lv_at hl 4 rfl) ?_
            obtain ⟨x66, t67, e68, hf⟩ := tw_bdE hf
            refine gw_rgetN (ci := 3) (k := 0) (T := TX4) C hP rfl in_X4 (by decide) e68 q240 rfl dX1_arrives_125 (fun hP => ?_)
            refine lv_iload hx hb dX1_arrives_128 (lv_at hl 5 rfl) ?_
            refine lv_dup2_11 hx hb dX1_arrives_130 rfl rfl ?_
            obtain ⟨x69, t70, e71, hf⟩ := tw_bdE hf
            refine gw_iald C hP e71 dX1_arrives_131 (fun hP => ?_)
            refine lv_aload_n hx hb dX1_arrives_132 rfl (lv_at hl 1 rfl) ?_
            obtain ⟨x72, t73, e74, hf⟩ := tw_bdE hf
            refine gw_rget (ci := 0) (k := 7) (T := TX1) C hP rfl in_X1 (by decide) e74 q399 rfl dX1_arrives_133 (fun hP => ?_)
            refine lv_iload hx hb dX1_arrives_136 (lv_at hl 0 rfl) ?_
            obtain ⟨x75, t76, e77, hf⟩ := tw_bdE hf
            refine gw_iald C hP e77 dX1_arrives_138 (fun hP => ?_)
            refine lv_iadd hx hb dX1_arrives_139 ?_
            obtain ⟨x78, t79, e80, hf⟩ := tw_bdE hf
            refine gw_iast C hP hS e80 dX1_arrives_140 (fun H locs hP hS => ?_)
            refine lv_aload_n hx hb dX1_arrives_141 rfl (lv_at hl 4 rfl) ?_
            refine lv_dup hx hb dX1_arrives_142 rfl ?_
            obtain ⟨x81, t82, e83, hf⟩ := tw_bdE hf
            refine gw_igetN (ci := 3) (k := 5) (T := TX4) C hP rfl in_X4 (by decide) e83 q251 rfl dX1_arrives_143 (fun hP => ?_)
            refine lv_aload_n hx hb dX1_arrives_146 rfl (lv_at hl 1 rfl) ?_
            obtain ⟨x84, t85, e86, hf⟩ := tw_bdE hf
            refine gw_rget (ci := 0) (k := 6) (T := TX1) C hP rfl in_X1 (by decide) e86 q398 rfl dX1_arrives_147 (fun hP => ?_)
            refine lv_iload hx hb dX1_arrives_150 (lv_at hl 0 rfl) ?_
            obtain ⟨x87, t88, e89, hf⟩ := tw_bdE hf
            refine gw_iald C hP e89 dX1_arrives_152 (fun hP => ?_)
            refine lv_aload_n hx hb dX1_arrives_153 rfl (lv_at hl 1 rfl) ?_
            obtain ⟨x90, t91, e92, hf⟩ := tw_bdE hf
            refine gw_rget (ci := 0) (k := 7) (T := TX1) C hP rfl in_X1 (by decide) e92 q399 rfl dX1_arrives_154 (fun hP => ?_)
            refine lv_iload hx hb dX1_arrives_157 (lv_at hl 0 rfl) ?_
            obtain ⟨x93, t94, e95, hf⟩ := tw_bdE hf
            refine gw_iald C hP e95 dX1_arrives_159 (fun hP => ?_)
            refine lv_isub hx hb dX1_arrives_160 ?_
            refine lv_iadd hx hb dX1_arrives_161 ?_
            obtain ⟨x96, t97, e98, hf⟩ := tw_bdE hf
            refine gw_vputN (ci := 3) (k := 5) (T := TX4) C hP hS rfl in_X4 tyX4 tyX4_ok nmX4 (by decide) e98 q251 rfl rfl (vp_nar_int _) rfl dX1_arrives_162 (fun H locs hP hS => ?_)
            refine lv_aload_n hx hb dX1_arrives_165 rfl (lv_at hl 2 rfl) ?_
            obtain ⟨x99, t100, e101, hf⟩ := tw_bdE hf
            refine gw_rgetN (ci := 2) (k := 3) (T := TX3) C hP rfl in_X3 (by decide) e101 q358 rfl dX1_arrives_166 (fun hP => ?_)
            refine lv_iload hx hb dX1_arrives_169 (lv_at hl 5 rfl) ?_
            obtain ⟨x102, t103, e104, hf⟩ := tw_bdE hf
            refine gw_aald C hP rfl e104 dX1_arrives_171 (fun hP => ?_)
            refine lv_dup hx hb dX1_arrives_172 rfl ?_
            obtain ⟨x105, t106, e107, hf⟩ := tw_bdE hf
            refine gw_igetN (ci := 4) (k := 5) (T := TX5) C hP rfl in_X5 (by decide) e107 q311 rfl dX1_arrives_173 (fun hP => ?_)
            refine lv_aload_n hx hb dX1_arrives_176 rfl (lv_at hl 1 rfl) ?_
            obtain ⟨x108, t109, e110, hf⟩ := tw_bdE hf
            refine gw_rget (ci := 0) (k := 6) (T := TX1) C hP rfl in_X1 (by decide) e110 q398 rfl dX1_arrives_177 (fun hP => ?_)
            refine lv_iload hx hb dX1_arrives_180 (lv_at hl 0 rfl) ?_
            obtain ⟨x111, t112, e113, hf⟩ := tw_bdE hf
            refine gw_iald C hP e113 dX1_arrives_182 (fun hP => ?_)
            refine lv_aload_n hx hb dX1_arrives_183 rfl (lv_at hl 1 rfl) ?_
            obtain ⟨x114, t115, e116, hf⟩ := tw_bdE hf
            refine gw_rget (ci := 0) (k := 7) (T := TX1) C hP rfl in_X1 (by decide) e116 q399 rfl dX1_arrives_184 (fun hP => ?_)
            refine lv_iload hx hb dX1_arrives_187 (lv_at hl 0 rfl) ?_
            obtain ⟨x117, t118, e119, hf⟩ := tw_bdE hf
            refine gw_iald C hP e119 dX1_arrives_189 (fun hP => ?_)
            refine lv_isub hx hb dX1_arrives_190 ?_
            refine lv_iadd hx hb dX1_arrives_191 ?_
            obtain ⟨x120, t121, e122, hf⟩ := tw_bdE hf
            refine gw_vputN (ci := 4) (k := 5) (T := TX5) C hP hS rfl in_X5 tyX5 tyX5_ok nmX5 (by decide) e122 q311 rfl rfl (vp_nar_int _) rfl dX1_arrives_192 (fun H locs hP hS => ?_)
            exact k195 _ _ _ _ hP hS (lv_sub hl [1, 2, 3, 4, 5] rfl) hf
          · have hf := tw_ifF hc hf
            refine lv_aload_n hx hb dX1_arrives_69 rfl (lv_at hl 2 rfl) ?_
            obtain ⟨x123, t124, e125, hf⟩ := tw_bdE hf
            refine gw_rgetN (ci := 2) (k := 3) (T := TX3) C hP rfl in_X3 (by decide) e125 q358 rfl dX1_arrives_70 (fun hP => ?_)
            refine lv_iload hx hb dX1_arrives_73 (lv_at hl 5 rfl) ?_
            obtain ⟨x126, t127, e128, hf⟩ := tw_bdE hf
            refine gw_aald C hP rfl e128 dX1_arrives_75 (fun hP => ?_)
            refine lv_dup hx hb dX1_arrives_76 rfl ?_
            obtain ⟨x129, t130, e131, hf⟩ := tw_bdE hf
            refine gw_igetN (ci := 4) (k := 3) (T := TX5) C hP rfl in_X5 (by decide) e131 q305 rfl dX1_arrives_77 (fun hP => ?_)
            refine lv_aload_n hx hb dX1_arrives_80 rfl (lv_at hl 1 rfl) ?_
            obtain ⟨x132, t133, e134, hf⟩ := tw_bdE hf
            refine gw_rget (ci := 0) (k := 6) (T := TX1) C hP rfl in_X1 (by decide) e134 q398 rfl dX1_arrives_81 (fun hP => ?_)
            refine lv_iload hx hb dX1_arrives_84 (lv_at hl 0 rfl) ?_
            obtain ⟨x135, t136, e137, hf⟩ := tw_bdE hf
            refine gw_iald C hP e137 dX1_arrives_86 (fun hP => ?_)
            refine lv_iadd hx hb dX1_arrives_87 ?_
            obtain ⟨x138, t139, e140, hf⟩ := tw_bdE hf
            refine gw_vputN (ci := 4) (k := 3) (T := TX5) C hP hS rfl in_X5 tyX5 tyX5_ok nmX5 (by decide) e140 q305 rfl rfl (vp_nar_int _) rfl dX1_arrives_88 (fun H locs hP hS => ?_)
            refine lv_goto (tgt := 195) hx hb dX1_arrives_91 (by decide) ?_
            exact k195 _ _ _ _ hP hS (lv_sub hl [1, 2, 3, 4, 5] rfl) hf
        · have hf := tw_ifT hc hf
          refine lv_goto (tgt := 195) hx hb dX1_arrives_49 (by decide) ?_
          exact k195 _ _ _ _ hP hS (lv_sub hl [1, 2, 3, 4, 5] rfl) hf
  exact k10 _ _ _ _ _ _ hP hS (lv_sub hl [2, 3, 4, 1, 0] rfl) hf
def fx_X10_at_L2 (a0 : Nat) (a1 : Int32) (sf2 : Int32 → HM Int32) (v2_2 : Int32) : HM Int32 :=
  tw_bd (gw_gi 9 3 a0) fun x2 =>
  if x2 ≤ v2_2 then (tw_rt (-1 : Int32))
  else (tw_bd (gw_gr 9 2 a0) fun x5 =>
  tw_bd (gw_ld 0 x5 v2_2) fun x8 =>
  if x8 = a1 then (tw_rt v2_2)
  else (sf2 (v2_2 + (1 : Int32))))
def fx_X10_at (a0 : Nat) (a1 : Int32) : HM Int32 :=
  tw_lp (fx_X10_at_L2 a0 a1) (fun _ _ => none) tw_fu (0 : Int32)
theorem hdX10_at : yX10_at.cls = "LosslessFabric$Flow" ∧ (yX10_at.cls ≠ "java/lang/invoke/MethodHandle" ∧ yX10_at.cls ≠ "java/lang/invoke/VarHandle" ∧ (parseMethodDescriptor yX10_at.desc).map (fun d => d.parameters.length) = some 1) := by decide +kernel
set_option maxHeartbeats 4000000 in
theorem mx_X10_at {l : Launch} {K : GK} (hA : gw_A K) (a0 : Nat) (a1 : Int32) (t0 tZ : Hp) (r : Int32) (hf : fx_X10_at a0 a1 t0 = some (r, tZ)) : Met l yX10_at (ws_ yX10_at cX10_at 3 (some (.int))) ({ frames := 2, cells := 0, slots := 0, locals := 12 }) (va_Pc [.ref a0, .int a1] (gw_W K t0)) (gw_Qi K r tZ) 0 0 K.2.2.2.1 := by
  refine Met.ofW (cc := cX10_at) (maxL := 3) (ret := some (.int)) (by decide) rfl ?_
  intro p e s m args below meth c s₁ B hml hv
  obtain ⟨rfl, hP, hK, hX, hN, hL⟩ := hv
  have hx := B.exec
  have hb := B.bytes
  have hr := B.returns
  have hts := atoms_spec (ws := (ws_ yX10_at cX10_at 3 (some (.int)))) B.pre
  have hts : ∀ w ∈ lw_all, w.before _ s = true := fun w h => hts w (List.mem_cons_of_mem _ h)
  have hown : s.vm.findClass "LosslessFabric$Flow" = some m.cls := findClass_of_methodNamed B.named
  have hlk := B.notSynchronized
  have C : gw_C K "LosslessFabric$Flow" p s m _ c cX10_at := ⟨hx, hb, hts, hown, hK, hA, hX, hN, hL⟩
  have hS : va_S K.2.2.2.1 s.heap s.heap [] := va_S.rf
  have hl := lv_entry ([.ref a0, .int a1]) (n := 3) (Nat.le_of_ble_eq_true rfl)
  rw [lg_entry_eq]
  generalize (lg_sl ([.ref a0, .int a1]) ++ List.replicate (3 - (lg_sl ([.ref a0, .int a1])).length) Slot.unset).toArray = ls at hl ⊢
  have hl : lv_has ls 3 [(0, .ref a0), (1, .int a1)] := hl
  unfold fx_X10_at at hf
  refine lv_iconst (v := (0 : Int32)) hx hb dX10_at_0 (by decide) ?_
  refine lv_istore_n (lv' := [(2, .int (0 : Int32)), (0, .ref a0), (1, .int a1)]) hx hb dX10_at_1 rfl hl (by decide) rfl (fun ls hl => ?_)
  have k2 : ∀ (n : Nat) (v2_2 : Int32) (t1 : Hp) (H : Heap) (locs : List Loc) (ls : Array Slot), gw_P K t1 H → va_S K.2.2.2.1 s.heap H locs → lv_has ls 3 [(0, .ref a0), (1, .int a1), (2, .int v2_2)] → tw_lp (fx_X10_at_L2 a0 a1) (fun _ _ => none) n v2_2 t1 = some (r, tZ) → W p l e (headSpec (ws_ yX10_at cX10_at 3 (some (.int))) ({ frames := 2, cells := 0, slots := 0, locals := 12 })).room s m ([.ref a0, .int a1] : List Value).toArray below meth c H locs 0 0 (MQ below (gw_Qi K r tZ) ([.ref a0, .int a1] : List Value).toArray s 0 0 K.2.2.2.1) (F0 m 2 ls []) := by
    intro n
    induction n with
    | zero => intro v2_2 t1 H locs ls hP hS hl hf; exact (tw_no hf).elim
    | succ n ih2 =>
      intro v2_2 t1 H locs ls hP hS hl hf
      obtain ⟨sf2, hs2⟩ : ∃ f, f = tw_lp (fx_X10_at_L2 a0 a1) (fun _ _ => none) n := ⟨_, rfl⟩
      rw [← hs2] at ih2
      have hf : fx_X10_at_L2 a0 a1 sf2 v2_2 t1 = some (r, tZ) := by rw [hs2]; exact hf
      clear hs2
      unfold fx_X10_at_L2 at hf
      refine lv_iload_n hx hb dX10_at_2 rfl (lv_at hl 2 rfl) ?_
      refine lv_aload_n hx hb dX10_at_3 rfl (lv_at hl 0 rfl) ?_
      obtain ⟨x2, t3, e4, hf⟩ := tw_bdE hf
      refine gw_iget (ci := 9) (k := 3) (T := TX10) C hP rfl in_X10 (by decide) e4 q780 rfl dX10_at_4 (fun hP => ?_)
      refine lv_icmp_ge (tgt := 28) hx hb dX10_at_7 (by decide) (fun hc => ?_) (fun hc => ?_)
      · have hf := tw_ifT hc hf
        refine lv_iconst (v := (-1 : Int32)) hx hb dX10_at_28 (by decide) ?_
        exact gw_ireti (tw_rtE hf).1 (tw_rtE hf).2 rfl rfl C hr hP hS hlk dX10_at_29
      · have hf := tw_ifF hc hf
        refine lv_aload_n hx hb dX10_at_10 rfl (lv_at hl 0 rfl) ?_
        obtain ⟨x5, t6, e7, hf⟩ := tw_bdE hf
        refine gw_rget (ci := 9) (k := 2) (T := TX10) C hP rfl in_X10 (by decide) e7 q776 rfl dX10_at_11 (fun hP => ?_)
        refine lv_iload_n hx hb dX10_at_14 rfl (lv_at hl 2 rfl) ?_
        obtain ⟨x8, t9, e10, hf⟩ := tw_bdE hf
        refine gw_iald C hP e10 dX10_at_15 (fun hP => ?_)
        refine lv_iload_n hx hb dX10_at_16 rfl (lv_at hl 1 rfl) ?_
        refine lv_icmp_ne (tgt := 22) hx hb dX10_at_17 (by decide) (fun hc => ?_) (fun hc => ?_)
        · have hf := tw_ifF hc hf
          refine lv_iinc (v := (v2_2 + (1 : Int32))) (lv' := [(2, .int (v2_2 + (1 : Int32))), (0, .ref a0), (1, .int a1)]) hx hb dX10_at_22 hl (k := 2) rfl rfl (by decide) rfl (fun ls hl => ?_)
          refine lv_goto (tgt := 2) hx hb dX10_at_25 (by decide) ?_
          exact ih2 _ _ _ _ _ hP hS (lv_sub hl [1, 2, 0] rfl) hf
        · have hf := tw_ifT hc hf
          refine lv_iload_n hx hb dX10_at_20 rfl (lv_at hl 2 rfl) ?_
          exact gw_ireti (tw_rtE hf).1 (tw_rtE hf).2 rfl rfl C hr hP hS hlk dX10_at_21
  exact k2 _ _ _ _ _ _ hP hS (lv_sub hl [1, 2, 0] rfl) hf