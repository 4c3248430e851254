def fx_X1_flow_J135  (w135_0 : Int32) : gM Int32 :=
  gw_rc w135_0
def fx_X1_flow (a0 : Nat) (a1 : Int32) (a2 : Int32) : gM Int32 :=
  gw_bc (gw_on 0 a0 (fx_X1_isFlow a0 a1)) fun x1 =>
  if x1 = 0 then (gw_rc (-1 : Int32))
  else (gw_b0 (gw_gr 0 11 a0) fun x4 =>
  gw_b0 (gw_gr 2 3 x4) fun x7 =>
  gw_b0 (gw_lr 7 x7 a1) fun x10 =>
  if a2 = (0 : Int32) then (gw_b0 (gw_gi 4 0 x10) fun x14 =>
  gw_rc x14)
  else if a2 = (1 : Int32) then (gw_b0 (gw_gi 4 1 x10) fun x18 =>
  gw_rc x18)
  else if a2 = (2 : Int32) then (gw_b0 (gw_gr 4 10 x10) fun x22 =>
  gw_b0 (gw_ld 0 x22 (0 : Int32)) fun x25 =>
  gw_rc x25)
  else if a2 = (3 : Int32) then (gw_b0 (gw_gr 4 10 x10) fun x29 =>
  gw_b0 (gw_ld 0 x29 (1 : Int32)) fun x32 =>
  gw_rc x32)
  else if a2 = (4 : Int32) then (gw_b0 (gw_gi 4 2 x10) fun x36 =>
  gw_rc x36)
  else if a2 = (5 : Int32) then (gw_b0 (gw_gi 4 3 x10) fun x40 =>
  gw_rc x40)
  else if a2 = (6 : Int32) then (gw_b0 (gw_gi 4 4 x10) fun x44 =>
  gw_rc x44)
  else if a2 = (7 : Int32) then (gw_b0 (gw_gi 4 11 x10) fun x48 =>
  if x48 = 0 then (fx_X1_flow_J135 (0 : Int32))
  else (fx_X1_flow_J135 (1 : Int32)))
  else if a2 = (8 : Int32) then (gw_b0 (gw_gi 4 6 x10) fun x53 =>
  gw_rc x53)
  else if a2 = (9 : Int32) then (gw_b0 (gw_gr 0 4 a0) fun x57 =>
  gw_b0 (gw_gr 1 1 x57) fun x60 =>
  gw_b0 (gw_lr 5 x60 a1) fun x63 =>
  gw_b0 (gw_gi 9 3 x63) fun x66 =>
  gw_rc x66)
  else if a2 = (10 : Int32) then (gw_b0 (gw_gi 4 7 x10) fun x70 =>
  gw_rc x70)
  else if a2 = (11 : Int32) then (gw_b0 (gw_gi 4 8 x10) fun x74 =>
  gw_rc x74)
  else (gw_rc (-1 : Int32)))
theorem hdX1_flow : yX1_flow.cls = "LosslessFabric" ∧ (yX1_flow.cls ≠ "java/lang/invoke/MethodHandle" ∧ yX1_flow.cls ≠ "java/lang/invoke/VarHandle" ∧ (parseMethodDescriptor yX1_flow.desc).map (fun d => d.parameters.length) = some 2) := by decide +kernel
set_option maxHeartbeats 4000000 in
theorem mx_X1_flow {l : Launch} {K : GK} (hA : gw_A K) (a0 : Nat) (a1 : Int32) (a2 : Int32) (t0 tZ : Hp) (r : Int32) (C0 S0 : Nat) (hf : fx_X1_flow a0 a1 a2 t0 = some (r, tZ, C0, S0)) : Met l yX1_flow (ws_ yX1_flow cX1_flow 4 (some (.int))) ({ frames := 4, cells := C0, slots := S0, locals := 60 }) (va_Pc [.ref a0, .int a1, .int a2] (gw_W K t0)) (gw_Qi K r tZ) C0 S0 K.2.2.2.1 := by
  refine Met.ofW (cc := cX1_flow) (maxL := 4) (ret := some (.int)) (by decide) rfl ?_
  intro p e s m args below meth c s₁ B hml hv
  obtain ⟨rfl, hP, hK, hX, hN, hL⟩ := hv
  have hx := B.exec
  have hb := B.bytes
  have hr := B.returns
  have hts := atoms_spec (ws := (ws_ yX1_flow cX1_flow 4 (some (.int)))) B.pre
  have hts : ∀ w ∈ lw_all, w.before _ s = true := fun w h => hts w (List.mem_cons_of_mem _ h)
  have hown : s.vm.findClass "LosslessFabric" = some m.cls := findClass_of_methodNamed B.named
  have hlk := B.notSynchronized
  have C : gw_C K "LosslessFabric" p s m _ c cX1_flow := ⟨hx, hb, hts, hown, hK, hA, hX, hN, hL⟩
  have hk : 0 + C0 = C0 := Nat.zero_add _
  have hn : 0 + S0 = S0 := Nat.zero_add _
  have hS : va_S K.2.2.2.1 s.heap s.heap [] := va_S.rf
  have hl := lv_entry ([.ref a0, .int a1, .int a2]) (n := 4) (Nat.le_of_ble_eq_true rfl)
  rw [lg_entry_eq]
  generalize (lg_sl ([.ref a0, .int a1, .int a2]) ++ List.replicate (4 - (lg_sl ([.ref a0, .int a1, .int a2])).length) Slot.unset).toArray = ls at hl ⊢
  have hl : lv_has ls 4 [(0, .ref a0), (1, .int a1), (2, .int a2)] := hl
  unfold fx_X1_flow at hf
  refine lv_aload_n hx hb dX1_flow_0 rfl (lv_at hl 0 rfl) ?_
  refine lv_iload_n hx hb dX1_flow_1 rfl (lv_at hl 1 rfl) ?_
  obtain ⟨x1, t2, c2, s2, C2, S2, e3, hf, hk, hn⟩ := gw_bcE hf hk hn
  refine gw_cVi (As := [.int a1]) (rest := []) (ci := 0) (T := TX1) (N := 18) C hml hP hS rfl (gw_onE e3).1 (mx_X1_isFlow (l := l) (K := K) hA _ _ _ _ _ _ _ (gw_onE e3).2) (cwV 1 hts (lw_V q952 q954 qs21 q101 q955) rfl rfl rfl hdX1_isFlow ⟨Nat.le_of_ble_eq_true rfl, Nat.le_of_ble_eq_true rfl⟩) rfl hl.1 rfl (Nat.le_of_ble_eq_true rfl) (Nat.le.intro hk) (Nat.le.intro hn) dX1_flow_2 (fun H locs hP hS => ?_)
  refine lv_if_ne (tgt := 10) hx hb dX1_flow_5 (by decide) (fun hc => ?_) (fun hc => ?_)
  · have hf := tw_ifF hc hf
    refine lv_aload_n hx hb dX1_flow_10 rfl (lv_at hl 0 rfl) ?_
    obtain ⟨x4, t5, e6, hf⟩ := gw_b0E hf
    refine gw_rget (ci := 0) (k := 11) (T := TX1) C hP rfl in_X1 (by decide) e6 q404 rfl dX1_flow_11 (fun hP => ?_)
    obtain ⟨x7, t8, e9, hf⟩ := gw_b0E hf
    refine gw_rgetN (ci := 2) (k := 3) (T := TX3) C hP rfl in_X3 (by decide) e9 q358 rfl dX1_flow_14 (fun hP => ?_)
    refine lv_iload_n hx hb dX1_flow_17 rfl (lv_at hl 1 rfl) ?_
    obtain ⟨x10, t11, e12, hf⟩ := gw_b0E hf
    refine gw_aald C hP rfl e12 dX1_flow_18 (fun hP => ?_)
    refine lv_astore_n (lv' := [(3, .ref x10), (0, .ref a0), (1, .int a1), (2, .int a2)]) hx hb dX1_flow_19 rfl hl (by decide) rfl (fun ls hl => ?_)
    refine lv_iload_n hx hb dX1_flow_20 rfl (lv_at hl 3 rfl) ?_
    by_cases c13 : a2 = (0 : Int32)
    · have hf := tw_ifT c13 hf
      refine lv_tableIn (tgt := 84) hx hb dX1_flow_21 (by rw [c13]; decide) (by rw [c13]; decide) (by rw [c13]; rfl) (by decide) ?_
      refine lv_aload_n hx hb dX1_flow_84 rfl (lv_at hl 0 rfl) ?_
      obtain ⟨x14, t15, e16, hf⟩ := gw_b0E hf
      refine gw_igetN (ci := 4) (k := 0) (T := TX5) C hP rfl in_X5 (by decide) e16 q297 rfl dX1_flow_85 (fun hP => ?_)
      obtain ⟨h1, h2, h3, h4⟩ := gw_rcE hf hk hn
      exact gw_ireti h1 h2 h3 h4 C hr hP hS hlk dX1_flow_88
    have hf := tw_ifF c13 hf
    by_cases c17 : a2 = (1 : Int32)
    · have hf := tw_ifT c17 hf
      refine lv_tableIn (tgt := 89) hx hb dX1_flow_21 (by rw [c17]; decide) (by rw [c17]; decide) (by rw [c17]; rfl) (by decide) ?_
      refine lv_aload_n hx hb dX1_flow_89 rfl (lv_at hl 0 rfl) ?_
      obtain ⟨x18, t19, e20, hf⟩ := gw_b0E hf
      refine gw_igetN (ci := 4) (k := 1) (T := TX5) C hP rfl in_X5 (by decide) e20 q299 rfl dX1_flow_90 (fun hP => ?_)
      obtain ⟨h1, h2, h3, h4⟩ := gw_rcE hf hk hn
      exact gw_ireti h1 h2 h3 h4 C hr hP hS hlk dX1_flow_93
    have hf := tw_ifF c17 hf
    by_cases c21 : a2 = (2 : Int32)
    · have hf := tw_ifT c21 hf
      refine lv_tableIn (tgt := 94) hx hb dX1_flow_21 (by rw [c21]; decide) (by rw [c21]; decide) (by rw [c21]; rfl) (by decide) ?_
      refine lv_aload_n hx hb dX1_flow_94 rfl (lv_at hl 0 rfl) ?_
      obtain ⟨x22, t23, e24, hf⟩ := gw_b0E hf
      refine gw_rgetN (ci := 4) (k := 10) (T := TX5) C hP rfl in_X5 (by decide) e24 q322 rfl dX1_flow_95 (fun hP => ?_)
      refine lv_iconst (v := (0 : Int32)) hx hb dX1_flow_98 (by decide) ?_
      obtain ⟨x25, t26, e27, hf⟩ := gw_b0E hf
      refine gw_iald C hP e27 dX1_flow_99 (fun hP => ?_)
      obtain ⟨h1, h2, h3, h4⟩ := gw_rcE hf hk hn
      exact gw_ireti h1 h2 h3 h4 C hr hP hS hlk dX1_flow_100
    have hf := tw_ifF c21 hf
    by_cases c28 : a2 = (3 : Int32)
    · have hf := tw_ifT c28 hf
      refine lv_tableIn (tgt := 101) hx hb dX1_flow_21 (by rw [c28]; decide) (by rw [c28]; decide) (by rw [c28]; rfl) (by decide) ?_
      refine lv_aload_n hx hb dX1_flow_101 rfl (lv_at hl 0 rfl) ?_
      obtain ⟨x29, t30, e31, hf⟩ := gw_b0E hf
      refine gw_rgetN (ci := 4) (k := 10) (T := TX5) C hP rfl in_X5 (by decide) e31 q322 rfl dX1_flow_102 (fun hP => ?_)
      refine lv_iconst (v := (1 : Int32)) hx hb dX1_flow_105 (by decide) ?_
      obtain ⟨x32, t33, e34, hf⟩ := gw_b0E hf
      refine gw_iald C hP e34 dX1_flow_106 (fun hP => ?_)
      obtain ⟨h1, h2, h3, h4⟩ := gw_rcE hf hk hn
      exact gw_ireti h1 h2 h3 h4 C hr hP hS hlk dX1_flow_107
    have hf := tw_ifF c28 hf
    by_cases c35 : a2 = (4 : Int32)
    · have hf := tw_ifT c35 hf
      refine lv_tableIn (tgt := 108) hx hb dX1_flow_21 (by rw [c35]; decide) (by rw [c35]; decide) (by rw [c35]; rfl) (by decide) ?_
      refine lv_aload_n hx hb dX1_flow_108 rfl (lv_at hl 0 rfl) ?_
      obtain ⟨x36, t37, e38, hf⟩ := gw_b0E hf
      refine gw_igetN (ci := 4) (k := 2) (T := TX5) C hP rfl in_X5 (by decide) e38 q302 rfl dX1_flow_109 (fun hP => ?_)
      obtain ⟨h1, h2, h3, h4⟩ := gw_rcE hf hk hn
      exact gw_ireti h1 h2 h3 h4 C hr hP hS hlk dX1_flow_112
    have hf := tw_ifF c35 hf
    by_cases c39 : a2 = (5 : Int32)
    · have hf := tw_ifT c39 hf
      refine lv_tableIn (tgt := 113) hx hb dX1_flow_21 (by rw [c39]; decide) (by rw [c39]; decide) (by rw [c39]; rfl) (by decide) ?_
      refine lv_aload_n hx hb dX1_flow_113 rfl (lv_at hl 0 rfl) ?_
      obtain ⟨x40, t41, e42, hf⟩ := gw_b0E hf
      refine gw_igetN (ci := 4) (k := 3) (T := TX5) C hP rfl in_X5 (by decide) e42 q305 rfl dX1_flow_114 (fun hP => ?_)
      obtain ⟨h1, h2, h3, h4⟩ := gw_rcE hf hk hn
      exact gw_ireti h1 h2 h3 h4 C hr hP hS hlk dX1_flow_117
    have hf := tw_ifF c39 hf
    by_cases c43 : a2 = (6 : Int32)
    · have hf := tw_ifT c43 hf
      refine lv_tableIn (tgt := 118) hx hb dX1_flow_21 (by rw [c43]; decide) (by rw [c43]; decide) (by rw [c43]; rfl) (by decide) ?_
      refine lv_aload_n hx hb dX1_flow_118 rfl (lv_at hl 0 rfl) ?_
      obtain ⟨x44, t45, e46, hf⟩ := gw_b0E hf
      refine gw_igetN (ci := 4) (k := 4) (T := TX5) C hP rfl in_X5 (by decide) e46 q308 rfl dX1_flow_119 (fun hP => ?_)
      obtain ⟨h1, h2, h3, h4⟩ := gw_rcE hf hk hn
      exact gw_ireti h1 h2 h3 h4 C hr hP hS hlk dX1_flow_122
    have hf := tw_ifF c43 hf
    by_cases c47 : a2 = (7 : Int32)
    · have hf := tw_ifT c47 hf
      refine lv_tableIn (tgt := 123) hx hb dX1_flow_21 (by rw [c47]; decide) (by rw [c47]; decide) (by rw [c47]; rfl) (by decide) ?_
      refine lv_aload_n hx hb dX1_flow_123 rfl (lv_at hl 0 rfl) ?_
      obtain ⟨x48, t49, e50, hf⟩ := gw_b0E hf
      refine gw_igetN (ci := 4) (k := 11) (T := TX5) C hP rfl in_X5 (by decide) e50 q325 rfl dX1_flow_124 (fun hP => ?_)
      have k135 : ∀ (w135_0 : Int32) (t51 : Hp) (k51 n51 C51 S51 : Nat) (H : Heap) (locs : List Loc) (ls : Array Slot), gw_P K t51 H → va_S K.2.2.2.1 s.heap H locs → k51 + C51 = C0 → n51 + S51 = S0 → lv_has ls 4 [] → fx_X1_flow_J135 w135_0 t51 = some (r, tZ, C51, S51) → W p l e (headSpec (ws_ yX1_flow cX1_flow 4 (some (.int))) ({ frames := 4, cells := C0, slots := S0, locals := 60 })).room s m ([.ref a0, .int a1, .int a2] : List Value).toArray below meth c H locs k51 n51 (MQ below (gw_Qi K r tZ) ([.ref a0, .int a1, .int a2] : List Value).toArray s C0 S0 K.2.2.2.1) (F0 m 135 ls [.int w135_0]) := by
        intro w135_0 t51 k51 n51 C51 S51 H locs ls hP hS hk hn hl hf
        unfold fx_X1_flow_J135 at hf
        obtain ⟨h1, h2, h3, h4⟩ := gw_rcE hf hk hn
        exact gw_ireti h1 h2 h3 h4 C hr hP hS hlk dX1_flow_135
      refine lv_if_eq (tgt := 134) hx hb dX1_flow_127 (by decide) (fun hc => ?_) (fun hc => ?_)
      · have hf := tw_ifT hc hf
        refine lv_iconst (v := (0 : Int32)) hx hb dX1_flow_134 (by decide) ?_
        exact k135 _ _ _ _ _ _ _ _ _ hP hS hk hn (lv_sub hl [] rfl) hf
      · have hf := tw_ifF hc hf
        refine lv_iconst (v := (1 : Int32)) hx hb dX1_flow_130 (by decide) ?_
        refine lv_goto (tgt := 135) hx hb dX1_flow_131 (by decide) ?_
        exact k135 _ _ _ _ _ _ _ _ _ hP hS hk hn (lv_sub hl [] rfl) hf
    have hf := tw_ifF c47 hf
    by_cases c52 : a2 = (8 : Int32)
    · have hf := tw_ifT c52 hf
      refine lv_tableIn (tgt := 136) hx hb dX1_flow_21 (by rw [c52]; decide) (by rw [c52]; decide) (by rw [c52]; rfl) (by decide) ?_
      refine lv_aload_n hx hb dX1_flow_136 rfl (lv_at hl 0 rfl) ?_
      obtain ⟨x53, t54, e55, hf⟩ := gw_b0E hf
      refine gw_igetN (ci := 4) (k := 6) (T := TX5) C hP rfl in_X5 (by decide) e55 q314 rfl dX1_flow_137 (fun hP => ?_)
      obtain ⟨h1, h2, h3, h4⟩ := gw_rcE hf hk hn
      exact gw_ireti h1 h2 h3 h4 C hr hP hS hlk dX1_flow_140
    have hf := tw_ifF c52 hf
    by_cases c56 : a2 = (9 : Int32)
    · have hf := tw_ifT c56 hf
      refine lv_tableIn (tgt := 141) hx hb dX1_flow_21 (by rw [c56]; decide) (by rw [c56]; decide) (by rw [c56]; rfl) (by decide) ?_
      refine lv_aload_n hx hb dX1_flow_141 rfl (lv_at hl 1 rfl) ?_
      obtain ⟨x57, t58, e59, hf⟩ := gw_b0E hf
      refine gw_rget (ci := 0) (k := 4) (T := TX1) C hP rfl in_X1 (by decide) e59 q394 rfl dX1_flow_142 (fun hP => ?_)
      obtain ⟨x60, t61, e62, hf⟩ := gw_b0E hf
      refine gw_rgetN (ci := 1) (k := 1) (T := TX2) C hP rfl in_X2 (by decide) e62 q154 rfl dX1_flow_145 (fun hP => ?_)
      refine lv_iload_n hx hb dX1_flow_148 rfl (lv_at hl 2 rfl) ?_
      obtain ⟨x63, t64, e65, hf⟩ := gw_b0E hf
      refine gw_aald C hP rfl e65 dX1_flow_149 (fun hP => ?_)
      obtain ⟨x66, t67, e68, hf⟩ := gw_b0E hf
      refine gw_igetN (ci := 9) (k := 3) (T := TX10) C hP rfl in_X10 (by decide) e68 q782 rfl dX1_flow_150 (fun hP => ?_)
      obtain ⟨h1, h2, h3, h4⟩ := gw_rcE hf hk hn
      exact gw_ireti h1 h2 h3 h4 C hr hP hS hlk dX1_flow_153
    have hf := tw_ifF c56 hf
    by_cases c69 : a2 = (10 : Int32)
    · have hf := tw_ifT c69 hf
      refine lv_tableIn (tgt := 154) hx hb dX1_flow_21 (by rw [c69]; decide) (by rw [c69]; decide) (by rw [c69]; rfl) (by decide) ?_
      refine lv_aload_n hx hb dX1_flow_154 rfl (lv_at hl 0 rfl) ?_
      obtain ⟨x70, t71, e72, hf⟩ := gw_b0E hf
      refine gw_igetN (ci := 4) (k := 7) (T := TX5) C hP rfl in_X5 (by decide) e72 q316 rfl dX1_flow_155 (fun hP => ?_)
      obtain ⟨h1, h2, h3, h4⟩ := gw_rcE hf hk hn
      exact gw_ireti h1 h2 h3 h4 C hr hP hS hlk dX1_flow_158
    have hf := tw_ifF c69 hf
    by_cases c73 : a2 = (11 : Int32)
    · have hf := tw_ifT c73 hf
      refine lv_tableIn (tgt := 159) hx hb dX1_flow_21 (by rw [c73]; decide) (by rw [c73]; decide) (by rw [c73]; rfl) (by decide) ?_
      refine lv_aload_n hx hb dX1_flow_159 rfl (lv_at hl 0 rfl) ?_
      obtain ⟨x74, t75, e76, hf⟩ := gw_b0E hf
      refine gw_igetN (ci := 4) (k := 8) (T := TX5) C hP rfl in_X5 (by decide) e76 q318 rfl dX1_flow_160 (fun hP => ?_)
      obtain ⟨h1, h2, h3, h4⟩ := gw_rcE hf hk hn
      exact gw_ireti h1 h2 h3 h4 C hr hP hS hlk dX1_flow_163
    have hf := tw_ifF c73 hf
    refine lv_tableOut (tgt := 164) hx hb dX1_flow_21 (tw_swo 11 (fun i hi => by match i, hi with | 0, _ => exact c13 | 1, _ => exact c17 | 2, _ => exact c21 | 3, _ => exact c28 | 4, _ => exact c35 | 5, _ => exact c39 | 6, _ => exact c43 | 7, _ => exact c47 | 8, _ => exact c52 | 9, _ => exact c56 | 10, _ => exact c69 | 11, _ => exact c73 | i + 12, h => exact absurd h (by omega))) (by decide) ?_
    refine lv_iconst (v := (-1 : Int32)) hx hb dX1_flow_164 (by decide) ?_
    obtain ⟨h1, h2, h3, h4⟩ := gw_rcE hf hk hn
    exact gw_ireti h1 h2 h3 h4 C hr hP hS hlk dX1_flow_165
  · have hf := tw_ifT hc hf
    refine lv_iconst (v := (-1 : Int32)) hx hb dX1_flow_8 (by decide) ?_
    obtain ⟨h1, h2, h3, h4⟩ := gw_rcE hf hk hn
    exact gw_ireti h1 h2 h3 h4 C hr hP hS hlk dX1_flow_9
def fx_X1_flows_J27   : gM Int32 :=
  gw_rc (-1 : Int32)
def fx_X1_flows_J97  (w97_0 : Int32) : gM Int32 :=
  gw_rc w97_0
def fx_X1_flows (a0 : Nat) (a1 : Int32) (a2 : Int32) (a3 : Int32) : gM Int32 :=
  gw_bc (gw_on 0 a0 (fx_X1_isFlow a0 a1)) fun x1 =>
  if x1 = 0 then (fx_X1_flows_J27)
  else (gw_b0 (fx_X1_isAhead a2) fun x5 =>
  if x5 = 0 then (fx_X1_flows_J27)
  else (gw_b0 (fx_X1_isIn (a3.toInt64) (0 : Int64) (2 : Int64)) fun x8 =>
  if x8 = 0 then (fx_X1_flows_J27)
  else (gw_bc (gw_on 0 a0 (fx_X1_tried a0 a2)) fun x11 =>
  gw_b0 (gw_gr 2 3 x11) fun x14 =>
  gw_b0 (gw_lr 7 x14 a1) fun x17 =>
  if a3 = 0 then (gw_b0 (gw_gi 4 0 x17) fun x51 =>
 
  fx_X1_flows_J97 x51)
  else (if a3 = (1 : Int32) then (gw_b0 (gw_gi 4 3 x17) fun x36 =>
  gw_b0 (gw_gr 0 11 a0) fun x39 =>
  gw_b0 (gw_gr 2 3 x39) fun x42 =>
  gw_b0 (gw_lr 7 x42 a1) fun x45 =>
  gw_b0 (gw_gi 4 3 x45) fun x48 =>
 
  fx_X1_flows_J97 (x36 - x48))
  else (gw_b0 (gw_gi 4 2 x17) fun x21 =>
  gw_b0 (gw_gr 0 11 a0) fun x24 =>
  gw_b0 (gw_gr 2 3 x24) fun x27 =>
  gw_b0 (gw_lr 7 x27 a1) fun x30 =>
  gw_b0 (gw_gi 4 2 x30) fun x33 =>
 
  fx_X1_flows_J97 (x21 - x33))))))
theorem hdX1_flows : yX1_flows.cls = "LosslessFabric" ∧ (yX1_flows.cls ≠ "java/lang/invoke/MethodHandle" ∧ yX1_flows.cls ≠ "java/lang/invoke/VarHandle" ∧ (parseMethodDescriptor yX1_flows.desc).map (fun d => d.parameters.length) = some 3) := by decide +kernel
set_option maxHeartbeats 4000000 in
theorem mx_X1_flows {l : Launch} {K : GK} (hA : gw_A K) (a0 : Nat) (a1 : Int32) (a2 : Int32) (a3 : Int32) (t0 tZ : Hp) (r : Int32) (C0 S0 : Nat) (hf : fx_X1_flows a0 a1 a2 a3 t0 = some (r, tZ, C0, S0)) : Met l yX1_flows (ws_ yX1_flows cX1_flows 5 (some (.int))) ({ frames := 8, cells := C0, slots := S0, locals := 3271 }) (va_Pc [.ref a0, .int a1, .int a2, .int a3] (gw_W K t0)) (gw_Qi K r tZ) C0 S0 K.2.2.2.1 := by
  refine Met.ofW (cc := cX1_flows) (maxL := 5) (ret := some (.int)) (by decide) rfl ?_
  intro p e s m args below meth c s₁ B hml hv
  obtain ⟨rfl, hP, hK, hX, hN, hL⟩ := hv
  have hx := B.exec
  have hb := B.bytes
  have hr := B.returns
  have hts := atoms_spec (ws := (ws_ yX1_flows cX1_flows 5 (some (.int)))) B.pre
  have hts : ∀ w ∈ lw_all, w.before _ s = true := fun w h => hts w (List.mem_cons_of_mem _ h)
  have hown : s.vm.findClass "LosslessFabric" = some m.cls := findClass_of_methodNamed B.named
  have hlk := B.notSynchronized
  have C : gw_C K "LosslessFabric" p s m _ c cX1_flows := ⟨hx, hb, hts, hown, hK, hA, hX, hN, hL⟩
  have hk : 0 + C0 = C0 := Nat.zero_add _
  have hn : 0 + S0 = S0 := Nat.zero_add _
  have hS : va_S K.2.2.2.1 s.heap s.heap [] := va_S.rf
  have hl := lv_entry ([.ref a0, .int a1, .int a2, .int a3]) (n := 5) (Nat.le_of_ble_eq_true rfl)
  rw [lg_entry_eq]
  generalize (lg_sl ([.ref a0, .int a1, .int a2, .int a3]) ++ List.replicate (5 - (lg_sl ([.ref a0, .int a1, .int a2, .int a3])).length) Slot.unset).toArray = ls at hl ⊢
  have hl : lv_has ls 5 [(0, .ref a0), (1, .int a1), (2, .int a2), (3, .int a3)] := hl
  unfold fx_X1_flows at hf
  refine lv_aload_n hx hb dX1_flows_0 rfl (lv_at hl 0 rfl) ?_
  refine lv_iload_n hx hb dX1_flows_1 rfl (lv_at hl 1 rfl) ?_
  obtain ⟨x1, t2, c2, s2, C2, S2, e3, hf, hk, hn⟩ := gw_bcE hf hk hn
  refine gw_cVi (As := [.int a1]) (rest := []) (ci := 0) (T := TX1) (N := 18) C hml hP hS rfl (gw_onE e3).1 (mx_X1_isFlow (l := l) (K := K) hA _ _ _ _ _ _ _ (gw_onE e3).2) (cwV 1 hts (lw_V q952 q954 qs21 q101 q955) rfl rfl rfl hdX1_isFlow ⟨Nat.le_of_ble_eq_true rfl, Nat.le_of_ble_eq_true rfl⟩) rfl hl.1 rfl (Nat.le_of_ble_eq_true rfl) (Nat.le.intro hk) (Nat.le.intro hn) dX1_flows_2 (fun H locs hP hS => ?_)
  have k27 : ∀  (t4 : Hp) (k4 n4 C4 S4 : Nat) (H : Heap) (locs : List Loc) (ls : Array Slot), gw_P K t4 H → va_S K.2.2.2.1 s.heap H locs → k4 + C4 = C0 → n4 + S4 = S0 → lv_has ls 5 [] → fx_X1_flows_J27  t4 = some (r, tZ, C4, S4) → W p l e (headSpec (ws_ yX1_flows cX1_flows 5 (some (.int))) ({ frames := 8, cells := C0, slots := S0, locals := 3271 })).room s m ([.ref a0, .int a1, .int a2, .int a3] : List Value).toArray below meth c H locs k4 n4 (MQ below (gw_Qi K r tZ) ([.ref a0, .int a1, .int a2, .int a3] : List Value).toArray s C0 S0 K.2.2.2.1) (F0 m 27 ls []) := by
    intro t4 k4 n4 C4 S4 H locs ls hP hS hk hn hl hf
    unfold fx_X1_flows_J27 at hf
    refine lv_iconst (v := (-1 : Int32)) hx hb dX1_flows_27 (by decide) ?_
    obtain ⟨h1, h2, h3, h4⟩ := gw_rcE hf hk hn
    exact gw_ireti h1 h2 h3 h4 C hr hP hS hlk dX1_flows_28
  refine lv_if_eq (tgt := 27) hx hb dX1_flows_5 (by decide) (fun hc => ?_) (fun hc => ?_)
  · have hf := tw_ifT hc hf
    exact k27 _ _ _ _ _ _ _ _ hP hS hk hn (lv_sub hl [] rfl) hf
  · have hf := tw_ifF hc hf
    refine lv_iload_n hx hb dX1_flows_8 rfl (lv_at hl 2 rfl) ?_
    obtain ⟨x5, t6, e7, hf⟩ := gw_b0E hf
    refine gw_cSi (As := [.int a2]) (rest := []) C hml hP hS (mx_X1_isAhead (l := l) (K := K) hA _ _ _ _ e7) (va_cwS 1 hts (lw_S q1193 q1194 q101 q1195) rfl rfl rfl hdX1_isAhead ⟨Nat.le_of_ble_eq_true rfl, Nat.le_of_ble_eq_true rfl⟩) rfl hl.1 rfl (Nat.le_of_ble_eq_true rfl) (Nat.le.intro hk) (Nat.le.intro hn) dX1_flows_9 (fun H locs hP hS => ?_)
    refine lv_if_eq (tgt := 27) hx hb dX1_flows_12 (by decide) (fun hc => ?_) (fun hc => ?_)
    · have hf := tw_ifT hc hf
      exact k27 _ _ _ _ _ _ _ _ hP hS hk hn (lv_sub hl [] rfl) hf
    · have hf := tw_ifF hc hf
      refine lv_iload_n hx hb dX1_flows_15 rfl (lv_at hl 3 rfl) ?_
      refine lv_i2l hx hb dX1_flows_16 rfl ?_
      refine lv_lconst (v := (0 : Int64)) hx hb dX1_flows_17 (by decide) ?_
      refine lv_ldc2 hx hb hown (hts _ q1197) dX1_flows_18 ?_
      obtain ⟨x8, t9, e10, hf⟩ := gw_b0E hf
      refine gw_cSi (As := [.long (a3.toInt64), .long (0 : Int64), .long (2 : Int64)]) (rest := []) C hml hP hS (mx_X1_isIn (l := l) (K := K) hA _ _ _ _ _ _ e10) (va_cwS 3 hts (lw_S q457 q458 q101 q459) rfl rfl rfl hdX1_isIn ⟨Nat.le_of_ble_eq_true rfl, Nat.le_of_ble_eq_true rfl⟩) rfl hl.1 rfl (Nat.le_of_ble_eq_true rfl) (Nat.le.intro hk) (Nat.le.intro hn) dX1_flows_21 (fun H locs hP hS => ?_)
      refine lv_if_ne (tgt := 29) hx hb dX1_flows_24 (by decide) (fun hc => ?_) (fun hc => ?_)
      · have hf := tw_ifF hc hf
        refine lv_aload_n hx hb dX1_flows_29 rfl (lv_at hl 0 rfl) ?_
        refine lv_iload_n hx hb dX1_flows_30 rfl (lv_at hl 2 rfl) ?_
        obtain ⟨x11, t12, c12, s12, C12, S12, e13, hf, hk, hn⟩ := gw_bcE hf hk hn
        refine gw_cVr (As := [.int a2]) (rest := []) (ci := 0) (T := TX1) (N := 18) C hml hP hS rfl (gw_onE e13).1 (mx_X1_tried (l := l) (K := K) hA _ _ _ _ _ _ _ (gw_onE e13).2) (cwV 1 hts (lw_V q1202 q1204 qs34 q101 q1205) rfl rfl rfl hdX1_tried ⟨Nat.le_of_ble_eq_true rfl, Nat.le_of_ble_eq_true rfl⟩) rfl hl.1 rfl (Nat.le_of_ble_eq_true rfl) (Nat.le.intro hk) (Nat.le.intro hn) dX1_flows_31 (fun H locs hP hS => ?_)
        obtain ⟨x14, t15, e16, hf⟩ := gw_b0E hf
        refine gw_rgetN (ci := 2) (k := 3) (T := TX3) C hP rfl in_X3 (by decide) e16 q358 rfl dX1_flows_34 (fun hP => ?_)
        refine lv_iload_n hx hb dX1_flows_37 rfl (lv_at hl 1 rfl) ?_
        obtain ⟨x17, t18, e19, hf⟩ := gw_b0E hf
        refine gw_aald C hP rfl e19 dX1_flows_38 (fun hP => ?_)
        refine lv_astore (lv' := [(4, .ref x17), (0, .ref a0), (1, .int a1), (2, .int a2), (3, .int a3)]) hx hb dX1_flows_39 hl (by decide) rfl (fun ls hl => ?_)
        refine lv_iload_n hx hb dX1_flows_41 rfl (lv_at hl 4 rfl) ?_
        have k97 : ∀ (w97_0 : Int32) (t20 : Hp) (k20 n20 C20 S20 : Nat) (H : Heap) (locs : List Loc) (ls : Array Slot), gw_P K t20 H → va_S K.2.2.2.1 s.heap H locs → k20 + C20 = C0 → n20 + S20 = S0 → lv_has ls 5 [] → fx_X1_flows_J97 w97_0 t20 = some (r, tZ, C20, S20) → W p l e (headSpec (ws_ yX1_flows cX1_flows 5 (some (.int))) ({ frames := 8, cells := C0, slots := S0, locals := 3271 })).room s m ([.ref a0, .int a1, .int a2, .int a3] : List Value).toArray below meth c H locs k20 n20 (MQ below (gw_Qi K r tZ) ([.ref a0, .int a1, .int a2, .int a3] : List Value).toArray s C0 S0 K.2.2.2.1) (F0 m 97 ls [.int w97_0]) := by
          intro w97_0 t20 k20 n20 C20 S20 H locs ls hP hS hk hn hl hf
          unfold fx_X1_flows_J97 at hf
          obtain ⟨h1, h2, h3, h4⟩ := gw_rcE hf hk hn
          exact gw_ireti h1 h2 h3 h4 C hr hP hS hlk dX1_flows_97
        refine lv_if_ne (tgt := 53) hx hb dX1_flows_42 (by decide) (fun hc => ?_) (fun hc => ?_)
        · have hf := tw_ifF hc hf
          refine lv_iload_n hx hb dX1_flows_53 rfl (lv_at hl 4 rfl) ?_
          refine lv_iconst (v := (1 : Int32)) hx hb dX1_flows_54 (by decide) ?_
          refine lv_icmp_ne (tgt := 79) hx hb dX1_flows_55 (by decide) (fun hc => ?_) (fun hc => ?_)
          · have hf := tw_ifF hc hf
            refine lv_aload hx hb dX1_flows_79 (lv_at hl 0 rfl) ?_
            obtain ⟨x21, t22, e23, hf⟩ := gw_b0E hf
            refine gw_igetN (ci := 4) (k := 2) (T := TX5) C hP rfl in_X5 (by decide) e23 q302 rfl dX1_flows_81 (fun hP => ?_)
            refine lv_aload_n hx hb dX1_flows_84 rfl (lv_at hl 1 rfl) ?_
            obtain ⟨x24, t25, e26, hf⟩ := gw_b0E hf
            refine gw_rget (ci := 0) (k := 11) (T := TX1) C hP rfl in_X1 (by decide) e26 q404 rfl dX1_flows_85 (fun hP => ?_)
            obtain ⟨x27, t28, e29, hf⟩ := gw_b0E hf
            refine gw_rgetN (ci := 2) (k := 3) (T := TX3) C hP rfl in_X3 (by decide) e29 q358 rfl dX1_flows_88 (fun hP => ?_)
            refine lv_iload_n hx hb dX1_flows_91 rfl (lv_at hl 2 rfl) ?_
            obtain ⟨x30, t31, e32, hf⟩ := gw_b0E hf
            refine gw_aald C hP rfl e32 dX1_flows_92 (fun hP => ?_)
            obtain ⟨x33, t34, e35, hf⟩ := gw_b0E hf
            refine gw_igetN (ci := 4) (k := 2) (T := TX5) C hP rfl in_X5 (by decide) e35 q302 rfl dX1_flows_93 (fun hP => ?_)
            refine lv_isub hx hb dX1_flows_96 ?_
            exact k97 _ _ _ _ _ _ _ _ _ hP hS hk hn (lv_sub hl [] rfl) hf
          · have hf := tw_ifT hc hf
            refine lv_aload hx hb dX1_flows_58 (lv_at hl 0 rfl) ?_
            obtain ⟨x36, t37, e38, hf⟩ := gw_b0E hf
            refine gw_igetN (ci := 4) (k := 3) (T := TX5) C hP rfl in_X5 (by decide) e38 q305 rfl dX1_flows_60 (fun hP => ?_)
            refine lv_aload_n hx hb dX1_flows_63 rfl (lv_at hl 1 rfl) ?_
            obtain ⟨x39, t40, e41, hf⟩ := gw_b0E hf
            refine gw_rget (ci := 0) (k := 11) (T := TX1) C hP rfl in_X1 (by decide) e41 q404 rfl dX1_flows_64 (fun hP => ?_)
            obtain ⟨x42, t43, e44, hf⟩ := gw_b0E hf
            refine gw_rgetN (ci := 2) (k := 3) (T := TX3) C hP rfl in_X3 (by decide) e44 q358 rfl dX1_flows_67 (fun hP => ?_)
            refine lv_iload_n hx hb dX1_flows_70 rfl (lv_at hl 2 rfl) ?_
            obtain ⟨x45, t46, e47, hf⟩ := gw_b0E hf
            refine gw_aald C hP rfl e47 dX1_flows_71 (fun hP => ?_)
            obtain ⟨x48, t49, e50, hf⟩ := gw_b0E hf
            refine gw_igetN (ci := 4) (k := 3) (T := TX5) C hP rfl in_X5 (by decide) e50 q305 rfl dX1_flows_72 (fun hP => ?_)
            refine lv_isub hx hb dX1_flows_75 ?_
            refine lv_goto (tgt := 97) hx hb dX1_flows_76 (by decide) ?_
            exact k97 _ _ _ _ _ _ _ _ _ hP hS hk hn (lv_sub hl [] rfl) hf
        · have hf := tw_ifT hc hf
          refine lv_aload hx hb dX1_flows_45 (lv_at hl 0 rfl) ?_
          obtain ⟨x51, t52, e53, hf⟩ := gw_b0E hf
          refine gw_igetN (ci := 4) (k := 0) (T := TX5) C hP rfl in_X5 (by decide) e53 q297 rfl dX1_flows_47 (fun hP => ?_)
          refine lv_goto (tgt := 97) hx hb dX1_flows_50 (by decide) ?_
          exact k97 _ _ _ _ _ _ _ _ _ hP hS hk hn (lv_sub hl [] rfl) hf
      · have hf := tw_ifT hc hf
        exact k27 _ _ _ _ _ _ _ _ hP hS hk hn (lv_sub hl [] rfl) hf
def fx_X13_filled_J47 (sf2 : Int32 → HM Nat) (v2_1 : Int32)  : HM Nat :=
  sf2 (v2_1 + (1 : Int32))
def fx_X13_filled_L2 (a0 : Nat) (sf2 : Int32 → HM Nat) (v2_1 : Int32) : HM Nat :=
  tw_bd (gw_gr 12 6 a0) fun x2 =>
  tw_bd (gw_gr 0 4 x2) fun x5 =>
  tw_bd (gw_gi 1 2 x5) fun x8 =>
  if x8 ≤ v2_1 then (tw_rt a0)
  else (tw_bd (gw_on 12 a0 (fx_X13_lays a0 v2_1)) fun x11 =>
  if x11 = 0 then (tw_bd (gw_gl 12 4 a0) fun x15 =>
  if (lg_cmp x15 (0 : Int64)) = 0 then (tw_bd (gw_gi 12 3 a0) fun x18 =>
   tw_bd (gw_bt v2_1) fun x21 =>
  tw_bd (gw_pi 12 3 a0 (x18 ||| x21)) fun _ =>
 
  fx_X13_filled_J47 sf2 v2_1)
  else (fx_X13_filled_J47 sf2 v2_1))
  else (fx_X13_filled_J47 sf2 v2_1))
def fx_X13_filled (a0 : Nat) : HM Nat :=
  tw_lp (fx_X13_filled_L2 a0) (fun _ _ => none) tw_fu (0 : Int32)
theorem hdX13_filled : yX13_filled.cls = "LosslessFabric$Fair" ∧ (yX13_filled.cls ≠ "java/lang/invoke/MethodHandle" ∧ yX13_filled.cls ≠ "java/lang/invoke/VarHandle" ∧ (parseMethodDescriptor yX13_filled.desc).map (fun d => d.parameters.length) = some 0) := by decide +kernel
set_option maxHeartbeats 4000000 in
theorem mx_X13_filled {l : Launch} {K : GK} (hA : gw_A K) (a0 : Nat) (t0 tZ : Hp) (r : Nat) (hf : fx_X13_filled a0 t0 = some (r, tZ)) : Met l yX13_filled (ws_ yX13_filled cX13_filled 2 (some (.object "LosslessFabric$Fair"))) ({ frames := 5, cells := 0, slots := 0, locals := 90 }) (va_Pc [.ref a0] (gw_W K t0)) (gw_Qr K r tZ) 0 0 K.2.2.2.1 := by
  refine Met.ofW (cc := cX13_filled) (maxL := 2) (ret := some (.object "LosslessFabric$Fair")) (by decide) rfl ?_
  intro p e s m args below meth c s₁ B hml hv
  obtain ⟨rfl, hP, hK, hX, hN, hL⟩ := hv
  have hx := B.exec
  have hb := B.bytes
  have hr := B.returns
  have hts := atoms_spec (ws := (ws_ yX13_filled cX13_filled 2 (some (.object "LosslessFabric$Fair")))) B.pre
  have hts : ∀ w ∈ lw_all, w.before _ s = true := fun w h => hts w (List.mem_cons_of_mem _ h)
  have hown : s.vm.findClass "LosslessFabric$Fair" = some m.cls := findClass_of_methodNamed B.named
  have hlk := B.notSynchronized
  have C : gw_C K "LosslessFabric$Fair" p s m _ c cX13_filled := ⟨hx, hb, hts, hown, hK, hA, hX, hN, hL⟩
  have hS : va_S K.2.2.2.1 s.heap s.heap [] := va_S.rf
  have hl := lv_entry ([.ref a0]) (n := 2) (Nat.le_of_ble_eq_true rfl)
  rw [lg_entry_eq]
  generalize (lg_sl ([.ref a0]) ++ List.replicate (2 - (lg_sl ([.ref a0])).length) Slot.unset).toArray = ls at hl ⊢
  have hl : lv_has ls 2 [(0, .ref a0)] := hl
  unfold fx_X13_filled at hf
  refine lv_iconst (v := (0 : Int32)) hx hb dX13_filled_0 (by decide) ?_
  refine lv_istore_n (lv' := [(1, .int (0 : Int32)), (0, .ref a0)]) hx hb dX13_filled_1 rfl hl (by decide) rfl (fun ls hl => ?_)
  have k2 : ∀ (n : Nat) (v2_1 : Int32) (t1 : Hp) (H : Heap) (locs : List Loc) (ls : Array Slot), gw_P K t1 H → va_S K.2.2.2.1 s.heap H locs → lv_has ls 2 [(0, .ref a0), (1, .int v2_1)] → tw_lp (fx_X13_filled_L2 a0) (fun _ _ => none) n v2_1 t1 = some (r, tZ) → W p l e (headSpec (ws_ yX13_filled cX13_filled 2 (some (.object "LosslessFabric$Fair"))) ({ frames := 5, cells := 0, slots := 0, locals := 90 })).room s m ([.ref a0] : List Value).toArray below meth c H locs 0 0 (MQ below (gw_Qr K r tZ) ([.ref a0] : List Value).toArray s 0 0 K.2.2.2.1) (F0 m 2 ls []) := by
    intro n
    induction n with
    | zero => intro v2_1 t1 H locs ls hP hS hl hf; exact (tw_no hf).elim
    | succ n ih2 =>
      intro v2_1 t1 H locs ls hP hS hl hf
      obtain ⟨sf2, hs2⟩ : ∃ f, f = tw_lp (fx_X13_filled_L2 a0) (fun _ _ => none) n := ⟨_, rfl⟩
      rw [← hs2] at ih2
      have hf : fx_X13_filled_L2 a0 sf2 v2_1 t1 = some (r, tZ) := by rw [hs2]; exact hf
      clear hs2
      unfold fx_X13_filled_L2 at hf
      refine lv_iload_n hx hb dX13_filled_2 rfl (lv_at hl 1 rfl) ?_
      refine lv_aload_n hx hb dX13_filled_3 rfl (lv_at hl 0 rfl) ?_
      obtain ⟨x2, t3, e4, hf⟩ := tw_bdE hf
      refine gw_rget (ci := 12) (k := 6) (T := TX13) C hP rfl in_X13 (by decide) e4 q1164 rfl dX13_filled_4 (fun hP => ?_)
      obtain ⟨x5, t6, e7, hf⟩ := tw_bdE hf
      refine gw_rgetN (ci := 0) (k := 4) (T := TX1) C hP rfl in_X1 (by decide) e7 q395 rfl dX13_filled_7 (fun hP => ?_)
      obtain ⟨x8, t9, e10, hf⟩ := tw_bdE hf
      refine gw_igetN (ci := 1) (k := 2) (T := TX2) C hP rfl in_X2 (by decide) e10 q159 rfl dX13_filled_10 (fun hP => ?_)
      refine lv_icmp_ge (tgt := 53) hx hb dX13_filled_13 (by decide) (fun hc => ?_) (fun hc => ?_)
      · have hf := tw_ifT hc hf
        refine lv_aload_n hx hb dX13_filled_53 rfl (lv_at hl 0 rfl) ?_
        exact gw_iretr (tw_rtE hf).1 (tw_rtE hf).2 rfl rfl C hr (Or.inl ⟨_, rfl⟩) hP hS hlk dX13_filled_54
      · have hf := tw_ifF hc hf
        refine lv_aload_n hx hb dX13_filled_16 rfl (lv_at hl 0 rfl) ?_
        refine lv_iload_n hx hb dX13_filled_17 rfl (lv_at hl 1 rfl) ?_
        obtain ⟨x11, t12, e13, hf⟩ := tw_bdE hf
        refine gw_cVi (As := [.int v2_1]) (rest := []) (ci := 12) (T := TX13) (N := 7) C hml hP hS rfl (gw_onE e13).1 (mx_X13_lays (l := l) (K := K) hA _ _ _ _ _ (gw_onE e13).2) (cwV 1 hts (lw_V q1135 q1137 qs31 q127 q1138) rfl rfl rfl hdX13_lays ⟨Nat.le_of_ble_eq_true rfl, Nat.le_of_ble_eq_true rfl⟩) rfl hl.1 rfl (Nat.le_of_ble_eq_true rfl) (Nat.zero_le _) (Nat.zero_le _) dX13_filled_18 (fun H locs hP hS => ?_)
        have k47 : ∀  (t14 : Hp) (H : Heap) (locs : List Loc) (ls : Array Slot), gw_P K t14 H → va_S K.2.2.2.1 s.heap H locs → lv_has ls 2 [(0, .ref a0), (1, .int v2_1)] → fx_X13_filled_J47 sf2 v2_1  t14 = some (r, tZ) → W p l e (headSpec (ws_ yX13_filled cX13_filled 2 (some (.object "LosslessFabric$Fair"))) ({ frames := 5, cells := 0, slots := 0, locals := 90 })).room s m ([.ref a0] : List Value).toArray below meth c H locs 0 0 (MQ below (gw_Qr K r tZ) ([.ref a0] : List Value).toArray s 0 0 K.2.2.2.1) (F0 m 47 ls []) := by
          intro t14 H locs ls hP hS hl hf
          unfold fx_X13_filled_J47 at hf
          refine lv_iinc (v := (v2_1 + (1 : Int32))) (lv' := [(1, .int (v2_1 + (1 : Int32))), (0, .ref a0)]) hx hb dX13_filled_47 hl (k := 1) rfl rfl (by decide) rfl (fun ls hl => ?_)
          refine lv_goto (tgt := 2) hx hb dX13_filled_50 (by decide) ?_
          exact ih2 _ _ _ _ _ hP hS (lv_sub hl [1, 0] rfl) hf
        refine lv_if_ne (tgt := 47) hx hb dX13_filled_21 (by decide) (fun hc => ?_) (fun hc => ?_)
        · have hf := tw_ifF hc hf
          exact k47 _ _ _ _ hP hS (lv_sub hl [0, 1] rfl) hf
        · have hf := tw_ifT hc hf
          refine lv_aload_n hx hb dX13_filled_24 rfl (lv_at hl 0 rfl) ?_
          obtain ⟨x15, t16, e17, hf⟩ := tw_bdE hf
          refine gw_lget (ci := 12) (k := 4) (T := TX13) C hP rfl in_X13 (by decide) e17 q1162 rfl dX13_filled_25 (fun hP => ?_)
          refine lv_lconst (v := (0 : Int64)) hx hb dX13_filled_28 (by decide) ?_
          refine W.lcmp hx hb dX13_filled_29 ?_
          refine lv_if_ne (tgt := 47) hx hb dX13_filled_30 (by decide) (fun hc => ?_) (fun hc => ?_)
          · have hf := tw_ifF hc hf
            exact k47 _ _ _ _ hP hS (lv_sub hl [0, 1] rfl) hf
          · have hf := tw_ifT hc hf
            refine lv_aload_n hx hb dX13_filled_33 rfl (lv_at hl 0 rfl) ?_
            refine lv_dup hx hb dX13_filled_34 rfl ?_
            obtain ⟨x18, t19, e20, hf⟩ := tw_bdE hf
            refine gw_iget (ci := 12) (k := 3) (T := TX13) C hP rfl in_X13 (by decide) e20 q1160 rfl dX13_filled_35 (fun hP => ?_)
            refine va_getsN hx hb hX.2.2.2.2.2.1 hS hown (gw_Nw hN q1130 rfl rfl) (fun _ h => h) dX13_filled_38 ?_
            refine lv_iload_n hx hb dX13_filled_41 rfl (lv_at hl 1 rfl) ?_
            obtain ⟨x21, t22, e23, hf⟩ := tw_bdE hf
            refine gw_bits C hS e23 dX13_filled_42 (fun ht => ?_)
            rw [ht] at hP
            refine lv_ior hx hb dX13_filled_43 ?_
            obtain ⟨x24, t25, e26, hf⟩ := tw_bdE hf
            refine gw_vput (ci := 12) (k := 3) (T := TX13) C hP hS rfl in_X13 tyX13 tyX13_ok nmX13 (by decide) e26 q1160 rfl rfl (vp_nar_int _) rfl dX13_filled_44 (fun H locs hP hS => ?_)
            exact k47 _ _ _ _ hP hS (lv_sub hl [0, 1] rfl) hf
  exact k2 _ _ _ _ _ _ hP hS (lv_sub hl [1, 0] rfl) hf
def fx_X1_full (a0 : Nat) : gM Int32 :=
  gw_bc (gw_nw 12 7 tyX13) fun x1 =>
  gw_bc (fx_X13_init x1 a0) fun _ =>
  gw_b0 (gw_on 12 x1 (fx_X13_filled x1)) fun x7 =>
  gw_b0 (gw_gi 12 3 x7) fun x10 =>
  gw_rc x10
theorem hdX1_full : yX1_full.cls = "LosslessFabric" ∧ (yX1_full.cls ≠ "java/lang/invoke/MethodHandle" ∧ yX1_full.cls ≠ "java/lang/invoke/VarHandle" ∧ (parseMethodDescriptor yX1_full.desc).map (fun d => d.parameters.length) = some 0) := by decide +kernel
set_option maxHeartbeats 4000000 in
theorem mx_X1_full {l : Launch} {K : GK} (hA : gw_A K) (a0 : Nat) (t0 tZ : Hp) (r : Int32) (C0 S0 : Nat) (hf : fx_X1_full a0 t0 = some (r, tZ, C0, S0)) : Met l yX1_full (ws_ yX1_full cX1_full 1 (some (.int))) ({ frames := 7, cells := C0, slots := S0, locals := 140 }) (va_Pc [.ref a0] (gw_W K t0)) (gw_Qi K r tZ) C0 S0 K.2.2.2.1 := by
  refine Met.ofW (cc := cX1_full) (maxL := 1) (ret := some (.int)) (by decide) rfl ?_
  intro p e s m args below meth c s₁ B hml hv
  obtain ⟨rfl, hP, hK, hX, hN, hL⟩ := hv
  have hx := B.exec
  have hb := B.bytes
  have hr := B.returns
  have hts := atoms_spec (ws := (ws_ yX1_full cX1_full 1 (some (.int)))) B.pre
  have hts : ∀ w ∈ lw_all, w.before _ s = true := fun w h => hts w (List.mem_cons_of_mem _ h)
  have hown : s.vm.findClass "LosslessFabric" = some m.cls := findClass_of_methodNamed B.named
  have hlk := B.notSynchronized
  have C : gw_C K "LosslessFabric" p s m _ c cX1_full := ⟨hx, hb, hts, hown, hK, hA, hX, hN, hL⟩
  have hk : 0 + C0 = C0 := Nat.zero_add _
  have hn : 0 + S0 = S0 := Nat.zero_add _
  have hS : va_S K.2.2.2.1 s.heap s.heap [] := va_S.rf
  have hl := lv_entry ([.ref a0]) (n := 1) (Nat.le_of_ble_eq_true rfl)
  rw [lg_entry_eq]
  generalize (lg_sl ([.ref a0]) ++ List.replicate (1 - (lg_sl ([.ref a0])).length) Slot.unset).toArray = ls at hl ⊢
  have hl : lv_has ls 1 [(0, .ref a0)] := hl
  unfold fx_X1_full at hf
  obtain ⟨x1, t2, c2, s2, C2, S2, e3, hf, hk, hn⟩ := gw_bcE hf hk hn
  refine gw_new (T := TX13) C hP hS rfl in_X13 tyX13_ok e3 q1124 q1125 q127 (Nat.le.intro hk) (Nat.le.intro hn) dX1_full_0 (fun H hP hS => ?_)
  refine lv_dup hx hb dX1_full_3 rfl ?_
  refine lv_aload_n hx hb dX1_full_4 rfl (lv_at hl 0 rfl) ?_
  obtain ⟨x4, t5, c5, s5, C5, S5, e6, hf, hk, hn⟩ := gw_bcE hf hk hn
  refine gw_cIv (As := [.ref a0]) (rest := [.ref x1]) C hml hP hS (mx_X13_init (l := l) (K := K) hA _ _ _ _ _ _ _ e6) (cwI 1 hts (lw_meth q1128) rfl rfl rfl (hts _ q127) (hts _ q1126) (hts _ q1127) rfl hdX13_init.2 ⟨Nat.le_of_ble_eq_true rfl, Nat.le_of_ble_eq_true rfl⟩) rfl hl.1 rfl (Nat.le_of_ble_eq_true rfl) (Nat.le.intro hk) (Nat.le.intro hn) dX1_full_5 (fun H locs hP hS => ?_)
  obtain ⟨x7, t8, e9, hf⟩ := gw_b0E hf
  refine gw_cVr (As := []) (rest := []) (ci := 12) (T := TX13) (N := 7) C hml hP hS rfl (gw_onE e9).1 (mx_X13_filled (l := l) (K := K) hA _ _ _ _ (gw_onE e9).2) (cwV 0 hts (lw_V q1185 q1186 q1187 q127 q1188) rfl rfl rfl hdX13_filled ⟨Nat.le_of_ble_eq_true rfl, Nat.le_of_ble_eq_true rfl⟩) rfl hl.1 rfl (Nat.le_of_ble_eq_true rfl) (Nat.le.intro hk) (Nat.le.intro hn) dX1_full_8 (fun H locs hP hS => ?_)
  obtain ⟨x10, t11, e12, hf⟩ := gw_b0E hf
  refine gw_igetN (ci := 12) (k := 3) (T := TX13) C hP rfl in_X13 (by decide) e12 q1161 rfl dX1_full_11 (fun hP => ?_)
  obtain ⟨h1, h2, h3, h4⟩ := gw_rcE hf hk hn
  exact gw_ireti h1 h2 h3 h4 C hr hP hS hlk dX1_full_14
def fx_X1_headroomOf (a0 : Nat) (a1 : Int32) : HM Int32 :=
  tw_bd (gw_gr 0 11 a0) fun x1 =>
  tw_bd (gw_gr 2 2 x1) fun x4 =>
  tw_bd (gw_lr 6 x4 a1) fun x7 =>
  tw_bd (gw_gi 3 1 x7) fun x10 =>
  tw_bd (gw_gr 0 4 a0) fun x13 =>
  tw_bd (gw_gr 1 0 x13) fun x16 =>
  tw_bd (gw_lr 4 x16 a1) fun x19 =>
  tw_bd (gw_gi 8 1 x19) fun x22 =>
  tw_bd (gw_gr 0 4 a0) fun x25 =>
  tw_bd (gw_gr 1 0 x25) fun x28 =>
  tw_bd (gw_lr 4 x28 a1) fun x31 =>
  tw_bd (gw_gi 8 2 x31) fun x34 =>
  tw_rt ((x10 - (1 : Int32)) + (x22 * (x34 + (1 : Int32))))
theorem hdX1_headroomOf : yX1_headroomOf.cls = "LosslessFabric" ∧ (yX1_headroomOf.cls ≠ "java/lang/invoke/MethodHandle" ∧ yX1_headroomOf.cls ≠ "java/lang/invoke/VarHandle" ∧ (parseMethodDescriptor yX1_headroomOf.desc).map (fun d => d.parameters.length) = some 1) := by decide +kernel
set_option maxHeartbeats 4000000 in
theorem mx_X1_headroomOf {l : Launch} {K : GK} (hA : gw_A K) (a0 : Nat) (a1 : Int32) (t0 tZ : Hp) (r : Int32) (hf : fx_X1_headroomOf a0 a1 t0 = some (r, tZ)) : Met l yX1_headroomOf (ws_ yX1_headroomOf cX1_headroomOf 2 (some (.int))) ({ frames := 2, cells := 0, slots := 0, locals := 12 }) (va_Pc [.ref a0, .int a1] (gw_W K t0)) (gw_Qi K r tZ) 0 0 K.2.2.2.1 := by
  refine Met.ofW (cc := cX1_headroomOf) (maxL := 2) (ret := some (.int)) (by decide) rfl ?_
  intro p e s m args below meth c s₁ B hml hv
  obtain ⟨rfl, hP, hK, hX, hN, hL⟩ := hv
  have hx := B.exec
  have hb := B.bytes
  have hr := B.returns
  have hts := atoms_spec (ws := (ws_ yX1_headroomOf cX1_headroomOf 2 (some (.int)))) B.pre
  have hts : ∀ w ∈ lw_all, w.before _ s = true := fun w h => hts w (List.mem_cons_of_mem _ h)
  have hown : s.vm.findClass "LosslessFabric" = some m.cls := findClass_of_methodNamed B.named
  have hlk := B.notSynchronized
  have C : gw_C K "LosslessFabric" p s m _ c cX1_headroomOf := ⟨hx, hb, hts, hown, hK, hA, hX, hN, hL⟩
  have hS : va_S K.2.2.2.1 s.heap s.heap [] := va_S.rf
  have hl := lv_entry ([.ref a0, .int a1]) (n := 2) (Nat.le_of_ble_eq_true rfl)
  rw [lg_entry_eq]
  generalize (lg_sl ([.ref a0, .int a1]) ++ List.replicate (2 - (lg_sl ([.ref a0, .int a1])).length) Slot.unset).toArray = ls at hl ⊢
  have hl : lv_has ls 2 [(0, .ref a0), (1, .int a1)] := hl
  unfold fx_X1_headroomOf at hf
  refine lv_aload_n hx hb dX1_headroomOf_0 rfl (lv_at hl 0 rfl) ?_
  obtain ⟨x1, t2, e3, hf⟩ := tw_bdE hf
  refine gw_rget (ci := 0) (k := 11) (T := TX1) C hP rfl in_X1 (by decide) e3 q404 rfl dX1_headroomOf_1 (fun hP => ?_)
  obtain ⟨x4, t5, e6, hf⟩ := tw_bdE hf
  refine gw_rgetN (ci := 2) (k := 2) (T := TX3) C hP rfl in_X3 (by decide) e6 q355 rfl dX1_headroomOf_4 (fun hP => ?_)
  refine lv_iload_n hx hb dX1_headroomOf_7 rfl (lv_at hl 1 rfl) ?_
  obtain ⟨x7, t8, e9, hf⟩ := tw_bdE hf
  refine gw_aald C hP rfl e9 dX1_headroomOf_8 (fun hP => ?_)
  obtain ⟨x10, t11, e12, hf⟩ := tw_bdE hf
  refine gw_igetN (ci := 3) (k := 1) (T := TX4) C hP rfl in_X4 (by decide) e12 q242 rfl dX1_headroomOf_9 (fun hP => ?_)
  refine lv_iconst (v := (1 : Int32)) hx hb dX1_headroomOf_12 (by decide) ?_
  refine lv_isub hx hb dX1_headroomOf_13 ?_
  refine lv_aload_n hx hb dX1_headroomOf_14 rfl (lv_at hl 0 rfl) ?_
  obtain ⟨x13, t14, e15, hf⟩ := tw_bdE hf
  refine gw_rget (ci := 0) (k := 4) (T := TX1) C hP rfl in_X1 (by decide) e15 q394 rfl dX1_headroomOf_15 (fun hP => ?_)
  obtain ⟨x16, t17, e18, hf⟩ := tw_bdE hf
  refine gw_rgetN (ci := 1) (k := 0) (T := TX2) C hP rfl in_X2 (by decide) e18 q149 rfl dX1_headroomOf_18 (fun hP => ?_)
  refine lv_iload_n hx hb dX1_headroomOf_21 rfl (lv_at hl 1 rfl) ?_
  obtain ⟨x19, t20, e21, hf⟩ := tw_bdE hf
  refine gw_aald C hP rfl e21 dX1_headroomOf_22 (fun hP => ?_)
  obtain ⟨x22, t23, e24, hf⟩ := tw_bdE hf
  refine gw_igetN (ci := 8) (k := 1) (T := TX9) C hP rfl in_X9 (by decide) e24 q732 rfl dX1_headroomOf_23 (fun hP => ?_)
  refine lv_aload_n hx hb dX1_headroomOf_26 rfl (lv_at hl 0 rfl) ?_
  obtain ⟨x25, t26, e27, hf⟩ := tw_bdE hf
  refine gw_rget (ci := 0) (k := 4) (T := TX1) C hP rfl in_X1 (by decide) e27 q394 rfl dX1_headroomOf_27 (fun hP => ?_)
  obtain ⟨x28, t29, e30, hf⟩ := tw_bdE hf
  refine gw_rgetN (ci := 1) (k := 0) (T := TX2) C hP rfl in_X2 (by decide) e30 q149 rfl dX1_headroomOf_30 (fun hP => ?_)
  refine lv_iload_n hx hb dX1_headroomOf_33 rfl (lv_at hl 1 rfl) ?_
  obtain ⟨x31, t32, e33, hf⟩ := tw_bdE hf
  refine gw_aald C hP rfl e33 dX1_headroomOf_34 (fun hP => ?_)
  obtain ⟨x34, t35, e36, hf⟩ := tw_bdE hf
  refine gw_igetN (ci := 8) (k := 2) (T := TX9) C hP rfl in_X9 (by decide) e36 q735 rfl dX1_headroomOf_35 (fun hP => ?_)
  refine lv_iconst (v := (1 : Int32)) hx hb dX1_headroomOf_38 (by decide) ?_
  refine lv_iadd hx hb dX1_headroomOf_39 ?_
  refine lv_imul hx hb dX1_headroomOf_40 ?_
  refine lv_iadd hx hb dX1_headroomOf_41 ?_
  exact gw_ireti (tw_rtE hf).1 (tw_rtE hf).2 rfl rfl C hr hP hS hlk dX1_headroomOf_42
def fx_X1_headroom_J17  (w17_0 : Int32) : gM Int32 :=
  gw_rc w17_0
def fx_X1_headroom (a0 : Nat) (a1 : Int32) : gM Int32 :=
  gw_bc (gw_on 0 a0 (fx_X1_isLink a0 a1)) fun x1 =>
  if x1 = 0 then (fx_X1_headroom_J17 (-1 : Int32))
  else (gw_b0 (gw_on 0 a0 (fx_X1_headroomOf a0 a1)) fun x5 =>
 
  fx_X1_headroom_J17 x5)
theorem hdX1_headroom : yX1_headroom.cls = "LosslessFabric" ∧ (yX1_headroom.cls ≠ "java/lang/invoke/MethodHandle" ∧ yX1_headroom.cls ≠ "java/lang/invoke/VarHandle" ∧ (parseMethodDescriptor yX1_headroom.desc).map (fun d => d.parameters.length) = some 1) := by decide +kernel
set_option maxHeartbeats 4000000 in
theorem mx_X1_headroom {l : Launch} {K : GK} (hA : gw_A K) (a0 : Nat) (a1 : Int32) (t0 tZ : Hp) (r : Int32) (C0 S0 : Nat) (hf : fx_X1_headroom a0 a1 t0 = some (r, tZ, C0, S0)) : Met l yX1_headroom (ws_ yX1_headroom cX1_headroom 2 (some (.int))) ({ frames := 4, cells := C0, slots := S0, locals := 60 }) (va_Pc [.ref a0, .int a1] (gw_W K t0)) (gw_Qi K r tZ) C0 S0 K.2.2.2.1 := by
  refine Met.ofW (cc := cX1_headroom) (maxL := 2) (ret := some (.int)) (by decide) rfl ?_
  intro p e s m args below meth c s₁ B hml hv
  obtain ⟨rfl, hP, hK, hX, hN, hL⟩ := hv
  have hx := B.exec
  have hb := B.bytes
  have hr := B.returns
  have hts := atoms_spec (ws := (ws_ yX1_headroom cX1_headroom 2 (some (.int)))) B.pre
  have hts : ∀ w ∈ lw_all, w.before _ s = true := fun w h => hts w (List.mem_cons_of_mem _ h)
  have hown : s.vm.findClass "LosslessFabric" = some m.cls := findClass_of_methodNamed B.named
  have hlk := B.notSynchronized
  have C : gw_C K "LosslessFabric" p s m _ c cX1_headroom := ⟨hx, hb, hts, hown, hK, hA, hX, hN, hL⟩
  have hk : 0 + C0 = C0 := Nat.zero_add _
  have hn : 0 + S0 = S0 := Nat.zero_add _
  have hS : va_S K.2.2.2.1 s.heap s.heap [] := va_S.rf
  have hl := lv_entry ([.ref a0, .int a1]) (n := 2) (Nat.le_of_ble_eq_true rfl)
  rw [lg_entry_eq]
  generalize (lg_sl ([.ref a0, .int a1]) ++ List.replicate (2 - (lg_sl ([.ref a0, .int a1])).length) Slot.unset).toArray = ls at hl ⊢
  have hl : lv_has ls 2 [(0, .ref a0), (1, .int a1)] := hl
  unfold fx_X1_headroom at hf
  refine lv_aload_n hx hb dX1_headroom_0 rfl (lv_at hl 0 rfl) ?_
  refine lv_iload_n hx hb dX1_headroom_1 rfl (lv_at hl 1 rfl) ?_
  obtain ⟨x1, t2, c2, s2, C2, S2, e3, hf, hk, hn⟩ := gw_bcE hf hk hn
  refine gw_cVi (As := [.int a1]) (rest := []) (ci := 0) (T := TX1) (N := 18) C hml hP hS rfl (gw_onE e3).1 (mx_X1_isLink (l := l) (K := K) hA _ _ _ _ _ _ _ (gw_onE e3).2) (cwV 1 hts (lw_V q968 q970 qs22 q101 q971) rfl rfl rfl hdX1_isLink ⟨Nat.le_of_ble_eq_true rfl, Nat.le_of_ble_eq_true rfl⟩) rfl hl.1 rfl (Nat.le_of_ble_eq_true rfl) (Nat.le.intro hk) (Nat.le.intro hn) dX1_headroom_2 (fun H locs hP hS => ?_)
  have k17 : ∀ (w17_0 : Int32) (t4 : Hp) (k4 n4 C4 S4 : Nat) (H : Heap) (locs : List Loc) (ls : Array Slot), gw_P K t4 H → va_S K.2.2.2.1 s.heap H locs → k4 + C4 = C0 → n4 + S4 = S0 → lv_has ls 2 [] → fx_X1_headroom_J17 w17_0 t4 = some (r, tZ, C4, S4) → W p l e (headSpec (ws_ yX1_headroom cX1_headroom 2 (some (.int))) ({ frames := 4, cells := C0, slots := S0, locals := 60 })).room s m ([.ref a0, .int a1] : List Value).toArray below meth c H locs k4 n4 (MQ below (gw_Qi K r tZ) ([.ref a0, .int a1] : List Value).toArray s C0 S0 K.2.2.2.1) (F0 m 17 ls [.int w17_0]) := by
    intro w17_0 t4 k4 n4 C4 S4 H locs ls hP hS hk hn hl hf
    unfold fx_X1_headroom_J17 at hf
    obtain ⟨h1, h2, h3, h4⟩ := gw_rcE hf hk hn
    exact gw_ireti h1 h2 h3 h4 C hr hP hS hlk dX1_headroom_17
  refine lv_if_eq (tgt := 16) hx hb dX1_headroom_5 (by decide) (fun hc => ?_) (fun hc => ?_)
  · have hf := tw_ifT hc hf
    refine lv_iconst (v := (-1 : Int32)) hx hb dX1_headroom_16 (by decide) ?_
    exact k17 _ _ _ _ _ _ _ _ _ hP hS hk hn (lv_sub hl [] rfl) hf
  · have hf := tw_ifF hc hf
    refine lv_aload_n hx hb dX1_headroom_8 rfl (lv_at hl 0 rfl) ?_
    refine lv_iload_n hx hb dX1_headroom_9 rfl (lv_at hl 1 rfl) ?_
    obtain ⟨x5, t6, e7, hf⟩ := gw_b0E hf
    refine gw_cVi (As := [.int a1]) (rest := []) (ci := 0) (T := TX1) (N := 18) C hml hP hS rfl (gw_onE e7).1 (mx_X1_headroomOf (l := l) (K := K) hA _ _ _ _ _ (gw_onE e7).2) (cwV 1 hts (lw_V q1007 q1009 qs23 q101 q1010) rfl rfl rfl hdX1_headroomOf ⟨Nat.le_of_ble_eq_true rfl, Nat.le_of_ble_eq_true rfl⟩) rfl hl.1 rfl (Nat.le_of_ble_eq_true rfl) (Nat.le.intro hk) (Nat.le.intro hn) dX1_headroom_10 (fun H locs hP hS => ?_)
    refine lv_goto (tgt := 17) hx hb dX1_headroom_13 (by decide) ?_
    exact k17 _ _ _ _ _ _ _ _ _ hP hS hk hn (lv_sub hl [] rfl) hf
def fx_X1_inCycles_J41  (w41_0 : Nat) : gM Int32 :=
  gw_b0 (gw_on 11 w41_0 (fx_X12_inAny w41_0)) fun x5 =>
  gw_rc x5
def fx_X1_inCycles (a0 : Nat) (a1 : Int32) : gM Int32 :=
  gw_b0 (fx_X1_isIn (a1.toInt64) (0 : Int64) (1 : Int64)) fun x1 =>
  if x1 = 0 then (gw_rc (-1 : Int32))
  else (if a1 = 0 then (gw_b0 (gw_gr 0 11 a0) fun x17 =>
  gw_bc (gw_on 0 a0 (fx_X1_paused a0 x17)) fun x20 =>
 
  fx_X1_inCycles_J41 x20)
  else (gw_bc (gw_nw 11 5 tyX12) fun x8 =>
  gw_bc (gw_n1 3 a0) fun x11 =>
  gw_bc (fx_X12_init x8 a0 x11) fun _ =>
 
  fx_X1_inCycles_J41 x8))
theorem hdX1_inCycles : yX1_inCycles.cls = "LosslessFabric" ∧ (yX1_inCycles.cls ≠ "java/lang/invoke/MethodHandle" ∧ yX1_inCycles.cls ≠ "java/lang/invoke/VarHandle" ∧ (parseMethodDescriptor yX1_inCycles.desc).map (fun d => d.parameters.length) = some 1) := by decide +kernel
set_option maxHeartbeats 4000000 in
theorem mx_X1_inCycles {l : Launch} {K : GK} (hA : gw_A K) (a0 : Nat) (a1 : Int32) (t0 tZ : Hp) (r : Int32) (C0 S0 : Nat) (hf : fx_X1_inCycles a0 a1 t0 = some (r, tZ, C0, S0)) : Met l yX1_inCycles (ws_ yX1_inCycles cX1_inCycles 3 (some (.int))) ({ frames := 11, cells := C0, slots := S0, locals := 3221 }) (va_Pc [.ref a0, .int a1] (gw_W K t0)) (gw_Qi K r tZ) C0 S0 K.2.2.2.1 := by
  refine Met.ofW (cc := cX1_inCycles) (maxL := 3) (ret := some (.int)) (by decide) rfl ?_
  intro p e s m args below meth c s₁ B hml hv
  obtain ⟨rfl, hP, hK, hX, hN, hL⟩ := hv
  have hx := B.exec
  have hb := B.bytes
  have hr := B.returns
  have hts := atoms_spec (ws := (ws_ yX1_inCycles cX1_inCycles 3 (some (.int)))) B.pre
  have hts : ∀ w ∈ lw_all, w.before _ s = true := fun w h => hts w (List.mem_cons_of_mem _ h)
  have hown : s.vm.findClass "LosslessFabric" = some m.cls := findClass_of_methodNamed B.named
  have hlk := B.notSynchronized
  have C : gw_C K "LosslessFabric" p s m _ c cX1_inCycles := ⟨hx, hb, hts, hown, hK, hA, hX, hN, hL⟩
  have hk : 0 + C0 = C0 := Nat.zero_add _
  have hn : 0 + S0 = S0 := Nat.zero_add _
  have hS : va_S K.2.2.2.1 s.heap s.heap [] := va_S.rf
  have hl := lv_entry ([.ref a0, .int a1]) (n := 3) (Nat.le_of_ble_eq_true rfl)
  rw [lg_entry_eq]
  generalize (lg_sl ([.ref a0, .int a1]) ++ List.replicate (3 - (lg_sl ([.ref a0, .int a1])).length) Slot.unset).toArray = ls at hl ⊢
  have hl : lv_has ls 3 [(0, .ref a0), (1, .int a1)] := hl
  unfold fx_X1_inCycles at hf
  refine lv_iload_n hx hb dX1_inCycles_0 rfl (lv_at hl 1 rfl) ?_
  refine lv_i2l hx hb dX1_inCycles_1 rfl ?_
  refine lv_lconst (v := (0 : Int64)) hx hb dX1_inCycles_2 (by decide) ?_
  refine lv_lconst (v := (1 : Int64)) hx hb dX1_inCycles_3 (by decide) ?_
  obtain ⟨x1, t2, e3, hf⟩ := gw_b0E hf
  refine gw_cSi (As := [.long (a1.toInt64), .long (0 : Int64), .long (1 : Int64)]) (rest := []) C hml hP hS (mx_X1_isIn (l := l) (K := K) hA _ _ _ _ _ _ e3) (va_cwS 3 hts (lw_S q457 q458 q101 q459) rfl rfl rfl hdX1_isIn ⟨Nat.le_of_ble_eq_true rfl, Nat.le_of_ble_eq_true rfl⟩) rfl hl.1 rfl (Nat.le_of_ble_eq_true rfl) (Nat.le.intro hk) (Nat.le.intro hn) dX1_inCycles_4 (fun H locs hP hS => ?_)
  refine lv_if_ne (tgt := 12) hx hb dX1_inCycles_7 (by decide) (fun hc => ?_) (fun hc => ?_)
  · have hf := tw_ifF hc hf
    refine lv_iload_n hx hb dX1_inCycles_12 rfl (lv_at hl 1 rfl) ?_
    have k41 : ∀ (w41_0 : Nat) (t4 : Hp) (k4 n4 C4 S4 : Nat) (H : Heap) (locs : List Loc) (ls : Array Slot), gw_P K t4 H → va_S K.2.2.2.1 s.heap H locs → k4 + C4 = C0 → n4 + S4 = S0 → lv_has ls 3 [] → fx_X1_inCycles_J41 w41_0 t4 = some (r, tZ, C4, S4) → W p l e (headSpec (ws_ yX1_inCycles cX1_inCycles 3 (some (.int))) ({ frames := 11, cells := C0, slots := S0, locals := 3221 })).room s m ([.ref a0, .int a1] : List Value).toArray below meth c H locs k4 n4 (MQ below (gw_Qi K r tZ) ([.ref a0, .int a1] : List Value).toArray s C0 S0 K.2.2.2.1) (F0 m 41 ls [.ref w41_0]) := by
      intro w41_0 t4 k4 n4 C4 S4 H locs ls hP hS hk hn hl hf
      unfold fx_X1_inCycles_J41 at hf
      refine lv_astore_n (lv' := [(2, .ref w41_0)]) hx hb dX1_inCycles_41 rfl hl (by decide) rfl (fun ls hl => ?_)
      refine lv_aload_n hx hb dX1_inCycles_42 rfl (lv_at hl 0 rfl) ?_
      obtain ⟨x5, t6, e7, hf⟩ := gw_b0E hf
      refine gw_cVi (As := []) (rest := []) (ci := 11) (T := TX12) (N := 5) C hml hP hS rfl (gw_onE e7).1 (mx_X12_inAny (l := l) (K := K) hA _ _ _ _ (gw_onE e7).2) (cwV 0 hts (lw_V q1118 q1077 q1078 q125 q1079) rfl rfl rfl hdX12_inAny ⟨Nat.le_of_ble_eq_true rfl, Nat.le_of_ble_eq_true rfl⟩) rfl hl.1 rfl (Nat.le_of_ble_eq_true rfl) (Nat.le.intro hk) (Nat.le.intro hn) dX1_inCycles_43 (fun H locs hP hS => ?_)
      obtain ⟨h1, h2, h3, h4⟩ := gw_rcE hf hk hn
      exact gw_ireti h1 h2 h3 h4 C hr hP hS hlk dX1_inCycles_46
    refine lv_if_ne (tgt := 27) hx hb dX1_inCycles_13 (by decide) (fun hc => ?_) (fun hc => ?_)
    · have hf := tw_ifF hc hf
      obtain ⟨x8, t9, c9, s9, C9, S9, e10, hf, hk, hn⟩ := gw_bcE hf hk hn
      refine gw_new (T := TX12) C hP hS rfl in_X12 tyX12_ok e10 q1046 q1047 q125 (Nat.le.intro hk) (Nat.le.intro hn) dX1_inCycles_27 (fun H hP hS => ?_)
      refine lv_dup hx hb dX1_inCycles_30 rfl ?_
      refine lv_aload_n hx hb dX1_inCycles_31 rfl (lv_at hl 0 rfl) ?_
      refine lv_aload_n hx hb dX1_inCycles_32 rfl (lv_at hl 0 rfl) ?_
      obtain ⟨x11, t12, c12, s12, C12, S12, e13, hf, hk, hn⟩ := gw_bcE hf hk hn
      refine gw_mk3 (rest := [.ref a0, .ref x8, .ref x8]) C (hml.trans hl.1.symm) B.named hP hS e13 (show 4 + 3072 ≤ _ from Nat.le_of_ble_eq_true rfl) (Nat.le.intro hk) (Nat.le.intro hn) dX1_inCycles_33 (fun H hP hS => ?_)
      obtain ⟨x14, t15, c15, s15, C15, S15, e16, hf, hk, hn⟩ := gw_bcE hf hk hn
      refine gw_cIv (As := [.ref a0, .ref x11]) (rest := [.ref x8]) C hml hP hS (mx_X12_init (l := l) (K := K) hA _ _ _ _ _ _ _ _ e16) (cwI 2 hts (lw_meth q1052) rfl rfl rfl (hts _ q125) (hts _ q1050) (hts _ q1051) rfl hdX12_init.2 ⟨Nat.le_of_ble_eq_true rfl, Nat.le_of_ble_eq_true rfl⟩) rfl hl.1 rfl (Nat.le_of_ble_eq_true rfl) (Nat.le.intro hk) (Nat.le.intro hn) dX1_inCycles_38 (fun H locs hP hS => ?_)
      exact k41 _ _ _ _ _ _ _ _ _ hP hS hk hn (lv_sub hl [] rfl) hf
    · have hf := tw_ifT hc hf
      refine lv_aload_n hx hb dX1_inCycles_16 rfl (lv_at hl 0 rfl) ?_
      refine lv_aload_n hx hb dX1_inCycles_17 rfl (lv_at hl 0 rfl) ?_
      obtain ⟨x17, t18, e19, hf⟩ := gw_b0E hf
      refine gw_rget (ci := 0) (k := 11) (T := TX1) C hP rfl in_X1 (by decide) e19 q404 rfl dX1_inCycles_18 (fun hP => ?_)
      obtain ⟨x20, t21, c21, s21, C21, S21, e22, hf, hk, hn⟩ := gw_bcE hf hk hn
      refine gw_cVr (As := [.ref x17]) (rest := []) (ci := 0) (T := TX1) (N := 18) C hml hP hS rfl (gw_onE e22).1 (mx_X1_paused (l := l) (K := K) hA _ _ _ _ _ _ _ (gw_onE e22).2) (cwV 1 hts (lw_V q1042 q1044 qs24 q101 q1045) rfl rfl rfl hdX1_paused ⟨Nat.le_of_ble_eq_true rfl, Nat.le_of_ble_eq_true rfl⟩) rfl hl.1 rfl (Nat.le_of_ble_eq_true rfl) (Nat.le.intro hk) (Nat.le.intro hn) dX1_inCycles_21 (fun H locs hP hS => ?_)
      refine lv_goto (tgt := 41) hx hb dX1_inCycles_24 (by decide) ?_
      exact k41 _ _ _ _ _ _ _ _ _ hP hS hk hn (lv_sub hl [] rfl) hf
  · have hf := tw_ifT hc hf
    refine lv_iconst (v := (-1 : Int32)) hx hb dX1_inCycles_10 (by decide) ?_
    obtain ⟨h1, h2, h3, h4⟩ := gw_rcE hf hk hn
    exact gw_ireti h1 h2 h3 h4 C hr hP hS hlk dX1_inCycles_11
def fx_X2_init (a0 : Nat) : gM Unit :=
   gw_bc (gw_nq 4 (10 : Int32)) fun x1 =>
  gw_b0 (gw_pr 1 0 a0 x1) fun _ =>
  gw_bc (gw_nq 5 (8 : Int32)) fun x7 =>
  gw_b0 (gw_pr 1 1 a0 x7) fun _ =>
  gw_b0 (gw_pi 1 4 a0 (20 : Int32)) fun _ =>
  gw_b0 (gw_pi 1 5 a0 (26 : Int32)) fun _ =>
  gw_b0 (gw_pi 1 6 a0 (2 : Int32)) fun _ =>
  gw_b0 (gw_pi 1 7 a0 (50 : Int32)) fun _ =>
  gw_b0 (gw_pi 1 8 a0 (10 : Int32)) fun _ =>
  gw_b0 (gw_pi 1 9 a0 (4 : Int32)) fun _ =>
  gw_rc ()
theorem hdX2_init : yX2_init.cls = "LosslessFabric$Told" ∧ (yX2_init.cls ≠ "java/lang/invoke/MethodHandle" ∧ yX2_init.cls ≠ "java/lang/invoke/VarHandle" ∧ (parseMethodDescriptor yX2_init.desc).map (fun d => d.parameters.length) = some 0) := by decide +kernel
set_option maxHeartbeats 4000000 in
theorem mx_X2_init {l : Launch} {K : GK} (hA : gw_A K) (a0 : Nat) (t0 tZ : Hp) (r : Unit) (C0 S0 : Nat) (hf : fx_X2_init a0 t0 = some (r, tZ, C0, S0)) : Met l yX2_init (ws_ yX2_init cX2_init 1 (none)) ({ frames := 2, cells := C0, slots := S0, locals := 30 }) (va_Pc [.ref a0] (gw_W K t0)) (gw_Qv K tZ) C0 S0 K.2.2.2.1 := by
  refine Met.ofW (cc := cX2_init) (maxL := 1) (ret := none) (by decide) rfl ?_
  intro p e s m args below meth c s₁ B hml hv
  obtain ⟨rfl, hP, hK, hX, hN, hL⟩ := hv
  have hx := B.exec
  have hb := B.bytes
  have hr := B.returns
  have hts := atoms_spec (ws := (ws_ yX2_init cX2_init 1 (none))) B.pre
  have hts : ∀ w ∈ lw_all, w.before _ s = true := fun w h => hts w (List.mem_cons_of_mem _ h)
  have hown : s.vm.findClass "LosslessFabric$Told" = some m.cls := findClass_of_methodNamed B.named
  have hlk := B.notSynchronized
  have hin : meth.name = "<init>" := (name_of_methodNamed B.named B.method).1
  have C : gw_C K "LosslessFabric$Told" p s m _ c cX2_init := ⟨hx, hb, hts, hown, hK, hA, hX, hN, hL⟩
  have hk : 0 + C0 = C0 := Nat.zero_add _
  have hn : 0 + S0 = S0 := Nat.zero_add _
  have hS : va_S K.2.2.2.1 s.heap s.heap [] := va_S.rf
  have hl := lv_entry ([.ref a0]) (n := 1) (Nat.le_of_ble_eq_true rfl)
  rw [lg_entry_eq]
  generalize (lg_sl ([.ref a0]) ++ List.replicate (1 - (lg_sl ([.ref a0])).length) Slot.unset).toArray = ls at hl ⊢
  have hl : lv_has ls 1 [(0, .ref a0)] := hl
  unfold fx_X2_init at hf
  refine lv_aload_n hx hb dX2_init_0 rfl (lv_at hl 0 rfl) ?_
  refine W.objInit (rest := []) hx hb hown (hts _ q141) (hts _ q134) (hts _ q135) rfl (by rw [hml]; exact hl.1) rfl dX2_init_1 (Nat.le_of_ble_eq_true rfl) (Nat.le_of_ble_eq_true rfl) ?_
  refine W.eq (g2 := F0 m 4 ls []) rfl ?_
  refine lv_aload_n hx hb dX2_init_4 rfl (lv_at hl 0 rfl) ?_
  refine lv_bipush (v := (10 : Int32)) hx hb dX2_init_5 (by decide) ?_
  obtain ⟨x1, t2, c2, s2, C2, S2, e3, hf, hk, hn⟩ := gw_bcE hf hk hn
  refine gw_newq C hP hS e3 q142 q143 rfl (Nat.le.intro hk) (Nat.le.intro hn) dX2_init_7 (fun H hP hS => ?_)
  obtain ⟨x4, t5, e6, hf⟩ := gw_b0E hf
  refine gw_vputF (ci := 1) (k := 0) (T := TX2) C hP hS rfl in_X2 tyX2 tyX2_ok nmX2 (by decide) e6 q146 rfl rfl hin rfl rfl rfl dX2_init_10 (fun H locs hP hS => ?_)
  refine lv_aload_n hx hb dX2_init_13 rfl (lv_at hl 0 rfl) ?_
  refine lv_bipush (v := (8 : Int32)) hx hb dX2_init_14 (by decide) ?_
  obtain ⟨x7, t8, c8, s8, C8, S8, e9, hf, hk, hn⟩ := gw_bcE hf hk hn
  refine gw_newq C hP hS e9 q144 q145 rfl (Nat.le.intro hk) (Nat.le.intro hn) dX2_init_16 (fun H hP hS => ?_)
  obtain ⟨x10, t11, e12, hf⟩ := gw_b0E hf
  refine gw_vputF (ci := 1) (k := 1) (T := TX2) C hP hS rfl in_X2 tyX2 tyX2_ok nmX2 (by decide) e12 q151 rfl rfl hin rfl rfl rfl dX2_init_19 (fun H locs hP hS => ?_)
  refine lv_aload_n hx hb dX2_init_22 rfl (lv_at hl 0 rfl) ?_
  refine lv_bipush (v := (20 : Int32)) hx hb dX2_init_23 (by decide) ?_
  obtain ⟨x13, t14, e15, hf⟩ := gw_b0E hf
  refine gw_vput (ci := 1) (k := 4) (T := TX2) C hP hS rfl in_X2 tyX2 tyX2_ok nmX2 (by decide) e15 q167 rfl rfl (vp_nar_int _) rfl dX2_init_25 (fun H locs hP hS => ?_)
  refine lv_aload_n hx hb dX2_init_28 rfl (lv_at hl 0 rfl) ?_
  refine lv_bipush (v := (26 : Int32)) hx hb dX2_init_29 (by decide) ?_
  obtain ⟨x16, t17, e18, hf⟩ := gw_b0E hf
  refine gw_vput (ci := 1) (k := 5) (T := TX2) C hP hS rfl in_X2 tyX2 tyX2_ok nmX2 (by decide) e18 q170 rfl rfl (vp_nar_int _) rfl dX2_init_31 (fun H locs hP hS => ?_)
  refine lv_aload_n hx hb dX2_init_34 rfl (lv_at hl 0 rfl) ?_
  refine lv_iconst (v := (2 : Int32)) hx hb dX2_init_35 (by decide) ?_
  obtain ⟨x19, t20, e21, hf⟩ := gw_b0E hf
  refine gw_vput (ci := 1) (k := 6) (T := TX2) C hP hS rfl in_X2 tyX2 tyX2_ok nmX2 (by decide) e21 q173 rfl rfl (vp_nar_int _) rfl dX2_init_36 (fun H locs hP hS => ?_)
  refine lv_aload_n hx hb dX2_init_39 rfl (lv_at hl 0 rfl) ?_
  refine lv_bipush (v := (50 : Int32)) hx hb dX2_init_40 (by decide) ?_
  obtain ⟨x22, t23, e24, hf⟩ := gw_b0E hf
  refine gw_vput (ci := 1) (k := 7) (T := TX2) C hP hS rfl in_X2 tyX2 tyX2_ok nmX2 (by decide) e24 q176 rfl rfl (vp_nar_int _) rfl dX2_init_42 (fun H locs hP hS => ?_)
  refine lv_aload_n hx hb dX2_init_45 rfl (lv_at hl 0 rfl) ?_
  refine lv_bipush (v := (10 : Int32)) hx hb dX2_init_46 (by decide) ?_
  obtain ⟨x25, t26, e27, hf⟩ := gw_b0E hf
  refine gw_vput (ci := 1) (k := 8) (T := TX2) C hP hS rfl in_X2 tyX2 tyX2_ok nmX2 (by decide) e27 q179 rfl rfl (vp_nar_int _) rfl dX2_init_48 (fun H locs hP hS => ?_)
  refine lv_aload_n hx hb dX2_init_51 rfl (lv_at hl 0 rfl) ?_
  refine lv_iconst (v := (4 : Int32)) hx hb dX2_init_52 (by decide) ?_
  obtain ⟨x28, t29, e30, hf⟩ := gw_b0E hf
  refine gw_vput (ci := 1) (k := 9) (T := TX2) C hP hS rfl in_X2 tyX2 tyX2_ok nmX2 (by decide) e30 q182 rfl rfl (vp_nar_int _) rfl dX2_init_53 (fun H locs hP hS => ?_)
  obtain ⟨h1, h2, h3, h4⟩ := gw_rcE hf hk hn
  exact gw_iretv h2 h3 h4 C hr hP hS hlk dX2_init_56
def fx_X1_init (a0 : Nat) : gM Unit :=
   gw_bc (gw_na 3 (700 : Int32)) fun x1 =>
  gw_b0 (gw_pr 0 0 a0 x1) fun _ =>
  gw_b0 (gw_pi 0 3 a0 (-1 : Int32)) fun _ =>
  gw_bc (gw_nw 1 13 tyX2) fun x10 =>
  gw_bc (fx_X2_init x10) fun _ =>
  gw_b0 (gw_pr 0 4 a0 x10) fun _ =>
  gw_bc (gw_na 0 (80 : Int32)) fun x19 =>
  gw_b0 (gw_pr 0 5 a0 x19) fun _ =>
  gw_bc (gw_na 0 (80 : Int32)) fun x25 =>
  gw_b0 (gw_pr 0 6 a0 x25) fun _ =>
  gw_bc (gw_na 0 (80 : Int32)) fun x31 =>
  gw_b0 (gw_pr 0 7 a0 x31) fun _ =>
  gw_bc (gw_nq 9 (10 : Int32)) fun x37 =>
  gw_b0 (gw_pr 0 8 a0 x37) fun _ =>
  gw_bc (gw_n1 0 a0) fun x43 =>
  gw_b0 (gw_pr 0 10 a0 x43) fun _ =>
  gw_bc (gw_nw 2 4 tyX3) fun x49 =>
  gw_bc (fx_X3_init x49) fun _ =>
  gw_b0 (gw_pr 0 11 a0 x49) fun _ =>
  gw_bc (gw_nw 2 4 tyX3) fun x58 =>
  gw_bc (fx_X3_init x58) fun _ =>
  gw_b0 (gw_pr 0 12 a0 x58) fun _ =>
  gw_bc (gw_nw 2 4 tyX3) fun x67 =>
  gw_bc (fx_X3_init x67) fun _ =>
  gw_b0 (gw_pr 0 13 a0 x67) fun _ =>
  gw_bc (gw_nq 8 (20 : Int32)) fun x76 =>
  gw_b0 (gw_pr 0 14 a0 x76) fun _ =>
  gw_b0 (gw_on 0 a0 (fx_X1_begin a0)) fun _ =>
  gw_rc ()
theorem hdX1_init : yX1_init.cls = "LosslessFabric" ∧ (yX1_init.cls ≠ "java/lang/invoke/MethodHandle" ∧ yX1_init.cls ≠ "java/lang/invoke/VarHandle" ∧ (parseMethodDescriptor yX1_init.desc).map (fun d => d.parameters.length) = some 0) := by decide +kernel
set_option maxHeartbeats 4000000 in
theorem mx_X1_init {l : Launch} {K : GK} (hA : gw_A K) (a0 : Nat) (t0 tZ : Hp) (r : Unit) (C0 S0 : Nat) (hf : fx_X1_init a0 t0 = some (r, tZ, C0, S0)) : Met l yX1_init (ws_ yX1_init cX1_init 1 (none)) ({ frames := 6, cells := C0, slots := S0, locals := 3200 }) (va_Pc [.ref a0] (gw_W K t0)) (gw_Qv K tZ) C0 S0 K.2.2.2.1 := by
  refine Met.ofW (cc := cX1_init) (maxL := 1) (ret := none) (by decide) rfl ?_
  intro p e s m args below meth c s₁ B hml hv
  obtain ⟨rfl, hP, hK, hX, hN, hL⟩ := hv
  have hx := B.exec
  have hb := B.bytes
  have hr := B.returns
  have hts := atoms_spec (ws := (ws_ yX1_init cX1_init 1 (none))) B.pre
  have hts : ∀ w ∈ lw_all, w.before _ s = true := fun w h => hts w (List.mem_cons_of_mem _ h)
  have hown : s.vm.findClass "LosslessFabric" = some m.cls := findClass_of_methodNamed B.named
  have hlk := B.notSynchronized
  have hin : meth.name = "<init>" := (name_of_methodNamed B.named B.method).1
  have C : gw_C K "LosslessFabric" p s m _ c cX1_init := ⟨hx, hb, hts, hown, hK, hA, hX, hN, hL⟩
  have hk : 0 + C0 = C0 := Nat.zero_add _
  have hn : 0 + S0 = S0 := Nat.zero_add _
  have hS : va_S K.2.2.2.1 s.heap s.heap [] := va_S.rf
  have hl := lv_entry ([.ref a0]) (n := 1) (Nat.le_of_ble_eq_true rfl)
  rw [lg_entry_eq]
  generalize (lg_sl ([.ref a0]) ++ List.replicate (1 - (lg_sl ([.ref a0])).length) Slot.unset).toArray = ls at hl ⊢
  have hl : lv_has ls 1 [(0, .ref a0)] := hl
  unfold fx_X1_init at hf
  refine lv_aload_n hx hb dX1_init_0 rfl (lv_at hl 0 rfl) ?_
  refine W.objInit (rest := []) hx hb hown (hts _ q133) (hts _ q134) (hts _ q135) rfl (by rw [hml]; exact hl.1) rfl dX1_init_1 (Nat.le_of_ble_eq_true rfl) (Nat.le_of_ble_eq_true rfl) ?_
  refine W.eq (g2 := F0 m 4 ls []) rfl ?_
  refine lv_aload_n hx hb dX1_init_4 rfl (lv_at hl 0 rfl) ?_
  refine lv_sipush (v := (700 : Int32)) hx hb dX1_init_5 (by decide) ?_
  obtain ⟨x1, t2, c2, s2, C2, S2, e3, hf, hk, hn⟩ := gw_bcE hf hk hn
  refine gw_newa (atype := .byte) C hP hS e3 q217 rfl rfl (fun h => h) rfl (by decide) (Nat.le.intro hk) (Nat.le.intro hn) dX1_init_8 (fun H hP hS => ?_)
  obtain ⟨x4, t5, e6, hf⟩ := gw_b0E hf
  refine gw_vputF (ci := 0) (k := 0) (T := TX1) C hP hS rfl in_X1 tyX1 tyX1_ok nmX1 (by decide) e6 q389 rfl rfl hin rfl rfl rfl dX1_init_10 (fun H locs hP hS => ?_)
  refine lv_aload_n hx hb dX1_init_13 rfl (lv_at hl 0 rfl) ?_
  refine lv_iconst (v := (-1 : Int32)) hx hb dX1_init_14 (by decide) ?_
  obtain ⟨x7, t8, e9, hf⟩ := gw_b0E hf
  refine gw_vput (ci := 0) (k := 3) (T := TX1) C hP hS rfl in_X1 tyX1 tyX1_ok nmX1 (by decide) e9 q393 rfl rfl (vp_nar_int _) rfl dX1_init_15 (fun H locs hP hS => ?_)
  refine lv_aload_n hx hb dX1_init_18 rfl (lv_at hl 0 rfl) ?_
  obtain ⟨x10, t11, c11, s11, C11, S11, e12, hf, hk, hn⟩ := gw_bcE hf hk hn
  refine gw_new (T := TX2) C hP hS rfl in_X2 tyX2_ok e12 q136 q137 q102 (Nat.le.intro hk) (Nat.le.intro hn) dX1_init_19 (fun H hP hS => ?_)
  refine lv_dup hx hb dX1_init_22 rfl ?_
  obtain ⟨x13, t14, c14, s14, C14, S14, e15, hf, hk, hn⟩ := gw_bcE hf hk hn
  refine gw_cJv (As := []) (rest := [.ref x10, .ref a0]) C hml hP hS (mx_X2_init (l := l) (K := K) hA _ _ _ _ _ _ e15) ⟨va_cnB 0 hts (lw_meth q140) rfl rfl rfl (hN _ q138 rfl) (hts _ q102) hdX2_init.2 ⟨Nat.le_of_ble_eq_true rfl, Nat.le_of_ble_eq_true rfl⟩, rfl, hts _ q139⟩ rfl hl.1 rfl (Nat.le_of_ble_eq_true rfl) (Nat.le.intro hk) (Nat.le.intro hn) dX1_init_23 (fun H locs hP hS => ?_)
  obtain ⟨x16, t17, e18, hf⟩ := gw_b0E hf
  refine gw_vput (ci := 0) (k := 4) (T := TX1) C hP hS rfl in_X1 tyX1 tyX1_ok nmX1 (by decide) e18 q394 rfl rfl rfl rfl dX1_init_26 (fun H locs hP hS => ?_)
  refine lv_aload_n hx hb dX1_init_29 rfl (lv_at hl 0 rfl) ?_
  refine lv_bipush (v := (80 : Int32)) hx hb dX1_init_30 (by decide) ?_
  obtain ⟨x19, t20, c20, s20, C20, S20, e21, hf, hk, hn⟩ := gw_bcE hf hk hn
  refine gw_newa (atype := .int) C hP hS e21 q290 rfl rfl (fun h => h) rfl (by decide) (Nat.le.intro hk) (Nat.le.intro hn) dX1_init_32 (fun H hP hS => ?_)
  obtain ⟨x22, t23, e24, hf⟩ := gw_b0E hf
  refine gw_vputF (ci := 0) (k := 5) (T := TX1) C hP hS rfl in_X1 tyX1 tyX1_ok nmX1 (by decide) e24 q397 rfl rfl hin rfl rfl rfl dX1_init_34 (fun H locs hP hS => ?_)
  refine lv_aload_n hx hb dX1_init_37 rfl (lv_at hl 0 rfl) ?_
  refine lv_bipush (v := (80 : Int32)) hx hb dX1_init_38 (by decide) ?_
  obtain ⟨x25, t26, c26, s26, C26, S26, e27, hf, hk, hn⟩ := gw_bcE hf hk hn
  refine gw_newa (atype := .int) C hP hS e27 q290 rfl rfl (fun h => h) rfl (by decide) (Nat.le.intro hk) (Nat.le.intro hn) dX1_init_40 (fun H hP hS => ?_)
  obtain ⟨x28, t29, e30, hf⟩ := gw_b0E hf
  refine gw_vputF (ci := 0) (k := 6) (T := TX1) C hP hS rfl in_X1 tyX1 tyX1_ok nmX1 (by decide) e30 q398 rfl rfl hin rfl rfl rfl dX1_init_42 (fun H locs hP hS => ?_)
  refine lv_aload_n hx hb dX1_init_45 rfl (lv_at hl 0 rfl) ?_
  refine lv_bipush (v := (80 : Int32)) hx hb dX1_init_46 (by decide) ?_
  obtain ⟨x31, t32, c32, s32, C32, S32, e33, hf, hk, hn⟩ := gw_bcE hf hk hn
  refine gw_newa (atype := .int) C hP hS e33 q290 rfl rfl (fun h => h) rfl (by decide) (Nat.le.intro hk) (Nat.le.intro hn) dX1_init_48 (fun H hP hS => ?_)
  obtain ⟨x34, t35, e36, hf⟩ := gw_b0E hf
  refine gw_vputF (ci := 0) (k := 7) (T := TX1) C hP hS rfl in_X1 tyX1 tyX1_ok nmX1 (by decide) e36 q399 rfl rfl hin rfl rfl rfl dX1_init_50 (fun H locs hP hS => ?_)
  refine lv_aload_n hx hb dX1_init_53 rfl (lv_at hl 0 rfl) ?_
  refine lv_bipush (v := (10 : Int32)) hx hb dX1_init_54 (by decide) ?_
  obtain ⟨x37, t38, c38, s38, C38, S38, e39, hf, hk, hn⟩ := gw_bcE hf hk hn
  refine gw_newq C hP hS e39 q218 q219 rfl (Nat.le.intro hk) (Nat.le.intro hn) dX1_init_56 (fun H hP hS => ?_)
  obtain ⟨x40, t41, e42, hf⟩ := gw_b0E hf
  refine gw_vputF (ci := 0) (k := 8) (T := TX1) C hP hS rfl in_X1 tyX1 tyX1_ok nmX1 (by decide) e42 q400 rfl rfl hin rfl rfl rfl dX1_init_59 (fun H locs hP hS => ?_)
  refine lv_aload_n hx hb dX1_init_62 rfl (lv_at hl 0 rfl) ?_
  refine lv_aload_n hx hb dX1_init_63 rfl (lv_at hl 0 rfl) ?_
  obtain ⟨x43, t44, c44, s44, C44, S44, e45, hf, hk, hn⟩ := gw_bcE hf hk hn
  refine gw_mk0 (rest := [.ref a0]) C (hml.trans hl.1.symm) B.named hP hS e45 (show 2 + 3072 ≤ _ from Nat.le_of_ble_eq_true rfl) (Nat.le.intro hk) (Nat.le.intro hn) dX1_init_64 (fun H hP hS => ?_)
  obtain ⟨x46, t47, e48, hf⟩ := gw_b0E hf
  refine gw_vputF (ci := 0) (k := 10) (T := TX1) C hP hS rfl in_X1 tyX1 tyX1_ok nmX1 (by decide) e48 q402 rfl rfl hin rfl rfl rfl dX1_init_69 (fun H locs hP hS => ?_)
  refine lv_aload_n hx hb dX1_init_72 rfl (lv_at hl 0 rfl) ?_
  obtain ⟨x49, t50, c50, s50, C50, S50, e51, hf, hk, hn⟩ := gw_bcE hf hk hn
  refine gw_new (T := TX3) C hP hS rfl in_X3 tyX3_ok e51 q223 q224 q103 (Nat.le.intro hk) (Nat.le.intro hn) dX1_init_73 (fun H hP hS => ?_)
  refine lv_dup hx hb dX1_init_76 rfl ?_
  obtain ⟨x52, t53, c53, s53, C53, S53, e54, hf, hk, hn⟩ := gw_bcE hf hk hn
  refine gw_cJv (As := []) (rest := [.ref x49, .ref a0]) C hml hP hS (mx_X3_init (l := l) (K := K) hA _ _ _ _ _ _ e54) ⟨va_cnB 0 hts (lw_meth q227) rfl rfl rfl (hN _ q225 rfl) (hts _ q103) hdX3_init.2 ⟨Nat.le_of_ble_eq_true rfl, Nat.le_of_ble_eq_true rfl⟩, rfl, hts _ q226⟩ rfl hl.1 rfl (Nat.le_of_ble_eq_true rfl) (Nat.le.intro hk) (Nat.le.intro hn) dX1_init_77 (fun H locs hP hS => ?_)
  obtain ⟨x55, t56, e57, hf⟩ := gw_b0E hf
  refine gw_vputF (ci := 0) (k := 11) (T := TX1) C hP hS rfl in_X1 tyX1 tyX1_ok nmX1 (by decide) e57 q404 rfl rfl hin rfl rfl rfl dX1_init_80 (fun H locs hP hS => ?_)
  refine lv_aload_n hx hb dX1_init_83 rfl (lv_at hl 0 rfl) ?_
  obtain ⟨x58, t59, c59, s59, C59, S59, e60, hf, hk, hn⟩ := gw_bcE hf hk hn
  refine gw_new (T := TX3) C hP hS rfl in_X3 tyX3_ok e60 q223 q224 q103 (Nat.le.intro hk) (Nat.le.intro hn) dX1_init_84 (fun H hP hS => ?_)
  refine lv_dup hx hb dX1_init_87 rfl ?_
  obtain ⟨x61, t62, c62, s62, C62, S62, e63, hf, hk, hn⟩ := gw_bcE hf hk hn
  refine gw_cJv (As := []) (rest := [.ref x58, .ref a0]) C hml hP hS (mx_X3_init (l := l) (K := K) hA _ _ _ _ _ _ e63) ⟨va_cnB 0 hts (lw_meth q227) rfl rfl rfl (hN _ q225 rfl) (hts _ q103) hdX3_init.2 ⟨Nat.le_of_ble_eq_true rfl, Nat.le_of_ble_eq_true rfl⟩, rfl, hts _ q226⟩ rfl hl.1 rfl (Nat.le_of_ble_eq_true rfl) (Nat.le.intro hk) (Nat.le.intro hn) dX1_init_88 (fun H locs hP hS => ?_)
  obtain ⟨x64, t65, e66, hf⟩ := gw_b0E hf
  refine gw_vputF (ci := 0) (k := 12) (T := TX1) C hP hS rfl in_X1 tyX1 tyX1_ok nmX1 (by decide) e66 q405 rfl rfl hin rfl rfl rfl dX1_init_91 (fun H locs hP hS => ?_)
  refine lv_aload_n hx hb dX1_init_94 rfl (lv_at hl 0 rfl) ?_
  obtain ⟨x67, t68, c68, s68, C68, S68, e69, hf, hk, hn⟩ := gw_bcE hf hk hn
  refine gw_new (T := TX3) C hP hS rfl in_X3 tyX3_ok e69 q223 q224 q103 (Nat.le.intro hk) (Nat.le.intro hn) dX1_init_95 (fun H hP hS => ?_)
  refine lv_dup hx hb dX1_init_98 rfl ?_
  obtain ⟨x70, t71, c71, s71, C71, S71, e72, hf, hk, hn⟩ := gw_bcE hf hk hn
  refine gw_cJv (As := []) (rest := [.ref x67, .ref a0]) C hml hP hS (mx_X3_init (l := l) (K := K) hA _ _ _ _ _ _ e72) ⟨va_cnB 0 hts (lw_meth q227) rfl rfl rfl (hN _ q225 rfl) (hts _ q103) hdX3_init.2 ⟨Nat.le_of_ble_eq_true rfl, Nat.le_of_ble_eq_true rfl⟩, rfl, hts _ q226⟩ rfl hl.1 rfl (Nat.le_of_ble_eq_true rfl) (Nat.le.intro hk) (Nat.le.intro hn) dX1_init_99 (fun H locs hP hS => ?_)
  obtain ⟨x73, t74, e75, hf⟩ := gw_b0E hf
  refine gw_vputF (ci := 0) (k := 13) (T := TX1) C hP hS rfl in_X1 tyX1 tyX1_ok nmX1 (by decide) e75 q406 rfl rfl hin rfl rfl rfl dX1_init_102 (fun H locs hP hS => ?_)
  refine lv_aload_n hx hb dX1_init_105 rfl (lv_at hl 0 rfl) ?_
  refine lv_bipush (v := (20 : Int32)) hx hb dX1_init_106 (by decide) ?_
  obtain ⟨x76, t77, c77, s77, C77, S77, e78, hf, hk, hn⟩ := gw_bcE hf hk hn
  refine gw_newq C hP hS e78 q223 q368 rfl (Nat.le.intro hk) (Nat.le.intro hn) dX1_init_108 (fun H hP hS => ?_)
  obtain ⟨x79, t80, e81, hf⟩ := gw_b0E hf
  refine gw_vputF (ci := 0) (k := 14) (T := TX1) C hP hS rfl in_X1 tyX1 tyX1_ok nmX1 (by decide) e81 q407 rfl rfl hin rfl rfl rfl dX1_init_111 (fun H locs hP hS => ?_)
  refine lv_aload_n hx hb dX1_init_114 rfl (lv_at hl 0 rfl) ?_
  obtain ⟨x82, t83, e84, hf⟩ := gw_b0E hf
  refine gw_cVv (As := []) (rest := []) (ci := 0) (T := TX1) (N := 18) C hml hP hS rfl (gw_onE e84).1 (mx_X1_begin (l := l) (K := K) hA _ _ _ _ (gw_onE e84).2) (cwV 0 hts (lw_V q369 q371 qs1 q101 q372) rfl rfl rfl hdX1_begin ⟨Nat.le_of_ble_eq_true rfl, Nat.le_of_ble_eq_true rfl⟩) rfl hl.1 rfl (Nat.le_of_ble_eq_true rfl) (Nat.le.intro hk) (Nat.le.intro hn) dX1_init_115 (fun H locs hP hS => ?_)
  obtain ⟨h1, h2, h3, h4⟩ := gw_rcE hf hk hn
  exact gw_iretv h2 h3 h4 C hr hP hS hlk dX1_init_118