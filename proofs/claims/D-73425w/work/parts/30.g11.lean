def fx_X7_takeWord_J123 (a0 : Nat) (x34 : Int32) (sf85 : Int32 → HM Unit) (v85_1 : Int32) (w123_0 : Int32) : HM Unit :=
  tw_bd (gw_pi 6 4 a0 ((x34 <<< ((5 : Int32) &&& 31)) ||| w123_0)) fun _ =>
 
  sf85 (v85_1 + (1 : Int32))
def fx_X7_takeWord_L85 (a0 : Nat) (sf85 : Int32 → HM Unit) (v85_1 : Int32) : HM Unit :=
  tw_bd (gw_gi 6 5 a0) fun x31 =>
  if (x31 + (6 : Int32)) ≤ v85_1 then (tw_rt ())
  else (tw_bd (gw_gi 6 4 a0) fun x34 =>
  tw_bd (gw_gi 6 2 a0) fun x37 =>
  if x37 ≤ v85_1 then (fx_X7_takeWord_J123 a0 x34 sf85 v85_1 (0 : Int32))
  else (tw_bd (gw_on 6 a0 (fx_X7_see a0 v85_1)) fun x44 =>
 
  fx_X7_takeWord_J123 a0 x34 sf85 v85_1 (x44 - (96 : Int32))))
def fx_X7_takeWord_J63 (a0 : Nat) (w63_0 : Int32) : HM Unit :=
  tw_bd (gw_pi 6 3 a0 w63_0) fun _ =>
  tw_bd (gw_gi 6 3 a0) fun x21 =>
  if x21 = (2 : Int32) then (tw_bd (gw_pi 6 4 a0 (0 : Int32)) fun _ =>
  tw_bd (gw_gi 6 5 a0) fun x27 =>
 
  tw_lp (fx_X7_takeWord_L85 a0) (fun _ _ => none) tw_fu x27)
  else (tw_rt ())
def fx_X7_takeWord_L0 (a0 : Nat) (sf0 : HM Unit)  : HM Unit :=
  tw_bd (gw_gi 6 2 a0) fun x2 =>
  tw_bd (gw_on 6 a0 (fx_X7_isSmall a0 x2)) fun x5 =>
  if x5 = 0 then (tw_bd (gw_on 6 a0 (fx_X7_key a0)) fun x8 =>
  tw_bd (gw_pi 6 4 a0 x8) fun _ =>
  tw_bd (gw_gi 6 4 a0) fun x14 =>
  if x14 < 0 then (tw_bd (gw_gi 6 2 a0) fun x47 =>
  tw_bd (gw_gi 6 5 a0) fun x50 =>
  if (x47 - x50) ≤ (6 : Int32) then (fx_X7_takeWord_J63 a0 (2 : Int32))
  else (fx_X7_takeWord_J63 a0 (5 : Int32)))
  else (fx_X7_takeWord_J63 a0 (1 : Int32)))
  else (tw_bd (gw_gi 6 2 a0) fun x53 =>
  tw_bd (gw_pi 6 2 a0 (x53 + (1 : Int32))) fun _ =>
 
  sf0)
def fx_X7_takeWord (a0 : Nat) : HM Unit :=
  tw_lp (fx_X7_takeWord_L0 a0) (fun _ => none) tw_fu
theorem hdX7_takeWord : yX7_takeWord.cls = "LosslessFabric$Reader" ∧ (yX7_takeWord.cls ≠ "java/lang/invoke/MethodHandle" ∧ yX7_takeWord.cls ≠ "java/lang/invoke/VarHandle" ∧ (parseMethodDescriptor yX7_takeWord.desc).map (fun d => d.parameters.length) = some 0) := by decide +kernel
set_option maxHeartbeats 4000000 in
theorem mx_X7_takeWord {l : Launch} {K : GK} (hA : gw_A K) (a0 : Nat) (t0 tZ : Hp) (r : Unit) (hf : fx_X7_takeWord a0 t0 = some (r, tZ)) : Met l yX7_takeWord (ws_ yX7_takeWord cX7_takeWord 2 (none)) ({ frames := 6, cells := 0, slots := 0, locals := 150 }) (va_Pc [.ref a0] (gw_W K t0)) (gw_Qv K tZ) 0 0 K.2.2.2.1 := by
  refine Met.ofW (cc := cX7_takeWord) (maxL := 2) (ret := none) (by decide) rfl ?_
  intro p e s m args below meth c s₁ B hml hv
  obtain ⟨rfl, hP, hK, hX, hN, hL⟩ := hv
  have hx := B.exec
  have hb := B.bytes
  have hr := B.returns
  have hts := atoms_spec (ws := (ws_ yX7_takeWord cX7_takeWord 2 (none))) B.pre
  have hts : ∀ w ∈ lw_all, w.before _ s = true := fun w h => hts w (List.mem_cons_of_mem _ h)
  have hown : s.vm.findClass "LosslessFabric$Reader" = some m.cls := findClass_of_methodNamed B.named
  have hlk := B.notSynchronized
  have C : gw_C K "LosslessFabric$Reader" p s m _ c cX7_takeWord := ⟨hx, hb, hts, hown, hK, hA, hX, hN, hL⟩
  have hS : va_S K.2.2.2.1 s.heap s.heap [] := va_S.rf
  have hl := lv_entry ([.ref a0]) (n := 2) (Nat.le_of_ble_eq_true rfl)
  rw [lg_entry_eq]
  generalize (lg_sl ([.ref a0]) ++ List.replicate (2 - (lg_sl ([.ref a0])).length) Slot.unset).toArray = ls at hl ⊢
  have hl : lv_has ls 2 [(0, .ref a0)] := hl
  unfold fx_X7_takeWord at hf
  have k0 : ∀ (n : Nat)  (t1 : Hp) (H : Heap) (locs : List Loc) (ls : Array Slot), gw_P K t1 H → va_S K.2.2.2.1 s.heap H locs → lv_has ls 2 [(0, .ref a0)] → tw_lp (fx_X7_takeWord_L0 a0) (fun _ => none) n  t1 = some (r, tZ) → W p l e (headSpec (ws_ yX7_takeWord cX7_takeWord 2 (none)) ({ frames := 6, cells := 0, slots := 0, locals := 150 })).room s m ([.ref a0] : List Value).toArray below meth c H locs 0 0 (MQ below (gw_Qv K tZ) ([.ref a0] : List Value).toArray s 0 0 K.2.2.2.1) (F0 m 0 ls []) := by
    intro n
    induction n with
    | zero => intro t1 H locs ls hP hS hl hf; exact (tw_no hf).elim
    | succ n ih0 =>
      intro t1 H locs ls hP hS hl hf
      obtain ⟨sf0, hs0⟩ : ∃ f, f = tw_lp (fx_X7_takeWord_L0 a0) (fun _ => none) n := ⟨_, rfl⟩
      rw [← hs0] at ih0
      have hf : fx_X7_takeWord_L0 a0 sf0  t1 = some (r, tZ) := by rw [hs0]; exact hf
      clear hs0
      unfold fx_X7_takeWord_L0 at hf
      refine lv_aload_n hx hb dX7_takeWord_0 rfl (lv_at hl 0 rfl) ?_
      refine lv_aload_n hx hb dX7_takeWord_1 rfl (lv_at hl 0 rfl) ?_
      obtain ⟨x2, t3, e4, hf⟩ := tw_bdE hf
      refine gw_iget (ci := 6) (k := 2) (T := TX7) C hP rfl in_X7 (by decide) e4 q608 rfl dX7_takeWord_2 (fun hP => ?_)
      obtain ⟨x5, t6, e7, hf⟩ := tw_bdE hf
      refine gw_cVi (As := [.int x2]) (rest := []) (ci := 6) (T := TX7) (N := 7) C hml hP hS rfl (gw_onE e7).1 (mx_X7_isSmall (l := l) (K := K) hA _ _ _ _ _ (gw_onE e7).2) (cwV 1 hts (lw_V q479 q481 qs4 q107 q482) rfl rfl rfl hdX7_isSmall ⟨Nat.le_of_ble_eq_true rfl, Nat.le_of_ble_eq_true rfl⟩) rfl hl.1 rfl (Nat.le_of_ble_eq_true rfl) (Nat.zero_le _) (Nat.zero_le _) dX7_takeWord_5 (fun H locs hP hS => ?_)
      refine lv_if_eq (tgt := 24) hx hb dX7_takeWord_8 (by decide) (fun hc => ?_) (fun hc => ?_)
      · have hf := tw_ifT hc hf
        refine lv_aload_n hx hb dX7_takeWord_24 rfl (lv_at hl 0 rfl) ?_
        refine lv_aload_n hx hb dX7_takeWord_25 rfl (lv_at hl 0 rfl) ?_
        obtain ⟨x8, t9, e10, hf⟩ := tw_bdE hf
        refine gw_cVi (As := []) (rest := [.ref a0]) (ci := 6) (T := TX7) (N := 7) C hml hP hS rfl (gw_onE e10).1 (mx_X7_key (l := l) (K := K) hA _ _ _ _ (gw_onE e10).2) (cwV 0 hts (lw_V q490 q492 qs6 q107 q493) rfl rfl rfl hdX7_key ⟨Nat.le_of_ble_eq_true rfl, Nat.le_of_ble_eq_true rfl⟩) rfl hl.1 rfl (Nat.le_of_ble_eq_true rfl) (Nat.zero_le _) (Nat.zero_le _) dX7_takeWord_26 (fun H locs hP hS => ?_)
        obtain ⟨x11, t12, e13, hf⟩ := tw_bdE hf
        refine gw_vput (ci := 6) (k := 4) (T := TX7) C hP hS rfl in_X7 tyX7 tyX7_ok nmX7 (by decide) e13 q610 rfl rfl (vp_nar_int _) rfl dX7_takeWord_29 (fun H locs hP hS => ?_)
        refine lv_aload_n hx hb dX7_takeWord_32 rfl (lv_at hl 0 rfl) ?_
        refine lv_aload_n hx hb dX7_takeWord_33 rfl (lv_at hl 0 rfl) ?_
        obtain ⟨x14, t15, e16, hf⟩ := tw_bdE hf
        refine gw_iget (ci := 6) (k := 4) (T := TX7) C hP rfl in_X7 (by decide) e16 q610 rfl dX7_takeWord_34 (fun hP => ?_)
        have k63 : ∀ (w63_0 : Int32) (t17 : Hp) (H : Heap) (locs : List Loc) (ls : Array Slot), gw_P K t17 H → va_S K.2.2.2.1 s.heap H locs → lv_has ls 2 [(0, .ref a0)] → fx_X7_takeWord_J63 a0 w63_0 t17 = some (r, tZ) → W p l e (headSpec (ws_ yX7_takeWord cX7_takeWord 2 (none)) ({ frames := 6, cells := 0, slots := 0, locals := 150 })).room s m ([.ref a0] : List Value).toArray below meth c H locs 0 0 (MQ below (gw_Qv K tZ) ([.ref a0] : List Value).toArray s 0 0 K.2.2.2.1) (F0 m 63 ls [.int w63_0, .ref a0]) := by
          intro w63_0 t17 H locs ls hP hS hl hf
          unfold fx_X7_takeWord_J63 at hf
          obtain ⟨x18, t19, e20, hf⟩ := tw_bdE hf
          refine gw_vput (ci := 6) (k := 3) (T := TX7) C hP hS rfl in_X7 tyX7 tyX7_ok nmX7 (by decide) e20 q609 rfl rfl (vp_nar_int _) rfl dX7_takeWord_63 (fun H locs hP hS => ?_)
          refine lv_aload_n hx hb dX7_takeWord_66 rfl (lv_at hl 0 rfl) ?_
          obtain ⟨x21, t22, e23, hf⟩ := tw_bdE hf
          refine gw_iget (ci := 6) (k := 3) (T := TX7) C hP rfl in_X7 (by decide) e23 q609 rfl dX7_takeWord_67 (fun hP => ?_)
          refine lv_iconst (v := (2 : Int32)) hx hb dX7_takeWord_70 (by decide) ?_
          refine lv_icmp_eq (tgt := 75) hx hb dX7_takeWord_71 (by decide) (fun hc => ?_) (fun hc => ?_)
          · have hf := tw_ifT hc hf
            refine lv_aload_n hx hb dX7_takeWord_75 rfl (lv_at hl 0 rfl) ?_
            refine lv_iconst (v := (0 : Int32)) hx hb dX7_takeWord_76 (by decide) ?_
            obtain ⟨x24, t25, e26, hf⟩ := tw_bdE hf
            refine gw_vput (ci := 6) (k := 4) (T := TX7) C hP hS rfl in_X7 tyX7 tyX7_ok nmX7 (by decide) e26 q610 rfl rfl (vp_nar_int _) rfl dX7_takeWord_77 (fun H locs hP hS => ?_)
            refine lv_aload_n hx hb dX7_takeWord_80 rfl (lv_at hl 0 rfl) ?_
            obtain ⟨x27, t28, e29, hf⟩ := tw_bdE hf
            refine gw_iget (ci := 6) (k := 5) (T := TX7) C hP rfl in_X7 (by decide) e29 q611 rfl dX7_takeWord_81 (fun hP => ?_)
            refine lv_istore_n (lv' := [(1, .int x27), (0, .ref a0)]) hx hb dX7_takeWord_84 rfl hl (by decide) rfl (fun ls hl => ?_)
            have k85 : ∀ (n : Nat) (v85_1 : Int32) (t30 : Hp) (H : Heap) (locs : List Loc) (ls : Array Slot), gw_P K t30 H → va_S K.2.2.2.1 s.heap H locs → lv_has ls 2 [(0, .ref a0), (1, .int v85_1)] → tw_lp (fx_X7_takeWord_L85 a0) (fun _ _ => none) n v85_1 t30 = some (r, tZ) → W p l e (headSpec (ws_ yX7_takeWord cX7_takeWord 2 (none)) ({ frames := 6, cells := 0, slots := 0, locals := 150 })).room s m ([.ref a0] : List Value).toArray below meth c H locs 0 0 (MQ below (gw_Qv K tZ) ([.ref a0] : List Value).toArray s 0 0 K.2.2.2.1) (F0 m 85 ls []) := by
              intro n
              induction n with
              | zero => intro v85_1 t30 H locs ls hP hS hl hf; exact (tw_no hf).elim
              | succ n ih85 =>
                intro v85_1 t30 H locs ls hP hS hl hf
                obtain ⟨sf85, hs85⟩ : ∃ f, f = tw_lp (fx_X7_takeWord_L85 a0) (fun _ _ => none) n := ⟨_, rfl⟩
                rw [← hs85] at ih85
                have hf : fx_X7_takeWord_L85 a0 sf85 v85_1 t30 = some (r, tZ) := by rw [hs85]; exact hf
                clear hs85
                unfold fx_X7_takeWord_L85 at hf
                refine lv_iload_n hx hb dX7_takeWord_85 rfl (lv_at hl 1 rfl) ?_
                refine lv_aload_n hx hb dX7_takeWord_86 rfl (lv_at hl 0 rfl) ?_
                obtain ⟨x31, t32, e33, hf⟩ := tw_bdE hf
                refine gw_iget (ci := 6) (k := 5) (T := TX7) C hP rfl in_X7 (by decide) e33 q611 rfl dX7_takeWord_87 (fun hP => ?_)
                refine lv_bipush (v := (6 : Int32)) hx hb dX7_takeWord_90 (by decide) ?_
                refine lv_iadd hx hb dX7_takeWord_92 ?_
                refine lv_icmp_ge (tgt := 133) hx hb dX7_takeWord_93 (by decide) (fun hc => ?_) (fun hc => ?_)
                · have hf := tw_ifT hc hf
                  exact gw_iretv (tw_rtE hf).2 rfl rfl C hr hP hS hlk dX7_takeWord_133
                · have hf := tw_ifF hc hf
                  refine lv_aload_n hx hb dX7_takeWord_96 rfl (lv_at hl 0 rfl) ?_
                  refine lv_aload_n hx hb dX7_takeWord_97 rfl (lv_at hl 0 rfl) ?_
                  obtain ⟨x34, t35, e36, hf⟩ := tw_bdE hf
                  refine gw_iget (ci := 6) (k := 4) (T := TX7) C hP rfl in_X7 (by decide) e36 q610 rfl dX7_takeWord_98 (fun hP => ?_)
                  refine lv_iconst (v := (5 : Int32)) hx hb dX7_takeWord_101 (by decide) ?_
                  refine lv_ishl hx hb dX7_takeWord_102 ?_
                  refine lv_iload_n hx hb dX7_takeWord_103 rfl (lv_at hl 1 rfl) ?_
                  refine lv_aload_n hx hb dX7_takeWord_104 rfl (lv_at hl 0 rfl) ?_
                  obtain ⟨x37, t38, e39, hf⟩ := tw_bdE hf
                  refine gw_iget (ci := 6) (k := 2) (T := TX7) C hP rfl in_X7 (by decide) e39 q608 rfl dX7_takeWord_105 (fun hP => ?_)
                  have k123 : ∀ (w123_0 : Int32) (t40 : Hp) (H : Heap) (locs : List Loc) (ls : Array Slot), gw_P K t40 H → va_S K.2.2.2.1 s.heap H locs → lv_has ls 2 [(0, .ref a0), (1, .int v85_1)] → fx_X7_takeWord_J123 a0 x34 sf85 v85_1 w123_0 t40 = some (r, tZ) → W p l e (headSpec (ws_ yX7_takeWord cX7_takeWord 2 (none)) ({ frames := 6, cells := 0, slots := 0, locals := 150 })).room s m ([.ref a0] : List Value).toArray below meth c H locs 0 0 (MQ below (gw_Qv K tZ) ([.ref a0] : List Value).toArray s 0 0 K.2.2.2.1) (F0 m 123 ls [.int w123_0, .int (x34 <<< ((5 : Int32) &&& 31)), .ref a0]) := by
                    intro w123_0 t40 H locs ls hP hS hl hf
                    unfold fx_X7_takeWord_J123 at hf
                    refine lv_ior hx hb dX7_takeWord_123 ?_
                    obtain ⟨x41, t42, e43, hf⟩ := tw_bdE hf
                    refine gw_vput (ci := 6) (k := 4) (T := TX7) C hP hS rfl in_X7 tyX7 tyX7_ok nmX7 (by decide) e43 q610 rfl rfl (vp_nar_int _) rfl dX7_takeWord_124 (fun H locs hP hS => ?_)
                    refine lv_iinc (v := (v85_1 + (1 : Int32))) (lv' := [(1, .int (v85_1 + (1 : Int32))), (0, .ref a0)]) hx hb dX7_takeWord_127 hl (k := 1) rfl rfl (by decide) rfl (fun ls hl => ?_)
                    refine lv_goto (tgt := 85) hx hb dX7_takeWord_130 (by decide) ?_
                    exact ih85 _ _ _ _ _ hP hS (lv_sub hl [1, 0] rfl) hf
                  refine lv_icmp_ge (tgt := 122) hx hb dX7_takeWord_108 (by decide) (fun hc => ?_) (fun hc => ?_)
                  · have hf := tw_ifT hc hf
                    refine lv_iconst (v := (0 : Int32)) hx hb dX7_takeWord_122 (by decide) ?_
                    exact k123 _ _ _ _ _ hP hS (lv_sub hl [0, 1] rfl) hf
                  · have hf := tw_ifF hc hf
                    refine lv_aload_n hx hb dX7_takeWord_111 rfl (lv_at hl 0 rfl) ?_
                    refine lv_iload_n hx hb dX7_takeWord_112 rfl (lv_at hl 1 rfl) ?_
                    obtain ⟨x44, t45, e46, hf⟩ := tw_bdE hf
                    refine gw_cVi (As := [.int v85_1]) (rest := [.int (x34 <<< ((5 : Int32) &&& 31)), .ref a0]) (ci := 6) (T := TX7) (N := 7) C hml hP hS rfl (gw_onE e46).1 (mx_X7_see (l := l) (K := K) hA _ _ _ _ _ (gw_onE e46).2) (cwV 1 hts (lw_V q475 q477 qs3 q107 q478) rfl rfl rfl hdX7_see ⟨Nat.le_of_ble_eq_true rfl, Nat.le_of_ble_eq_true rfl⟩) rfl hl.1 rfl (Nat.le_of_ble_eq_true rfl) (Nat.zero_le _) (Nat.zero_le _) dX7_takeWord_113 (fun H locs hP hS => ?_)
                    refine lv_bipush (v := (96 : Int32)) hx hb dX7_takeWord_116 (by decide) ?_
                    refine lv_isub hx hb dX7_takeWord_118 ?_
                    refine lv_goto (tgt := 123) hx hb dX7_takeWord_119 (by decide) ?_
                    exact k123 _ _ _ _ _ hP hS (lv_sub hl [0, 1] rfl) hf
            exact k85 _ _ _ _ _ _ hP hS (lv_sub hl [1, 0] rfl) hf
          · have hf := tw_ifF hc hf
            exact gw_iretv (tw_rtE hf).2 rfl rfl C hr hP hS hlk dX7_takeWord_74
        refine lv_if_lt (tgt := 44) hx hb dX7_takeWord_37 (by decide) (fun hc => ?_) (fun hc => ?_)
        · have hf := tw_ifT hc hf
          refine lv_aload_n hx hb dX7_takeWord_44 rfl (lv_at hl 0 rfl) ?_
          obtain ⟨x47, t48, e49, hf⟩ := tw_bdE hf
          refine gw_iget (ci := 6) (k := 2) (T := TX7) C hP rfl in_X7 (by decide) e49 q608 rfl dX7_takeWord_45 (fun hP => ?_)
          refine lv_aload_n hx hb dX7_takeWord_48 rfl (lv_at hl 0 rfl) ?_
          obtain ⟨x50, t51, e52, hf⟩ := tw_bdE hf
          refine gw_iget (ci := 6) (k := 5) (T := TX7) C hP rfl in_X7 (by decide) e52 q611 rfl dX7_takeWord_49 (fun hP => ?_)
          refine lv_isub hx hb dX7_takeWord_52 ?_
          refine lv_bipush (v := (6 : Int32)) hx hb dX7_takeWord_53 (by decide) ?_
          refine lv_icmp_le (tgt := 62) hx hb dX7_takeWord_55 (by decide) (fun hc => ?_) (fun hc => ?_)
          · have hf := tw_ifT hc hf
            refine lv_iconst (v := (2 : Int32)) hx hb dX7_takeWord_62 (by decide) ?_
            exact k63 _ _ _ _ _ hP hS (lv_sub hl [0] rfl) hf
          · have hf := tw_ifF hc hf
            refine lv_iconst (v := (5 : Int32)) hx hb dX7_takeWord_58 (by decide) ?_
            refine lv_goto (tgt := 63) hx hb dX7_takeWord_59 (by decide) ?_
            exact k63 _ _ _ _ _ hP hS (lv_sub hl [0] rfl) hf
        · have hf := tw_ifF hc hf
          refine lv_iconst (v := (1 : Int32)) hx hb dX7_takeWord_40 (by decide) ?_
          refine lv_goto (tgt := 63) hx hb dX7_takeWord_41 (by decide) ?_
          exact k63 _ _ _ _ _ hP hS (lv_sub hl [0] rfl) hf
      · have hf := tw_ifF hc hf
        refine lv_aload_n hx hb dX7_takeWord_11 rfl (lv_at hl 0 rfl) ?_
        refine lv_dup hx hb dX7_takeWord_12 rfl ?_
        obtain ⟨x53, t54, e55, hf⟩ := tw_bdE hf
        refine gw_iget (ci := 6) (k := 2) (T := TX7) C hP rfl in_X7 (by decide) e55 q608 rfl dX7_takeWord_13 (fun hP => ?_)
        refine lv_iconst (v := (1 : Int32)) hx hb dX7_takeWord_16 (by decide) ?_
        refine lv_iadd hx hb dX7_takeWord_17 ?_
        obtain ⟨x56, t57, e58, hf⟩ := tw_bdE hf
        refine gw_vput (ci := 6) (k := 2) (T := TX7) C hP hS rfl in_X7 tyX7 tyX7_ok nmX7 (by decide) e58 q608 rfl rfl (vp_nar_int _) rfl dX7_takeWord_18 (fun H locs hP hS => ?_)
        refine lv_goto (tgt := 0) hx hb dX7_takeWord_21 (by decide) ?_
        exact ih0 _ _ _ _ hP hS (lv_sub hl [0] rfl) hf
  exact k0 _ _ _ _ _ hP hS (lv_sub hl [0] rfl) hf
def fx_X7_take_J26 (a0 : Nat) (sf0 : HM Unit)  : HM Unit :=
  tw_bd (gw_gi 6 2 a0) fun x9 =>
  tw_bd (gw_pi 6 2 a0 (x9 + (1 : Int32))) fun _ =>
 
  sf0
def fx_X7_take_J189   : HM Unit :=
  tw_rt ()
def fx_X7_take_J176 (a0 : Nat) (w176_0 : Int32) : HM Unit :=
  tw_bd (gw_pi 6 3 a0 w176_0) fun _ =>
  tw_bd (gw_gi 6 2 a0) fun x56 =>
  tw_bd (gw_pi 6 2 a0 (x56 + (1 : Int32))) fun _ =>
 
  fx_X7_take_J189
def fx_X7_take_L105 (a0 : Nat) (sf105 : HM Unit)  : HM Unit :=
  tw_bd (gw_gi 6 2 a0) fun x69 =>
  tw_bd (gw_on 6 a0 (fx_X7_isDigit a0 x69)) fun x72 =>
  if x72 = 0 then (fx_X7_take_J189)
  else (tw_bd (gw_gi 6 4 a0) fun x75 =>
  tw_bd (gw_gi 6 2 a0) fun x78 =>
  tw_bd (gw_on 6 a0 (fx_X7_see a0 x78)) fun x81 =>
   tw_bd (gw_pi 6 4 a0 (if (100000 : Int32) < ((((10 : Int32) * x75) + x81) - (48 : Int32)) then (100000 : Int32) else ((((10 : Int32) * x75) + x81) - (48 : Int32)))) fun _ =>
  tw_bd (gw_gi 6 2 a0) fun x87 =>
  tw_bd (gw_pi 6 2 a0 (x87 + (1 : Int32))) fun _ =>
 
  sf105)
def fx_X7_take_L0 (a0 : Nat) (sf0 : HM Unit)  : HM Unit :=
  tw_bd (gw_gi 6 2 a0) fun x2 =>
  tw_bd (gw_on 6 a0 (fx_X7_see a0 x2)) fun x5 =>
  if x5 = (10 : Int32) then (fx_X7_take_J26 a0 sf0)
  else (tw_bd (gw_gi 6 2 a0) fun x15 =>
  tw_bd (gw_on 6 a0 (fx_X7_see a0 x15)) fun x18 =>
  if x18 = (32 : Int32) then (fx_X7_take_J26 a0 sf0)
  else (tw_bd (gw_gi 6 2 a0) fun x21 =>
  tw_bd (gw_pi 6 5 a0 x21) fun _ =>
  tw_bd (gw_gi 6 2 a0) fun x27 =>
  tw_bd (gw_gi 6 0 a0) fun x30 =>
  if x27 < x30 then (tw_bd (gw_gi 6 2 a0) fun x34 =>
  tw_bd (gw_on 6 a0 (fx_X7_isSmall a0 x34)) fun x37 =>
  if x37 = 0 then (tw_bd (gw_gi 6 2 a0) fun x40 =>
  tw_bd (gw_on 6 a0 (fx_X7_isDigit a0 x40)) fun x43 =>
  if x43 = 0 then (tw_bd (gw_gi 6 2 a0) fun x46 =>
  tw_bd (gw_on 6 a0 (fx_X7_see a0 x46)) fun x49 =>
  if x49 = (59 : Int32) then (fx_X7_take_J176 a0 (4 : Int32))
  else (fx_X7_take_J176 a0 (5 : Int32)))
  else (tw_bd (gw_pi 6 3 a0 (3 : Int32)) fun _ =>
  tw_bd (gw_pi 6 4 a0 (0 : Int32)) fun _ =>
 
  tw_lp (fx_X7_take_L105 a0) (fun _ => none) tw_fu))
  else (tw_bd (gw_on 6 a0 (fx_X7_takeWord a0)) fun _ =>
 
  fx_X7_take_J189))
  else (tw_bd (gw_pi 6 3 a0 (0 : Int32)) fun _ =>
 
  fx_X7_take_J189)))
def fx_X7_take (a0 : Nat) : HM Unit :=
  tw_lp (fx_X7_take_L0 a0) (fun _ => none) tw_fu
theorem hdX7_take : yX7_take.cls = "LosslessFabric$Reader" ∧ (yX7_take.cls ≠ "java/lang/invoke/MethodHandle" ∧ yX7_take.cls ≠ "java/lang/invoke/VarHandle" ∧ (parseMethodDescriptor yX7_take.desc).map (fun d => d.parameters.length) = some 0) := by decide +kernel
set_option maxHeartbeats 4000000 in
theorem mx_X7_take {l : Launch} {K : GK} (hA : gw_A K) (a0 : Nat) (t0 tZ : Hp) (r : Unit) (hf : fx_X7_take a0 t0 = some (r, tZ)) : Met l yX7_take (ws_ yX7_take cX7_take 1 (none)) ({ frames := 7, cells := 0, slots := 0, locals := 171 }) (va_Pc [.ref a0] (gw_W K t0)) (gw_Qv K tZ) 0 0 K.2.2.2.1 := by
  refine Met.ofW (cc := cX7_take) (maxL := 1) (ret := none) (by decide) rfl ?_
  intro p e s m args below meth c s₁ B hml hv
  obtain ⟨rfl, hP, hK, hX, hN, hL⟩ := hv
  have hx := B.exec
  have hb := B.bytes
  have hr := B.returns
  have hts := atoms_spec (ws := (ws_ yX7_take cX7_take 1 (none))) B.pre
  have hts : ∀ w ∈ lw_all, w.before _ s = true := fun w h => hts w (List.mem_cons_of_mem _ h)
  have hown : s.vm.findClass "LosslessFabric$Reader" = some m.cls := findClass_of_methodNamed B.named
  have hlk := B.notSynchronized
  have C : gw_C K "LosslessFabric$Reader" p s m _ c cX7_take := ⟨hx, hb, hts, hown, hK, hA, hX, hN, hL⟩
  have hS : va_S K.2.2.2.1 s.heap s.heap [] := va_S.rf
  have hl := lv_entry ([.ref a0]) (n := 1) (Nat.le_of_ble_eq_true rfl)
  rw [lg_entry_eq]
  generalize (lg_sl ([.ref a0]) ++ List.replicate (1 - (lg_sl ([.ref a0])).length) Slot.unset).toArray = ls at hl ⊢
  have hl : lv_has ls 1 [(0, .ref a0)] := hl
  unfold fx_X7_take at hf
  have k0 : ∀ (n : Nat)  (t1 : Hp) (H : Heap) (locs : List Loc) (ls : Array Slot), gw_P K t1 H → va_S K.2.2.2.1 s.heap H locs → lv_has ls 1 [(0, .ref a0)] → tw_lp (fx_X7_take_L0 a0) (fun _ => none) n  t1 = some (r, tZ) → W p l e (headSpec (ws_ yX7_take cX7_take 1 (none)) ({ frames := 7, cells := 0, slots := 0, locals := 171 })).room s m ([.ref a0] : List Value).toArray below meth c H locs 0 0 (MQ below (gw_Qv K tZ) ([.ref a0] : List Value).toArray s 0 0 K.2.2.2.1) (F0 m 0 ls []) := by
    intro n
    induction n with
    | zero => intro t1 H locs ls hP hS hl hf; exact (tw_no hf).elim
    | succ n ih0 =>
      intro t1 H locs ls hP hS hl hf
      obtain ⟨sf0, hs0⟩ : ∃ f, f = tw_lp (fx_X7_take_L0 a0) (fun _ => none) n := ⟨_, rfl⟩
      rw [← hs0] at ih0
      have hf : fx_X7_take_L0 a0 sf0  t1 = some (r, tZ) := by rw [hs0]; exact hf
      clear hs0
      unfold fx_X7_take_L0 at hf
      refine lv_aload_n hx hb dX7_take_0 rfl (lv_at hl 0 rfl) ?_
      refine lv_aload_n hx hb dX7_take_1 rfl (lv_at hl 0 rfl) ?_
      obtain ⟨x2, t3, e4, hf⟩ := tw_bdE hf
      refine gw_iget (ci := 6) (k := 2) (T := TX7) C hP rfl in_X7 (by decide) e4 q608 rfl dX7_take_2 (fun hP => ?_)
      obtain ⟨x5, t6, e7, hf⟩ := tw_bdE hf
      refine gw_cVi (As := [.int x2]) (rest := []) (ci := 6) (T := TX7) (N := 7) C hml hP hS rfl (gw_onE e7).1 (mx_X7_see (l := l) (K := K) hA _ _ _ _ _ (gw_onE e7).2) (cwV 1 hts (lw_V q475 q477 qs3 q107 q478) rfl rfl rfl hdX7_see ⟨Nat.le_of_ble_eq_true rfl, Nat.le_of_ble_eq_true rfl⟩) rfl hl.1 rfl (Nat.le_of_ble_eq_true rfl) (Nat.zero_le _) (Nat.zero_le _) dX7_take_5 (fun H locs hP hS => ?_)
      refine lv_bipush (v := (10 : Int32)) hx hb dX7_take_8 (by decide) ?_
      have k26 : ∀  (t8 : Hp) (H : Heap) (locs : List Loc) (ls : Array Slot), gw_P K t8 H → va_S K.2.2.2.1 s.heap H locs → lv_has ls 1 [(0, .ref a0)] → fx_X7_take_J26 a0 sf0  t8 = some (r, tZ) → W p l e (headSpec (ws_ yX7_take cX7_take 1 (none)) ({ frames := 7, cells := 0, slots := 0, locals := 171 })).room s m ([.ref a0] : List Value).toArray below meth c H locs 0 0 (MQ below (gw_Qv K tZ) ([.ref a0] : List Value).toArray s 0 0 K.2.2.2.1) (F0 m 26 ls []) := by
        intro t8 H locs ls hP hS hl hf
        unfold fx_X7_take_J26 at hf
        refine lv_aload_n hx hb dX7_take_26 rfl (lv_at hl 0 rfl) ?_
        refine lv_dup hx hb dX7_take_27 rfl ?_
        obtain ⟨x9, t10, e11, hf⟩ := tw_bdE hf
        refine gw_iget (ci := 6) (k := 2) (T := TX7) C hP rfl in_X7 (by decide) e11 q608 rfl dX7_take_28 (fun hP => ?_)
        refine lv_iconst (v := (1 : Int32)) hx hb dX7_take_31 (by decide) ?_
        refine lv_iadd hx hb dX7_take_32 ?_
        obtain ⟨x12, t13, e14, hf⟩ := tw_bdE hf
        refine gw_vput (ci := 6) (k := 2) (T := TX7) C hP hS rfl in_X7 tyX7 tyX7_ok nmX7 (by decide) e14 q608 rfl rfl (vp_nar_int _) rfl dX7_take_33 (fun H locs hP hS => ?_)
        refine lv_goto (tgt := 0) hx hb dX7_take_36 (by decide) ?_
        exact ih0 _ _ _ _ hP hS (lv_sub hl [0] rfl) hf
      refine lv_icmp_eq (tgt := 26) hx hb dX7_take_10 (by decide) (fun hc => ?_) (fun hc => ?_)
      · have hf := tw_ifT hc hf
        exact k26 _ _ _ _ hP hS (lv_sub hl [0] rfl) hf
      · have hf := tw_ifF hc hf
        refine lv_aload_n hx hb dX7_take_13 rfl (lv_at hl 0 rfl) ?_
        refine lv_aload_n hx hb dX7_take_14 rfl (lv_at hl 0 rfl) ?_
        obtain ⟨x15, t16, e17, hf⟩ := tw_bdE hf
        refine gw_iget (ci := 6) (k := 2) (T := TX7) C hP rfl in_X7 (by decide) e17 q608 rfl dX7_take_15 (fun hP => ?_)
        obtain ⟨x18, t19, e20, hf⟩ := tw_bdE hf
        refine gw_cVi (As := [.int x15]) (rest := []) (ci := 6) (T := TX7) (N := 7) C hml hP hS rfl (gw_onE e20).1 (mx_X7_see (l := l) (K := K) hA _ _ _ _ _ (gw_onE e20).2) (cwV 1 hts (lw_V q475 q477 qs3 q107 q478) rfl rfl rfl hdX7_see ⟨Nat.le_of_ble_eq_true rfl, Nat.le_of_ble_eq_true rfl⟩) rfl hl.1 rfl (Nat.le_of_ble_eq_true rfl) (Nat.zero_le _) (Nat.zero_le _) dX7_take_18 (fun H locs hP hS => ?_)
        refine lv_bipush (v := (32 : Int32)) hx hb dX7_take_21 (by decide) ?_
        refine lv_icmp_ne (tgt := 39) hx hb dX7_take_23 (by decide) (fun hc => ?_) (fun hc => ?_)
        · have hf := tw_ifF hc hf
          refine lv_aload_n hx hb dX7_take_39 rfl (lv_at hl 0 rfl) ?_
          refine lv_aload_n hx hb dX7_take_40 rfl (lv_at hl 0 rfl) ?_
          obtain ⟨x21, t22, e23, hf⟩ := tw_bdE hf
          refine gw_iget (ci := 6) (k := 2) (T := TX7) C hP rfl in_X7 (by decide) e23 q608 rfl dX7_take_41 (fun hP => ?_)
          obtain ⟨x24, t25, e26, hf⟩ := tw_bdE hf
          refine gw_vput (ci := 6) (k := 5) (T := TX7) C hP hS rfl in_X7 tyX7 tyX7_ok nmX7 (by decide) e26 q611 rfl rfl (vp_nar_int _) rfl dX7_take_44 (fun H locs hP hS => ?_)
          refine lv_aload_n hx hb dX7_take_47 rfl (lv_at hl 0 rfl) ?_
          obtain ⟨x27, t28, e29, hf⟩ := tw_bdE hf
          refine gw_iget (ci := 6) (k := 2) (T := TX7) C hP rfl in_X7 (by decide) e29 q608 rfl dX7_take_48 (fun hP => ?_)
          refine lv_aload_n hx hb dX7_take_51 rfl (lv_at hl 0 rfl) ?_
          obtain ⟨x30, t31, e32, hf⟩ := tw_bdE hf
          refine gw_iget (ci := 6) (k := 0) (T := TX7) C hP rfl in_X7 (by decide) e32 q606 rfl dX7_take_52 (fun hP => ?_)
          have k189 : ∀  (t33 : Hp) (H : Heap) (locs : List Loc) (ls : Array Slot), gw_P K t33 H → va_S K.2.2.2.1 s.heap H locs → lv_has ls 1 [] → fx_X7_take_J189  t33 = some (r, tZ) → W p l e (headSpec (ws_ yX7_take cX7_take 1 (none)) ({ frames := 7, cells := 0, slots := 0, locals := 171 })).room s m ([.ref a0] : List Value).toArray below meth c H locs 0 0 (MQ below (gw_Qv K tZ) ([.ref a0] : List Value).toArray s 0 0 K.2.2.2.1) (F0 m 189 ls []) := by
            intro t33 H locs ls hP hS hl hf
            unfold fx_X7_take_J189 at hf
            exact gw_iretv (tw_rtE hf).2 rfl rfl C hr hP hS hlk dX7_take_189
          refine lv_icmp_lt (tgt := 66) hx hb dX7_take_55 (by decide) (fun hc => ?_) (fun hc => ?_)
          · have hf := tw_ifT hc hf
            refine lv_aload_n hx hb dX7_take_66 rfl (lv_at hl 0 rfl) ?_
            refine lv_aload_n hx hb dX7_take_67 rfl (lv_at hl 0 rfl) ?_
            obtain ⟨x34, t35, e36, hf⟩ := tw_bdE hf
            refine gw_iget (ci := 6) (k := 2) (T := TX7) C hP rfl in_X7 (by decide) e36 q608 rfl dX7_take_68 (fun hP => ?_)
            obtain ⟨x37, t38, e39, hf⟩ := tw_bdE hf
            refine gw_cVi (As := [.int x34]) (rest := []) (ci := 6) (T := TX7) (N := 7) C hml hP hS rfl (gw_onE e39).1 (mx_X7_isSmall (l := l) (K := K) hA _ _ _ _ _ (gw_onE e39).2) (cwV 1 hts (lw_V q479 q481 qs4 q107 q482) rfl rfl rfl hdX7_isSmall ⟨Nat.le_of_ble_eq_true rfl, Nat.le_of_ble_eq_true rfl⟩) rfl hl.1 rfl (Nat.le_of_ble_eq_true rfl) (Nat.zero_le _) (Nat.zero_le _) dX7_take_71 (fun H locs hP hS => ?_)
            refine lv_if_eq (tgt := 84) hx hb dX7_take_74 (by decide) (fun hc => ?_) (fun hc => ?_)
            · have hf := tw_ifT hc hf
              refine lv_aload_n hx hb dX7_take_84 rfl (lv_at hl 0 rfl) ?_
              refine lv_aload_n hx hb dX7_take_85 rfl (lv_at hl 0 rfl) ?_
              obtain ⟨x40, t41, e42, hf⟩ := tw_bdE hf
              refine gw_iget (ci := 6) (k := 2) (T := TX7) C hP rfl in_X7 (by decide) e42 q608 rfl dX7_take_86 (fun hP => ?_)
              obtain ⟨x43, t44, e45, hf⟩ := tw_bdE hf
              refine gw_cVi (As := [.int x40]) (rest := []) (ci := 6) (T := TX7) (N := 7) C hml hP hS rfl (gw_onE e45).1 (mx_X7_isDigit (l := l) (K := K) hA _ _ _ _ _ (gw_onE e45).2) (cwV 1 hts (lw_V q598 q600 qs7 q107 q601) rfl rfl rfl hdX7_isDigit ⟨Nat.le_of_ble_eq_true rfl, Nat.le_of_ble_eq_true rfl⟩) rfl hl.1 rfl (Nat.le_of_ble_eq_true rfl) (Nat.zero_le _) (Nat.zero_le _) dX7_take_89 (fun H locs hP hS => ?_)
              refine lv_if_eq (tgt := 157) hx hb dX7_take_92 (by decide) (fun hc => ?_) (fun hc => ?_)
              · have hf := tw_ifT hc hf
                refine lv_aload_n hx hb dX7_take_157 rfl (lv_at hl 0 rfl) ?_
                refine lv_aload_n hx hb dX7_take_158 rfl (lv_at hl 0 rfl) ?_
                refine lv_aload_n hx hb dX7_take_159 rfl (lv_at hl 0 rfl) ?_
                obtain ⟨x46, t47, e48, hf⟩ := tw_bdE hf
                refine gw_iget (ci := 6) (k := 2) (T := TX7) C hP rfl in_X7 (by decide) e48 q608 rfl dX7_take_160 (fun hP => ?_)
                obtain ⟨x49, t50, e51, hf⟩ := tw_bdE hf
                refine gw_cVi (As := [.int x46]) (rest := [.ref a0]) (ci := 6) (T := TX7) (N := 7) C hml hP hS rfl (gw_onE e51).1 (mx_X7_see (l := l) (K := K) hA _ _ _ _ _ (gw_onE e51).2) (cwV 1 hts (lw_V q475 q477 qs3 q107 q478) rfl rfl rfl hdX7_see ⟨Nat.le_of_ble_eq_true rfl, Nat.le_of_ble_eq_true rfl⟩) rfl hl.1 rfl (Nat.le_of_ble_eq_true rfl) (Nat.zero_le _) (Nat.zero_le _) dX7_take_163 (fun H locs hP hS => ?_)
                refine lv_bipush (v := (59 : Int32)) hx hb dX7_take_166 (by decide) ?_
                have k176 : ∀ (w176_0 : Int32) (t52 : Hp) (H : Heap) (locs : List Loc) (ls : Array Slot), gw_P K t52 H → va_S K.2.2.2.1 s.heap H locs → lv_has ls 1 [(0, .ref a0)] → fx_X7_take_J176 a0 w176_0 t52 = some (r, tZ) → W p l e (headSpec (ws_ yX7_take cX7_take 1 (none)) ({ frames := 7, cells := 0, slots := 0, locals := 171 })).room s m ([.ref a0] : List Value).toArray below meth c H locs 0 0 (MQ below (gw_Qv K tZ) ([.ref a0] : List Value).toArray s 0 0 K.2.2.2.1) (F0 m 176 ls [.int w176_0, .ref a0]) := by
                  intro w176_0 t52 H locs ls hP hS hl hf
                  unfold fx_X7_take_J176 at hf
                  obtain ⟨x53, t54, e55, hf⟩ := tw_bdE hf
                  refine gw_vput (ci := 6) (k := 3) (T := TX7) C hP hS rfl in_X7 tyX7 tyX7_ok nmX7 (by decide) e55 q609 rfl rfl (vp_nar_int _) rfl dX7_take_176 (fun H locs hP hS => ?_)
                  refine lv_aload_n hx hb dX7_take_179 rfl (lv_at hl 0 rfl) ?_
                  refine lv_dup hx hb dX7_take_180 rfl ?_
                  obtain ⟨x56, t57, e58, hf⟩ := tw_bdE hf
                  refine gw_iget (ci := 6) (k := 2) (T := TX7) C hP rfl in_X7 (by decide) e58 q608 rfl dX7_take_181 (fun hP => ?_)
                  refine lv_iconst (v := (1 : Int32)) hx hb dX7_take_184 (by decide) ?_
                  refine lv_iadd hx hb dX7_take_185 ?_
                  obtain ⟨x59, t60, e61, hf⟩ := tw_bdE hf
                  refine gw_vput (ci := 6) (k := 2) (T := TX7) C hP hS rfl in_X7 tyX7 tyX7_ok nmX7 (by decide) e61 q608 rfl rfl (vp_nar_int _) rfl dX7_take_186 (fun H locs hP hS => ?_)
                  exact k189 _ _ _ _ hP hS (lv_sub hl [] rfl) hf
                refine lv_icmp_ne (tgt := 175) hx hb dX7_take_168 (by decide) (fun hc => ?_) (fun hc => ?_)
                · have hf := tw_ifF hc hf
                  refine lv_iconst (v := (5 : Int32)) hx hb dX7_take_175 (by decide) ?_
                  exact k176 _ _ _ _ _ hP hS (lv_sub hl [0] rfl) hf
                · have hf := tw_ifT hc hf
                  refine lv_iconst (v := (4 : Int32)) hx hb dX7_take_171 (by decide) ?_
                  refine lv_goto (tgt := 176) hx hb dX7_take_172 (by decide) ?_
                  exact k176 _ _ _ _ _ hP hS (lv_sub hl [0] rfl) hf
              · have hf := tw_ifF hc hf
                refine lv_aload_n hx hb dX7_take_95 rfl (lv_at hl 0 rfl) ?_
                refine lv_iconst (v := (3 : Int32)) hx hb dX7_take_96 (by decide) ?_
                obtain ⟨x62, t63, e64, hf⟩ := tw_bdE hf
                refine gw_vput (ci := 6) (k := 3) (T := TX7) C hP hS rfl in_X7 tyX7 tyX7_ok nmX7 (by decide) e64 q609 rfl rfl (vp_nar_int _) rfl dX7_take_97 (fun H locs hP hS => ?_)
                refine lv_aload_n hx hb dX7_take_100 rfl (lv_at hl 0 rfl) ?_
                refine lv_iconst (v := (0 : Int32)) hx hb dX7_take_101 (by decide) ?_
                obtain ⟨x65, t66, e67, hf⟩ := tw_bdE hf
                refine gw_vput (ci := 6) (k := 4) (T := TX7) C hP hS rfl in_X7 tyX7 tyX7_ok nmX7 (by decide) e67 q610 rfl rfl (vp_nar_int _) rfl dX7_take_102 (fun H locs hP hS => ?_)
                have k105 : ∀ (n : Nat)  (t68 : Hp) (H : Heap) (locs : List Loc) (ls : Array Slot), gw_P K t68 H → va_S K.2.2.2.1 s.heap H locs → lv_has ls 1 [(0, .ref a0)] → tw_lp (fx_X7_take_L105 a0) (fun _ => none) n  t68 = some (r, tZ) → W p l e (headSpec (ws_ yX7_take cX7_take 1 (none)) ({ frames := 7, cells := 0, slots := 0, locals := 171 })).room s m ([.ref a0] : List Value).toArray below meth c H locs 0 0 (MQ below (gw_Qv K tZ) ([.ref a0] : List Value).toArray s 0 0 K.2.2.2.1) (F0 m 105 ls []) := by
                  intro n
                  induction n with
                  | zero => intro t68 H locs ls hP hS hl hf; exact (tw_no hf).elim
                  | succ n ih105 =>
                    intro t68 H locs ls hP hS hl hf
                    obtain ⟨sf105, hs105⟩ : ∃ f, f = tw_lp (fx_X7_take_L105 a0) (fun _ => none) n := ⟨_, rfl⟩
                    rw [← hs105] at ih105
                    have hf : fx_X7_take_L105 a0 sf105  t68 = some (r, tZ) := by rw [hs105]; exact hf
                    clear hs105
                    unfold fx_X7_take_L105 at hf
                    refine lv_aload_n hx hb dX7_take_105 rfl (lv_at hl 0 rfl) ?_
                    refine lv_aload_n hx hb dX7_take_106 rfl (lv_at hl 0 rfl) ?_
                    obtain ⟨x69, t70, e71, hf⟩ := tw_bdE hf
                    refine gw_iget (ci := 6) (k := 2) (T := TX7) C hP rfl in_X7 (by decide) e71 q608 rfl dX7_take_107 (fun hP => ?_)
                    obtain ⟨x72, t73, e74, hf⟩ := tw_bdE hf
                    refine gw_cVi (As := [.int x69]) (rest := []) (ci := 6) (T := TX7) (N := 7) C hml hP hS rfl (gw_onE e74).1 (mx_X7_isDigit (l := l) (K := K) hA _ _ _ _ _ (gw_onE e74).2) (cwV 1 hts (lw_V q598 q600 qs7 q107 q601) rfl rfl rfl hdX7_isDigit ⟨Nat.le_of_ble_eq_true rfl, Nat.le_of_ble_eq_true rfl⟩) rfl hl.1 rfl (Nat.le_of_ble_eq_true rfl) (Nat.zero_le _) (Nat.zero_le _) dX7_take_110 (fun H locs hP hS => ?_)
                    refine lv_if_eq (tgt := 189) hx hb dX7_take_113 (by decide) (fun hc => ?_) (fun hc => ?_)
                    · have hf := tw_ifT hc hf
                      exact k189 _ _ _ _ hP hS (lv_sub hl [] rfl) hf
                    · have hf := tw_ifF hc hf
                      refine lv_aload_n hx hb dX7_take_116 rfl (lv_at hl 0 rfl) ?_
                      refine lv_bipush (v := (10 : Int32)) hx hb dX7_take_117 (by decide) ?_
                      refine lv_aload_n hx hb dX7_take_119 rfl (lv_at hl 0 rfl) ?_
                      obtain ⟨x75, t76, e77, hf⟩ := tw_bdE hf
                      refine gw_iget (ci := 6) (k := 4) (T := TX7) C hP rfl in_X7 (by decide) e77 q610 rfl dX7_take_120 (fun hP => ?_)
                      refine lv_imul hx hb dX7_take_123 ?_
                      refine lv_aload_n hx hb dX7_take_124 rfl (lv_at hl 0 rfl) ?_
                      refine lv_aload_n hx hb dX7_take_125 rfl (lv_at hl 0 rfl) ?_
                      obtain ⟨x78, t79, e80, hf⟩ := tw_bdE hf
                      refine gw_iget (ci := 6) (k := 2) (T := TX7) C hP rfl in_X7 (by decide) e80 q608 rfl dX7_take_126 (fun hP => ?_)
                      obtain ⟨x81, t82, e83, hf⟩ := tw_bdE hf
                      refine gw_cVi (As := [.int x78]) (rest := [.int ((10 : Int32) * x75), .ref a0]) (ci := 6) (T := TX7) (N := 7) C hml hP hS rfl (gw_onE e83).1 (mx_X7_see (l := l) (K := K) hA _ _ _ _ _ (gw_onE e83).2) (cwV 1 hts (lw_V q475 q477 qs3 q107 q478) rfl rfl rfl hdX7_see ⟨Nat.le_of_ble_eq_true rfl, Nat.le_of_ble_eq_true rfl⟩) rfl hl.1 rfl (Nat.le_of_ble_eq_true rfl) (Nat.zero_le _) (Nat.zero_le _) dX7_take_129 (fun H locs hP hS => ?_)
                      refine lv_iadd hx hb dX7_take_132 ?_
                      refine lv_bipush (v := (48 : Int32)) hx hb dX7_take_133 (by decide) ?_
                      refine lv_isub hx hb dX7_take_135 ?_
                      refine lv_ldc hx hb hown (hts _ q604) dX7_take_136 ?_
                      refine va_mmin (rest := [.ref a0]) hx hb (hml.trans hl.1.symm) hown (hts _ q605) (hts _ q524) (hts _ q110) (hts _ q525) (Nat.le_of_ble_eq_true rfl) (Nat.le_of_ble_eq_true rfl) (Nat.zero_le _) (Nat.zero_le _) dX7_take_138 ?_
                      obtain ⟨x84, t85, e86, hf⟩ := tw_bdE hf
                      refine gw_vput (ci := 6) (k := 4) (T := TX7) C hP hS rfl in_X7 tyX7 tyX7_ok nmX7 (by decide) e86 q610 rfl rfl (vp_nar_int _) rfl dX7_take_141 (fun H locs hP hS => ?_)
                      refine lv_aload_n hx hb dX7_take_144 rfl (lv_at hl 0 rfl) ?_
                      refine lv_dup hx hb dX7_take_145 rfl ?_
                      obtain ⟨x87, t88, e89, hf⟩ := tw_bdE hf
                      refine gw_iget (ci := 6) (k := 2) (T := TX7) C hP rfl in_X7 (by decide) e89 q608 rfl dX7_take_146 (fun hP => ?_)
                      refine lv_iconst (v := (1 : Int32)) hx hb dX7_take_149 (by decide) ?_
                      refine lv_iadd hx hb dX7_take_150 ?_
                      obtain ⟨x90, t91, e92, hf⟩ := tw_bdE hf
                      refine gw_vput (ci := 6) (k := 2) (T := TX7) C hP hS rfl in_X7 tyX7 tyX7_ok nmX7 (by decide) e92 q608 rfl rfl (vp_nar_int _) rfl dX7_take_151 (fun H locs hP hS => ?_)
                      refine lv_goto (tgt := 105) hx hb dX7_take_154 (by decide) ?_
                      exact ih105 _ _ _ _ hP hS (lv_sub hl [0] rfl) hf
                exact k105 _ _ _ _ _ hP hS (lv_sub hl [0] rfl) hf
            · have hf := tw_ifF hc hf
              refine lv_aload_n hx hb dX7_take_77 rfl (lv_at hl 0 rfl) ?_
              obtain ⟨x93, t94, e95, hf⟩ := tw_bdE hf
              refine gw_cVv (As := []) (rest := []) (ci := 6) (T := TX7) (N := 7) C hml hP hS rfl (gw_onE e95).1 (mx_X7_takeWord (l := l) (K := K) hA _ _ _ _ (gw_onE e95).2) (cwV 0 hts (lw_V q486 q488 qs5 q107 q489) rfl rfl rfl hdX7_takeWord ⟨Nat.le_of_ble_eq_true rfl, Nat.le_of_ble_eq_true rfl⟩) rfl hl.1 rfl (Nat.le_of_ble_eq_true rfl) (Nat.zero_le _) (Nat.zero_le _) dX7_take_78 (fun H locs hP hS => ?_)
              refine lv_goto (tgt := 189) hx hb dX7_take_81 (by decide) ?_
              exact k189 _ _ _ _ hP hS (lv_sub hl [] rfl) hf
          · have hf := tw_ifF hc hf
            refine lv_aload_n hx hb dX7_take_58 rfl (lv_at hl 0 rfl) ?_
            refine lv_iconst (v := (0 : Int32)) hx hb dX7_take_59 (by decide) ?_
            obtain ⟨x96, t97, e98, hf⟩ := tw_bdE hf
            refine gw_vput (ci := 6) (k := 3) (T := TX7) C hP hS rfl in_X7 tyX7 tyX7_ok nmX7 (by decide) e98 q609 rfl rfl (vp_nar_int _) rfl dX7_take_60 (fun H locs hP hS => ?_)
            refine lv_goto (tgt := 189) hx hb dX7_take_63 (by decide) ?_
            exact k189 _ _ _ _ hP hS (lv_sub hl [] rfl) hf
        · have hf := tw_ifT hc hf
          exact k26 _ _ _ _ hP hS (lv_sub hl [0] rfl) hf
  exact k0 _ _ _ _ _ hP hS (lv_sub hl [0] rfl) hf
def fx_X7_init_2 (a0 : Nat) (a1 : Nat) (a2 : Int32) (a3 : Nat) : HM Unit :=
  tw_bd (gw_pr 6 6 a0 a1) fun _ =>
   tw_bd (gw_pi 6 0 a0 a2) fun _ =>
  tw_bd (gw_pr 6 1 a0 a3) fun _ =>
  tw_bd (gw_on 6 a0 (fx_X7_take a0)) fun _ =>
  tw_rt ()
theorem hdX7_init_2 : yX7_init_2.cls = "LosslessFabric$Reader" ∧ (yX7_init_2.cls ≠ "java/lang/invoke/MethodHandle" ∧ yX7_init_2.cls ≠ "java/lang/invoke/VarHandle" ∧ (parseMethodDescriptor yX7_init_2.desc).map (fun d => d.parameters.length) = some 3) := by decide +kernel
set_option maxHeartbeats 4000000 in
theorem mx_X7_init_2 {l : Launch} {K : GK} (hA : gw_A K) (a0 : Nat) (a1 : Nat) (a2 : Int32) (a3 : Nat) (t0 tZ : Hp) (r : Unit) (hf : fx_X7_init_2 a0 a1 a2 a3 t0 = some (r, tZ)) : Met l yX7_init_2 (ws_ yX7_init_2 cX7_init_2 4 (none)) ({ frames := 8, cells := 0, slots := 0, locals := 191 }) (va_Pc [.ref a0, .ref a1, .int a2, .ref a3] (gw_W K t0)) (gw_Qv K tZ) 0 0 K.2.2.2.1 := by
  refine Met.ofW (cc := cX7_init_2) (maxL := 4) (ret := none) (by decide) rfl ?_
  intro p e s m args below meth c s₁ B hml hv
  obtain ⟨rfl, hP, hK, hX, hN, hL⟩ := hv
  have hx := B.exec
  have hb := B.bytes
  have hr := B.returns
  have hts := atoms_spec (ws := (ws_ yX7_init_2 cX7_init_2 4 (none))) B.pre
  have hts : ∀ w ∈ lw_all, w.before _ s = true := fun w h => hts w (List.mem_cons_of_mem _ h)
  have hown : s.vm.findClass "LosslessFabric$Reader" = some m.cls := findClass_of_methodNamed B.named
  have hlk := B.notSynchronized
  have hin : meth.name = "<init>" := (name_of_methodNamed B.named B.method).1
  have C : gw_C K "LosslessFabric$Reader" p s m _ c cX7_init_2 := ⟨hx, hb, hts, hown, hK, hA, hX, hN, hL⟩
  have hS : va_S K.2.2.2.1 s.heap s.heap [] := va_S.rf
  have hl := lv_entry ([.ref a0, .ref a1, .int a2, .ref a3]) (n := 4) (Nat.le_of_ble_eq_true rfl)
  rw [lg_entry_eq]
  generalize (lg_sl ([.ref a0, .ref a1, .int a2, .ref a3]) ++ List.replicate (4 - (lg_sl ([.ref a0, .ref a1, .int a2, .ref a3])).length) Slot.unset).toArray = ls at hl ⊢
  have hl : lv_has ls 4 [(0, .ref a0), (1, .ref a1), (2, .int a2), (3, .ref a3)] := hl
  unfold fx_X7_init_2 at hf
  refine lv_aload_n hx hb dX7_init_2_0 rfl (lv_at hl 0 rfl) ?_
  refine lv_aload_n hx hb dX7_init_2_1 rfl (lv_at hl 1 rfl) ?_
  obtain ⟨x1, t2, e3, hf⟩ := tw_bdE hf
  refine gw_vputF (ci := 6) (k := 6) (T := TX7) C hP hS rfl in_X7 tyX7 tyX7_ok nmX7 (by decide) e3 q612 rfl rfl hin rfl rfl rfl dX7_init_2_2 (fun H locs hP hS => ?_)
  refine lv_aload_n hx hb dX7_init_2_5 rfl (lv_at hl 0 rfl) ?_
  refine W.objInit (rest := []) hx hb hown (hts _ q470) (hts _ q134) (hts _ q135) rfl (by rw [hml]; exact hl.1) rfl dX7_init_2_6 (Nat.le_of_ble_eq_true rfl) (Nat.le_of_ble_eq_true rfl) ?_
  refine W.eq (g2 := F0 m 9 ls []) rfl ?_
  refine lv_aload_n hx hb dX7_init_2_9 rfl (lv_at hl 0 rfl) ?_
  refine lv_iload_n hx hb dX7_init_2_10 rfl (lv_at hl 2 rfl) ?_
  obtain ⟨x4, t5, e6, hf⟩ := tw_bdE hf
  refine gw_vputF (ci := 6) (k := 0) (T := TX7) C hP hS rfl in_X7 tyX7 tyX7_ok nmX7 (by decide) e6 q606 rfl rfl hin rfl (vp_nar_int _) rfl dX7_init_2_11 (fun H locs hP hS => ?_)
  refine lv_aload_n hx hb dX7_init_2_14 rfl (lv_at hl 0 rfl) ?_
  refine lv_aload_n hx hb dX7_init_2_15 rfl (lv_at hl 3 rfl) ?_
  obtain ⟨x7, t8, e9, hf⟩ := tw_bdE hf
  refine gw_vputF (ci := 6) (k := 1) (T := TX7) C hP hS rfl in_X7 tyX7 tyX7_ok nmX7 (by decide) e9 q607 rfl rfl hin rfl rfl rfl dX7_init_2_16 (fun H locs hP hS => ?_)
  refine lv_aload_n hx hb dX7_init_2_19 rfl (lv_at hl 0 rfl) ?_
  obtain ⟨x10, t11, e12, hf⟩ := tw_bdE hf
  refine gw_cVv (As := []) (rest := []) (ci := 6) (T := TX7) (N := 7) C hml hP hS rfl (gw_onE e12).1 (mx_X7_take (l := l) (K := K) hA _ _ _ _ (gw_onE e12).2) (cwV 0 hts (lw_V q471 q473 qs2 q107 q474) rfl rfl rfl hdX7_take ⟨Nat.le_of_ble_eq_true rfl, Nat.le_of_ble_eq_true rfl⟩) rfl hl.1 rfl (Nat.le_of_ble_eq_true rfl) (Nat.zero_le _) (Nat.zero_le _) dX7_init_2_20 (fun H locs hP hS => ?_)
  exact gw_iretv (tw_rtE hf).2 rfl rfl C hr hP hS hlk dX7_init_2_23
def fx_X7_init (a0 : Nat) (a1 : Nat) (a2 : Int32) : gM Unit :=
  gw_bc (gw_nw 1 13 tyX2) fun x1 =>
  gw_bc (fx_X2_init x1) fun _ =>
  gw_b0 (fx_X7_init_2 a0 a1 a2 x1) fun _ =>
  gw_rc ()
theorem hdX7_init : yX7_init.cls = "LosslessFabric$Reader" ∧ (yX7_init.cls ≠ "java/lang/invoke/MethodHandle" ∧ yX7_init.cls ≠ "java/lang/invoke/VarHandle" ∧ (parseMethodDescriptor yX7_init.desc).map (fun d => d.parameters.length) = some 2) := by decide +kernel
set_option maxHeartbeats 4000000 in
theorem mx_X7_init {l : Launch} {K : GK} (hA : gw_A K) (a0 : Nat) (a1 : Nat) (a2 : Int32) (t0 tZ : Hp) (r : Unit) (C0 S0 : Nat) (hf : fx_X7_init a0 a1 a2 t0 = some (r, tZ, C0, S0)) : Met l yX7_init (ws_ yX7_init cX7_init 3 (none)) ({ frames := 9, cells := C0, slots := S0, locals := 214 }) (va_Pc [.ref a0, .ref a1, .int a2] (gw_W K t0)) (gw_Qv K tZ) C0 S0 K.2.2.2.1 := by
  refine Met.ofW (cc := cX7_init) (maxL := 3) (ret := none) (by decide) rfl ?_
  intro p e s m args below meth c s₁ B hml hv
  obtain ⟨rfl, hP, hK, hX, hN, hL⟩ := hv
  have hx := B.exec
  have hb := B.bytes
  have hr := B.returns
  have hts := atoms_spec (ws := (ws_ yX7_init cX7_init 3 (none))) B.pre
  have hts : ∀ w ∈ lw_all, w.before _ s = true := fun w h => hts w (List.mem_cons_of_mem _ h)
  have hown : s.vm.findClass "LosslessFabric$Reader" = some m.cls := findClass_of_methodNamed B.named
  have hlk := B.notSynchronized
  have hin : meth.name = "<init>" := (name_of_methodNamed B.named B.method).1
  have C : gw_C K "LosslessFabric$Reader" p s m _ c cX7_init := ⟨hx, hb, hts, hown, hK, hA, hX, hN, hL⟩
  have hk : 0 + C0 = C0 := Nat.zero_add _
  have hn : 0 + S0 = S0 := Nat.zero_add _
  have hS : va_S K.2.2.2.1 s.heap s.heap [] := va_S.rf
  have hl := lv_entry ([.ref a0, .ref a1, .int a2]) (n := 3) (Nat.le_of_ble_eq_true rfl)
  rw [lg_entry_eq]
  generalize (lg_sl ([.ref a0, .ref a1, .int a2]) ++ List.replicate (3 - (lg_sl ([.ref a0, .ref a1, .int a2])).length) Slot.unset).toArray = ls at hl ⊢
  have hl : lv_has ls 3 [(0, .ref a0), (1, .ref a1), (2, .int a2)] := hl
  unfold fx_X7_init at hf
  refine lv_aload_n hx hb dX7_init_0 rfl (lv_at hl 0 rfl) ?_
  refine lv_aload_n hx hb dX7_init_1 rfl (lv_at hl 1 rfl) ?_
  refine lv_iload_n hx hb dX7_init_2 rfl (lv_at hl 2 rfl) ?_
  obtain ⟨x1, t2, c2, s2, C2, S2, e3, hf, hk, hn⟩ := gw_bcE hf hk hn
  refine gw_new (T := TX2) C hP hS rfl in_X2 tyX2_ok e3 q465 q137 q102 (Nat.le.intro hk) (Nat.le.intro hn) dX7_init_3 (fun H hP hS => ?_)
  refine lv_dup hx hb dX7_init_6 rfl ?_
  obtain ⟨x4, t5, c5, s5, C5, S5, e6, hf, hk, hn⟩ := gw_bcE hf hk hn
  refine gw_cJv (As := []) (rest := [.ref x1, .int a2, .ref a1, .ref a0]) C hml hP hS (mx_X2_init (l := l) (K := K) hA _ _ _ _ _ _ e6) ⟨va_cnB 0 hts (lw_meth q140) rfl rfl rfl (hN _ q466 rfl) (hts _ q102) hdX2_init.2 ⟨Nat.le_of_ble_eq_true rfl, Nat.le_of_ble_eq_true rfl⟩, rfl, hts _ q139⟩ rfl hl.1 rfl (Nat.le_of_ble_eq_true rfl) (Nat.le.intro hk) (Nat.le.intro hn) dX7_init_7 (fun H locs hP hS => ?_)
  obtain ⟨x7, t8, e9, hf⟩ := gw_b0E hf
  refine gw_cIv (As := [.ref a1, .int a2, .ref x1]) (rest := []) C hml hP hS (mx_X7_init_2 (l := l) (K := K) hA _ _ _ _ _ _ _ e9) (cwI 3 hts (lw_meth q469) rfl rfl rfl (hts _ q107) (hts _ q467) (hts _ q468) rfl hdX7_init_2.2 ⟨Nat.le_of_ble_eq_true rfl, Nat.le_of_ble_eq_true rfl⟩) rfl hl.1 rfl (Nat.le_of_ble_eq_true rfl) (Nat.le.intro hk) (Nat.le.intro hn) dX7_init_10 (fun H locs hP hS => ?_)
  obtain ⟨h1, h2, h3, h4⟩ := gw_rcE hf hk hn
  exact gw_iretv h2 h3 h4 C hr hP hS hlk dX7_init_13
def fx_X10_init_2 (a0 : Nat) (a1 : Int32) (a2 : Int32) (a3 : Nat) : HM Unit :=
   tw_bd (gw_pi 9 0 a0 a1) fun _ =>
  tw_bd (gw_pi 9 1 a0 a2) fun _ =>
  tw_bd (gw_pr 9 2 a0 a3) fun _ =>
  tw_rt ()
theorem hdX10_init_2 : yX10_init_2.cls = "LosslessFabric$Flow" ∧ (yX10_init_2.cls ≠ "java/lang/invoke/MethodHandle" ∧ yX10_init_2.cls ≠ "java/lang/invoke/VarHandle" ∧ (parseMethodDescriptor yX10_init_2.desc).map (fun d => d.parameters.length) = some 3) := by decide +kernel
set_option maxHeartbeats 4000000 in
theorem mx_X10_init_2 {l : Launch} {K : GK} (hA : gw_A K) (a0 : Nat) (a1 : Int32) (a2 : Int32) (a3 : Nat) (t0 tZ : Hp) (r : Unit) (hf : fx_X10_init_2 a0 a1 a2 a3 t0 = some (r, tZ)) : Met l yX10_init_2 (ws_ yX10_init_2 cX10_init_2 4 (none)) ({ frames := 2, cells := 0, slots := 0, locals := 30 }) (va_Pc [.ref a0, .int a1, .int a2, .ref a3] (gw_W K t0)) (gw_Qv K tZ) 0 0 K.2.2.2.1 := by
  refine Met.ofW (cc := cX10_init_2) (maxL := 4) (ret := none) (by decide) rfl ?_
  intro p e s m args below meth c s₁ B hml hv
  obtain ⟨rfl, hP, hK, hX, hN, hL⟩ := hv
  have hx := B.exec
  have hb := B.bytes
  have hr := B.returns
  have hts := atoms_spec (ws := (ws_ yX10_init_2 cX10_init_2 4 (none))) B.pre
  have hts : ∀ w ∈ lw_all, w.before _ s = true := fun w h => hts w (List.mem_cons_of_mem _ h)
  have hown : s.vm.findClass "LosslessFabric$Flow" = some m.cls := findClass_of_methodNamed B.named
  have hlk := B.notSynchronized
  have hin : meth.name = "<init>" := (name_of_methodNamed B.named B.method).1
  have C : gw_C K "LosslessFabric$Flow" p s m _ c cX10_init_2 := ⟨hx, hb, hts, hown, hK, hA, hX, hN, hL⟩
  have hS : va_S K.2.2.2.1 s.heap s.heap [] := va_S.rf
  have hl := lv_entry ([.ref a0, .int a1, .int a2, .ref a3]) (n := 4) (Nat.le_of_ble_eq_true rfl)
  rw [lg_entry_eq]
  generalize (lg_sl ([.ref a0, .int a1, .int a2, .ref a3]) ++ List.replicate (4 - (lg_sl ([.ref a0, .int a1, .int a2, .ref a3])).length) Slot.unset).toArray = ls at hl ⊢
  have hl : lv_has ls 4 [(0, .ref a0), (1, .int a1), (2, .int a2), (3, .ref a3)] := hl
  unfold fx_X10_init_2 at hf
  refine lv_aload_n hx hb dX10_init_2_0 rfl (lv_at hl 0 rfl) ?_
  refine W.objInit (rest := []) hx hb hown (hts _ q771) (hts _ q134) (hts _ q135) rfl (by rw [hml]; exact hl.1) rfl dX10_init_2_1 (Nat.le_of_ble_eq_true rfl) (Nat.le_of_ble_eq_true rfl) ?_
  refine W.eq (g2 := F0 m 4 ls []) rfl ?_
  refine lv_aload_n hx hb dX10_init_2_4 rfl (lv_at hl 0 rfl) ?_
  refine lv_iload_n hx hb dX10_init_2_5 rfl (lv_at hl 1 rfl) ?_
  obtain ⟨x1, t2, e3, hf⟩ := tw_bdE hf
  refine gw_vputF (ci := 9) (k := 0) (T := TX10) C hP hS rfl in_X10 tyX10 tyX10_ok nmX10 (by decide) e3 q772 rfl rfl hin rfl (vp_nar_int _) rfl dX10_init_2_6 (fun H locs hP hS => ?_)
  refine lv_aload_n hx hb dX10_init_2_9 rfl (lv_at hl 0 rfl) ?_
  refine lv_iload_n hx hb dX10_init_2_10 rfl (lv_at hl 2 rfl) ?_
  obtain ⟨x4, t5, e6, hf⟩ := tw_bdE hf
  refine gw_vputF (ci := 9) (k := 1) (T := TX10) C hP hS rfl in_X10 tyX10 tyX10_ok nmX10 (by decide) e6 q774 rfl rfl hin rfl (vp_nar_int _) rfl dX10_init_2_11 (fun H locs hP hS => ?_)
  refine lv_aload_n hx hb dX10_init_2_14 rfl (lv_at hl 0 rfl) ?_
  refine lv_aload_n hx hb dX10_init_2_15 rfl (lv_at hl 3 rfl) ?_
  obtain ⟨x7, t8, e9, hf⟩ := tw_bdE hf
  refine gw_vputF (ci := 9) (k := 2) (T := TX10) C hP hS rfl in_X10 tyX10 tyX10_ok nmX10 (by decide) e9 q776 rfl rfl hin rfl rfl rfl dX10_init_2_16 (fun H locs hP hS => ?_)
  exact gw_iretv (tw_rtE hf).2 rfl rfl C hr hP hS hlk dX10_init_2_19
def fx_X10_init (a0 : Nat) (a1 : Int32) (a2 : Int32) : gM Unit :=
  gw_bc (gw_na 0 (5 : Int32)) fun x1 =>
  gw_b0 (fx_X10_init_2 a0 a1 a2 x1) fun _ =>
  gw_rc ()
theorem hdX10_init : yX10_init.cls = "LosslessFabric$Flow" ∧ (yX10_init.cls ≠ "java/lang/invoke/MethodHandle" ∧ yX10_init.cls ≠ "java/lang/invoke/VarHandle" ∧ (parseMethodDescriptor yX10_init.desc).map (fun d => d.parameters.length) = some 2) := by decide +kernel
set_option maxHeartbeats 4000000 in
theorem mx_X10_init {l : Launch} {K : GK} (hA : gw_A K) (a0 : Nat) (a1 : Int32) (a2 : Int32) (t0 tZ : Hp) (r : Unit) (C0 S0 : Nat) (hf : fx_X10_init a0 a1 a2 t0 = some (r, tZ, C0, S0)) : Met l yX10_init (ws_ yX10_init cX10_init 3 (none)) ({ frames := 3, cells := C0, slots := S0, locals := 53 }) (va_Pc [.ref a0, .int a1, .int a2] (gw_W K t0)) (gw_Qv K tZ) C0 S0 K.2.2.2.1 := by
  refine Met.ofW (cc := cX10_init) (maxL := 3) (ret := none) (by decide) rfl ?_
  intro p e s m args below meth c s₁ B hml hv
  obtain ⟨rfl, hP, hK, hX, hN, hL⟩ := hv
  have hx := B.exec
  have hb := B.bytes
  have hr := B.returns
  have hts := atoms_spec (ws := (ws_ yX10_init cX10_init 3 (none))) B.pre
  have hts : ∀ w ∈ lw_all, w.before _ s = true := fun w h => hts w (List.mem_cons_of_mem _ h)
  have hown : s.vm.findClass "LosslessFabric$Flow" = some m.cls := findClass_of_methodNamed B.named
  have hlk := B.notSynchronized
  have hin : meth.name = "<init>" := (name_of_methodNamed B.named B.method).1
  have C : gw_C K "LosslessFabric$Flow" p s m _ c cX10_init := ⟨hx, hb, hts, hown, hK, hA, hX, hN, hL⟩
  have hk : 0 + C0 = C0 := Nat.zero_add _
  have hn : 0 + S0 = S0 := Nat.zero_add _
  have hS : va_S K.2.2.2.1 s.heap s.heap [] := va_S.rf
  have hl := lv_entry ([.ref a0, .int a1, .int a2]) (n := 3) (Nat.le_of_ble_eq_true rfl)
  rw [lg_entry_eq]
  generalize (lg_sl ([.ref a0, .int a1, .int a2]) ++ List.replicate (3 - (lg_sl ([.ref a0, .int a1, .int a2])).length) Slot.unset).toArray = ls at hl ⊢
  have hl : lv_has ls 3 [(0, .ref a0), (1, .int a1), (2, .int a2)] := hl
  unfold fx_X10_init at hf
  refine lv_aload_n hx hb dX10_init_0 rfl (lv_at hl 0 rfl) ?_
  refine lv_iload_n hx hb dX10_init_1 rfl (lv_at hl 1 rfl) ?_
  refine lv_iload_n hx hb dX10_init_2 rfl (lv_at hl 2 rfl) ?_
  refine lv_iconst (v := (5 : Int32)) hx hb dX10_init_3 (by decide) ?_
  obtain ⟨x1, t2, c2, s2, C2, S2, e3, hf, hk, hn⟩ := gw_bcE hf hk hn
  refine gw_newa (atype := .int) C hP hS e3 q290 rfl rfl (fun h => h) rfl (by decide) (Nat.le.intro hk) (Nat.le.intro hn) dX10_init_4 (fun H hP hS => ?_)
  obtain ⟨x4, t5, e6, hf⟩ := gw_b0E hf
  refine gw_cIv (As := [.int a1, .int a2, .ref x1]) (rest := []) C hml hP hS (mx_X10_init_2 (l := l) (K := K) hA _ _ _ _ _ _ _ e6) (cwI 3 hts (lw_meth q770) rfl rfl rfl (hts _ q118) (hts _ q768) (hts _ q769) rfl hdX10_init_2.2 ⟨Nat.le_of_ble_eq_true rfl, Nat.le_of_ble_eq_true rfl⟩) rfl hl.1 rfl (Nat.le_of_ble_eq_true rfl) (Nat.le.intro hk) (Nat.le.intro hn) dX10_init_6 (fun H locs hP hS => ?_)
  obtain ⟨h1, h2, h3, h4⟩ := gw_rcE hf hk hn
  exact gw_iretv h2 h3 h4 C hr hP hS hlk dX10_init_9
def fx_X9_init (a0 : Nat) (a1 : Int32) (a2 : Nat) : HM Unit :=
   tw_bd (gw_pi 8 0 a0 a1) fun _ =>
  tw_bd (gw_ld 0 a2 (0 : Int32)) fun x4 =>
  tw_bd (gw_pi 8 1 a0 x4) fun _ =>
  tw_bd (gw_ld 0 a2 (1 : Int32)) fun x10 =>
  tw_bd (gw_pi 8 2 a0 x10) fun _ =>
  tw_bd (gw_ld 0 a2 (2 : Int32)) fun x16 =>
  tw_bd (gw_pi 8 3 a0 x16) fun _ =>
  tw_bd (gw_ld 0 a2 (3 : Int32)) fun x22 =>
  tw_bd (gw_pi 8 4 a0 x22) fun _ =>
  tw_bd (gw_ld 0 a2 (4 : Int32)) fun x28 =>
  tw_bd (gw_pi 8 5 a0 x28) fun _ =>
  tw_rt ()
theorem hdX9_init : yX9_init.cls = "LosslessFabric$Link" ∧ (yX9_init.cls ≠ "java/lang/invoke/MethodHandle" ∧ yX9_init.cls ≠ "java/lang/invoke/VarHandle" ∧ (parseMethodDescriptor yX9_init.desc).map (fun d => d.parameters.length) = some 2) := by decide +kernel
set_option maxHeartbeats 4000000 in
theorem mx_X9_init {l : Launch} {K : GK} (hA : gw_A K) (a0 : Nat) (a1 : Int32) (a2 : Nat) (t0 tZ : Hp) (r : Unit) (hf : fx_X9_init a0 a1 a2 t0 = some (r, tZ)) : Met l yX9_init (ws_ yX9_init cX9_init 3 (none)) ({ frames := 2, cells := 0, slots := 0, locals := 30 }) (va_Pc [.ref a0, .int a1, .ref a2] (gw_W K t0)) (gw_Qv K tZ) 0 0 K.2.2.2.1 := by
  refine Met.ofW (cc := cX9_init) (maxL := 3) (ret := none) (by decide) rfl ?_
  intro p e s m args below meth c s₁ B hml hv
  obtain ⟨rfl, hP, hK, hX, hN, hL⟩ := hv
  have hx := B.exec
  have hb := B.bytes
  have hr := B.returns
  have hts := atoms_spec (ws := (ws_ yX9_init cX9_init 3 (none))) B.pre
  have hts : ∀ w ∈ lw_all, w.before _ s = true := fun w h => hts w (List.mem_cons_of_mem _ h)
  have hown : s.vm.findClass "LosslessFabric$Link" = some m.cls := findClass_of_methodNamed B.named
  have hlk := B.notSynchronized
  have hin : meth.name = "<init>" := (name_of_methodNamed B.named B.method).1
  have C : gw_C K "LosslessFabric$Link" p s m _ c cX9_init := ⟨hx, hb, hts, hown, hK, hA, hX, hN, hL⟩
  have hS : va_S K.2.2.2.1 s.heap s.heap [] := va_S.rf
  have hl := lv_entry ([.ref a0, .int a1, .ref a2]) (n := 3) (Nat.le_of_ble_eq_true rfl)
  rw [lg_entry_eq]
  generalize (lg_sl ([.ref a0, .int a1, .ref a2]) ++ List.replicate (3 - (lg_sl ([.ref a0, .int a1, .ref a2])).length) Slot.unset).toArray = ls at hl ⊢
  have hl : lv_has ls 3 [(0, .ref a0), (1, .int a1), (2, .ref a2)] := hl
  unfold fx_X9_init at hf
  refine lv_aload_n hx hb dX9_init_0 rfl (lv_at hl 0 rfl) ?_
  refine W.objInit (rest := []) hx hb hown (hts _ q727) (hts _ q134) (hts _ q135) rfl (by rw [hml]; exact hl.1) rfl dX9_init_1 (Nat.le_of_ble_eq_true rfl) (Nat.le_of_ble_eq_true rfl) ?_
  refine W.eq (g2 := F0 m 4 ls []) rfl ?_
  refine lv_aload_n hx hb dX9_init_4 rfl (lv_at hl 0 rfl) ?_
  refine lv_iload_n hx hb dX9_init_5 rfl (lv_at hl 1 rfl) ?_
  obtain ⟨x1, t2, e3, hf⟩ := tw_bdE hf
  refine gw_vputF (ci := 8) (k := 0) (T := TX9) C hP hS rfl in_X9 tyX9 tyX9_ok nmX9 (by decide) e3 q728 rfl rfl hin rfl (vp_nar_int _) rfl dX9_init_6 (fun H locs hP hS => ?_)
  refine lv_aload_n hx hb dX9_init_9 rfl (lv_at hl 0 rfl) ?_
  refine lv_aload_n hx hb dX9_init_10 rfl (lv_at hl 2 rfl) ?_
  refine lv_iconst (v := (0 : Int32)) hx hb dX9_init_11 (by decide) ?_
  obtain ⟨x4, t5, e6, hf⟩ := tw_bdE hf
  refine gw_iald C hP e6 dX9_init_12 (fun hP => ?_)
  obtain ⟨x7, t8, e9, hf⟩ := tw_bdE hf
  refine gw_vputF (ci := 8) (k := 1) (T := TX9) C hP hS rfl in_X9 tyX9 tyX9_ok nmX9 (by decide) e9 q730 rfl rfl hin rfl (vp_nar_int _) rfl dX9_init_13 (fun H locs hP hS => ?_)
  refine lv_aload_n hx hb dX9_init_16 rfl (lv_at hl 0 rfl) ?_
  refine lv_aload_n hx hb dX9_init_17 rfl (lv_at hl 2 rfl) ?_
  refine lv_iconst (v := (1 : Int32)) hx hb dX9_init_18 (by decide) ?_
  obtain ⟨x10, t11, e12, hf⟩ := tw_bdE hf
  refine gw_iald C hP e12 dX9_init_19 (fun hP => ?_)
  obtain ⟨x13, t14, e15, hf⟩ := tw_bdE hf
  refine gw_vputF (ci := 8) (k := 2) (T := TX9) C hP hS rfl in_X9 tyX9 tyX9_ok nmX9 (by decide) e15 q733 rfl rfl hin rfl (vp_nar_int _) rfl dX9_init_20 (fun H locs hP hS => ?_)
  refine lv_aload_n hx hb dX9_init_23 rfl (lv_at hl 0 rfl) ?_
  refine lv_aload_n hx hb dX9_init_24 rfl (lv_at hl 2 rfl) ?_
  refine lv_iconst (v := (2 : Int32)) hx hb dX9_init_25 (by decide) ?_
  obtain ⟨x16, t17, e18, hf⟩ := tw_bdE hf
  refine gw_iald C hP e18 dX9_init_26 (fun hP => ?_)
  obtain ⟨x19, t20, e21, hf⟩ := tw_bdE hf
  refine gw_vputF (ci := 8) (k := 3) (T := TX9) C hP hS rfl in_X9 tyX9 tyX9_ok nmX9 (by decide) e21 q736 rfl rfl hin rfl (vp_nar_int _) rfl dX9_init_27 (fun H locs hP hS => ?_)
  refine lv_aload_n hx hb dX9_init_30 rfl (lv_at hl 0 rfl) ?_
  refine lv_aload_n hx hb dX9_init_31 rfl (lv_at hl 2 rfl) ?_
  refine lv_iconst (v := (3 : Int32)) hx hb dX9_init_32 (by decide) ?_
  obtain ⟨x22, t23, e24, hf⟩ := tw_bdE hf
  refine gw_iald C hP e24 dX9_init_33 (fun hP => ?_)
  obtain ⟨x25, t26, e27, hf⟩ := tw_bdE hf
  refine gw_vputF (ci := 8) (k := 4) (T := TX9) C hP hS rfl in_X9 tyX9 tyX9_ok nmX9 (by decide) e27 q738 rfl rfl hin rfl (vp_nar_int _) rfl dX9_init_34 (fun H locs hP hS => ?_)
  refine lv_aload_n hx hb dX9_init_37 rfl (lv_at hl 0 rfl) ?_
  refine lv_aload_n hx hb dX9_init_38 rfl (lv_at hl 2 rfl) ?_
  refine lv_iconst (v := (4 : Int32)) hx hb dX9_init_39 (by decide) ?_
  obtain ⟨x28, t29, e30, hf⟩ := tw_bdE hf
  refine gw_iald C hP e30 dX9_init_40 (fun hP => ?_)
  obtain ⟨x31, t32, e33, hf⟩ := tw_bdE hf
  refine gw_vputF (ci := 8) (k := 5) (T := TX9) C hP hS rfl in_X9 tyX9 tyX9_ok nmX9 (by decide) e33 q740 rfl rfl hin rfl (vp_nar_int _) rfl dX9_init_41 (fun H locs hP hS => ?_)
  exact gw_iretv (tw_rtE hf).2 rfl rfl C hr hP hS hlk dX9_init_44
def fx_X1_tick_L38 (a1 : Int32) (a0 : Nat) (sf38 : Int32 → gM Int32) (v38_2 : Int32) : gM Int32 :=
  if a1 ≤ v38_2 then (gw_b0 (gw_gr 0 11 a0) fun x14 =>
  gw_b0 (gw_gi 2 1 x14) fun x17 =>
  gw_rc x17)
  else (gw_b0 (gw_gr 0 11 a0) fun x20 =>
  gw_bc (gw_on 0 a0 (fx_X1_ticks a0 x20)) fun _ =>
 
  sf38 (v38_2 + (1 : Int32)))
def fx_X1_tick (a0 : Nat) (a1 : Int32) : gM Int32 :=
  gw_b0 (fx_X1_isIn (a1.toInt64) (1 : Int64) (50 : Int64)) fun x1 =>
  if x1 = 0 then (gw_rc (-1 : Int32))
  else (gw_b0 (gw_gr 0 11 a0) fun x4 =>
  gw_b0 (gw_gi 2 1 x4) fun x7 =>
  if (x7 + a1) ≤ (9999 : Int32) then (gw_bc (gw_on 0 a0 (fx_X1_canUndo a0)) fun _ =>
 
  tw_lp (fx_X1_tick_L38 a1 a0) (fun _ _ => none) tw_fu (0 : Int32))
  else (gw_rc (-2 : Int32)))
theorem hdX1_tick : yX1_tick.cls = "LosslessFabric" ∧ (yX1_tick.cls ≠ "java/lang/invoke/MethodHandle" ∧ yX1_tick.cls ≠ "java/lang/invoke/VarHandle" ∧ (parseMethodDescriptor yX1_tick.desc).map (fun d => d.parameters.length) = some 1) := by decide +kernel
set_option maxHeartbeats 4000000 in
theorem mx_X1_tick {l : Launch} {K : GK} (hA : gw_A K) (a0 : Nat) (a1 : Int32) (t0 tZ : Hp) (r : Int32) (C0 S0 : Nat) (hf : fx_X1_tick a0 a1 t0 = some (r, tZ, C0, S0)) : Met l yX1_tick (ws_ yX1_tick cX1_tick 3 (some (.int))) ({ frames := 7, cells := C0, slots := S0, locals := 3249 }) (va_Pc [.ref a0, .int a1] (gw_W K t0)) (gw_Qi K r tZ) C0 S0 K.2.2.2.1 := by
  refine Met.ofW (cc := cX1_tick) (maxL := 3) (ret := some (.int)) (by decide) rfl ?_
  intro p e s m args below meth c s₁ B hml hv
  obtain ⟨rfl, hP, hK, hX, hN, hL⟩ := hv
  have hx := B.exec
  have hb := B.bytes
  have hr := B.returns
  have hts := atoms_spec (ws := (ws_ yX1_tick cX1_tick 3 (some (.int)))) B.pre
  have hts : ∀ w ∈ lw_all, w.before _ s = true := fun w h => hts w (List.mem_cons_of_mem _ h)
  have hown : s.vm.findClass "LosslessFabric" = some m.cls := findClass_of_methodNamed B.named
  have hlk := B.notSynchronized
  have C : gw_C K "LosslessFabric" p s m _ c cX1_tick := ⟨hx, hb, hts, hown, hK, hA, hX, hN, hL⟩
  have hk : 0 + C0 = C0 := Nat.zero_add _
  have hn : 0 + S0 = S0 := Nat.zero_add _
  have hS : va_S K.2.2.2.1 s.heap s.heap [] := va_S.rf
  have hl := lv_entry ([.ref a0, .int a1]) (n := 3) (Nat.le_of_ble_eq_true rfl)
  rw [lg_entry_eq]
  generalize (lg_sl ([.ref a0, .int a1]) ++ List.replicate (3 - (lg_sl ([.ref a0, .int a1])).length) Slot.unset).toArray = ls at hl ⊢
  have hl : lv_has ls 3 [(0, .ref a0), (1, .int a1)] := hl
  unfold fx_X1_tick at hf
  refine lv_iload_n hx hb dX1_tick_0 rfl (lv_at hl 1 rfl) ?_
  refine lv_i2l hx hb dX1_tick_1 rfl ?_
  refine lv_lconst (v := (1 : Int64)) hx hb dX1_tick_2 (by decide) ?_
  refine lv_ldc2 hx hb hown (hts _ q846) dX1_tick_3 ?_
  obtain ⟨x1, t2, e3, hf⟩ := gw_b0E hf
  refine gw_cSi (As := [.long (a1.toInt64), .long (1 : Int64), .long (50 : Int64)]) (rest := []) C hml hP hS (mx_X1_isIn (l := l) (K := K) hA _ _ _ _ _ _ e3) (va_cwS 3 hts (lw_S q457 q458 q101 q459) rfl rfl rfl hdX1_isIn ⟨Nat.le_of_ble_eq_true rfl, Nat.le_of_ble_eq_true rfl⟩) rfl hl.1 rfl (Nat.le_of_ble_eq_true rfl) (Nat.le.intro hk) (Nat.le.intro hn) dX1_tick_6 (fun H locs hP hS => ?_)
  refine lv_if_ne (tgt := 14) hx hb dX1_tick_9 (by decide) (fun hc => ?_) (fun hc => ?_)
  · have hf := tw_ifF hc hf
    refine lv_aload_n hx hb dX1_tick_14 rfl (lv_at hl 0 rfl) ?_
    obtain ⟨x4, t5, e6, hf⟩ := gw_b0E hf
    refine gw_rget (ci := 0) (k := 11) (T := TX1) C hP rfl in_X1 (by decide) e6 q404 rfl dX1_tick_15 (fun hP => ?_)
    obtain ⟨x7, t8, e9, hf⟩ := gw_b0E hf
    refine gw_igetN (ci := 2) (k := 1) (T := TX3) C hP rfl in_X3 (by decide) e9 q353 rfl dX1_tick_18 (fun hP => ?_)
    refine lv_iload_n hx hb dX1_tick_21 rfl (lv_at hl 1 rfl) ?_
    refine lv_iadd hx hb dX1_tick_22 ?_
    refine lv_sipush (v := (9999 : Int32)) hx hb dX1_tick_23 (by decide) ?_
    refine lv_icmp_le (tgt := 32) hx hb dX1_tick_26 (by decide) (fun hc => ?_) (fun hc => ?_)
    · have hf := tw_ifT hc hf
      refine lv_aload_n hx hb dX1_tick_32 rfl (lv_at hl 0 rfl) ?_
      obtain ⟨x10, t11, c11, s11, C11, S11, e12, hf, hk, hn⟩ := gw_bcE hf hk hn
      refine gw_cVv (As := []) (rest := []) (ci := 0) (T := TX1) (N := 18) C hml hP hS rfl (gw_onE e12).1 (mx_X1_canUndo (l := l) (K := K) hA _ _ _ _ _ _ (gw_onE e12).2) (cwV 0 hts (lw_V q847 q849 qs15 q101 q850) rfl rfl rfl hdX1_canUndo ⟨Nat.le_of_ble_eq_true rfl, Nat.le_of_ble_eq_true rfl⟩) rfl hl.1 rfl (Nat.le_of_ble_eq_true rfl) (Nat.le.intro hk) (Nat.le.intro hn) dX1_tick_33 (fun H locs hP hS => ?_)
      refine lv_iconst (v := (0 : Int32)) hx hb dX1_tick_36 (by decide) ?_
      refine lv_istore_n (lv' := [(2, .int (0 : Int32)), (0, .ref a0), (1, .int a1)]) hx hb dX1_tick_37 rfl hl (by decide) rfl (fun ls hl => ?_)
      have k38 : ∀ (n : Nat) (v38_2 : Int32) (t13 : Hp) (k13 n13 C13 S13 : Nat) (H : Heap) (locs : List Loc) (ls : Array Slot), gw_P K t13 H → va_S K.2.2.2.1 s.heap H locs → k13 + C13 = C0 → n13 + S13 = S0 → lv_has ls 3 [(0, .ref a0), (1, .int a1), (2, .int v38_2)] → tw_lp (fx_X1_tick_L38 a1 a0) (fun _ _ => none) n v38_2 t13 = some (r, tZ, C13, S13) → W p l e (headSpec (ws_ yX1_tick cX1_tick 3 (some (.int))) ({ frames := 7, cells := C0, slots := S0, locals := 3249 })).room s m ([.ref a0, .int a1] : List Value).toArray below meth c H locs k13 n13 (MQ below (gw_Qi K r tZ) ([.ref a0, .int a1] : List Value).toArray s C0 S0 K.2.2.2.1) (F0 m 38 ls []) := by
        intro n
        induction n with
        | zero => intro v38_2 t13 k13 n13 C13 S13 H locs ls hP hS hk hn hl hf; exact (tw_no hf).elim
        | succ n ih38 =>
          intro v38_2 t13 k13 n13 C13 S13 H locs ls hP hS hk hn hl hf
          obtain ⟨sf38, hs38⟩ : ∃ f, f = tw_lp (fx_X1_tick_L38 a1 a0) (fun _ _ => none) n := ⟨_, rfl⟩
          rw [← hs38] at ih38
          have hf : fx_X1_tick_L38 a1 a0 sf38 v38_2 t13 = some (r, tZ, C13, S13) := by rw [hs38]; exact hf
          clear hs38
          unfold fx_X1_tick_L38 at hf
          refine lv_iload_n hx hb dX1_tick_38 rfl (lv_at hl 2 rfl) ?_
          refine lv_iload_n hx hb dX1_tick_39 rfl (lv_at hl 1 rfl) ?_
          refine lv_icmp_ge (tgt := 57) hx hb dX1_tick_40 (by decide) (fun hc => ?_) (fun hc => ?_)
          · have hf := tw_ifT hc hf
            refine lv_aload_n hx hb dX1_tick_57 rfl (lv_at hl 0 rfl) ?_
            obtain ⟨x14, t15, e16, hf⟩ := gw_b0E hf
            refine gw_rget (ci := 0) (k := 11) (T := TX1) C hP rfl in_X1 (by decide) e16 q404 rfl dX1_tick_58 (fun hP => ?_)
            obtain ⟨x17, t18, e19, hf⟩ := gw_b0E hf
            refine gw_igetN (ci := 2) (k := 1) (T := TX3) C hP rfl in_X3 (by decide) e19 q353 rfl dX1_tick_61 (fun hP => ?_)
            obtain ⟨h1, h2, h3, h4⟩ := gw_rcE hf hk hn
            exact gw_ireti h1 h2 h3 h4 C hr hP hS hlk dX1_tick_64
          · have hf := tw_ifF hc hf
            refine lv_aload_n hx hb dX1_tick_43 rfl (lv_at hl 0 rfl) ?_
            refine lv_aload_n hx hb dX1_tick_44 rfl (lv_at hl 0 rfl) ?_
            obtain ⟨x20, t21, e22, hf⟩ := gw_b0E hf
            refine gw_rget (ci := 0) (k := 11) (T := TX1) C hP rfl in_X1 (by decide) e22 q404 rfl dX1_tick_45 (fun hP => ?_)
            obtain ⟨x23, t24, c24, s24, C24, S24, e25, hf, hk, hn⟩ := gw_bcE hf hk hn
            refine gw_cVv (As := [.ref x20]) (rest := []) (ci := 0) (T := TX1) (N := 18) C hml hP hS rfl (gw_onE e25).1 (mx_X1_ticks (l := l) (K := K) hA _ _ _ _ _ _ _ (gw_onE e25).2) (cwV 1 hts (lw_V q852 q854 qs16 q101 q855) rfl rfl rfl hdX1_ticks ⟨Nat.le_of_ble_eq_true rfl, Nat.le_of_ble_eq_true rfl⟩) rfl hl.1 rfl (Nat.le_of_ble_eq_true rfl) (Nat.le.intro hk) (Nat.le.intro hn) dX1_tick_48 (fun H locs hP hS => ?_)
            refine lv_iinc (v := (v38_2 + (1 : Int32))) (lv' := [(2, .int (v38_2 + (1 : Int32))), (0, .ref a0), (1, .int a1)]) hx hb dX1_tick_51 hl (k := 2) rfl rfl (by decide) rfl (fun ls hl => ?_)
            refine lv_goto (tgt := 38) hx hb dX1_tick_54 (by decide) ?_
            exact ih38 _ _ _ _ _ _ _ _ _ hP hS hk hn (lv_sub hl [1, 2, 0] rfl) hf
      exact k38 _ _ _ _ _ _ _ _ _ _ hP hS hk hn (lv_sub hl [1, 2, 0] rfl) hf
    · have hf := tw_ifF hc hf
      refine lv_bipush (v := (-2 : Int32)) hx hb dX1_tick_29 (by decide) ?_
      obtain ⟨h1, h2, h3, h4⟩ := gw_rcE hf hk hn
      exact gw_ireti h1 h2 h3 h4 C hr hP hS hlk dX1_tick_31
  · have hf := tw_ifT hc hf
    refine lv_iconst (v := (-1 : Int32)) hx hb dX1_tick_12 (by decide) ?_
    obtain ⟨h1, h2, h3, h4⟩ := gw_rcE hf hk hn
    exact gw_ireti h1 h2 h3 h4 C hr hP hS hlk dX1_tick_13
def fx_X1_turn_J66  (w66_0 : Int32) : gM Int32 :=
  gw_rc w66_0
def fx_X1_turn_J43 (x13 : Nat) (a0 : Nat) (a1 : Int32) (w43_0 : Int32) : gM Int32 :=
  gw_b0 (gw_pz 4 11 x13 w43_0) fun _ =>
  gw_b0 (gw_gr 0 11 a0) fun x32 =>
  gw_b0 (gw_gr 2 3 x32) fun x35 =>
  gw_b0 (gw_lr 7 x35 a1) fun x38 =>
  gw_b0 (gw_gi 4 11 x38) fun x41 =>
  if x41 = 0 then (fx_X1_turn_J66 (0 : Int32))
  else (fx_X1_turn_J66 (1 : Int32))
def fx_X1_turn (a0 : Nat) (a1 : Int32) : gM Int32 :=
  gw_bc (gw_on 0 a0 (fx_X1_isFlow a0 a1)) fun x1 =>
  if x1 = 0 then (gw_rc (-1 : Int32))
  else (gw_bc (gw_on 0 a0 (fx_X1_canUndo a0)) fun _ =>
  gw_b0 (gw_gr 0 11 a0) fun x7 =>
  gw_b0 (gw_gr 2 3 x7) fun x10 =>
  gw_b0 (gw_lr 7 x10 a1) fun x13 =>
  gw_b0 (gw_gr 0 11 a0) fun x16 =>
  gw_b0 (gw_gr 2 3 x16) fun x19 =>
  gw_b0 (gw_lr 7 x19 a1) fun x22 =>
  gw_b0 (gw_gi 4 11 x22) fun x25 =>
  if x25 = 0 then (fx_X1_turn_J43 x13 a0 a1 (1 : Int32))
  else (fx_X1_turn_J43 x13 a0 a1 (0 : Int32)))
theorem hdX1_turn : yX1_turn.cls = "LosslessFabric" ∧ (yX1_turn.cls ≠ "java/lang/invoke/MethodHandle" ∧ yX1_turn.cls ≠ "java/lang/invoke/VarHandle" ∧ (parseMethodDescriptor yX1_turn.desc).map (fun d => d.parameters.length) = some 1) := by decide +kernel
set_option maxHeartbeats 4000000 in
theorem mx_X1_turn {l : Launch} {K : GK} (hA : gw_A K) (a0 : Nat) (a1 : Int32) (t0 tZ : Hp) (r : Int32) (C0 S0 : Nat) (hf : fx_X1_turn a0 a1 t0 = some (r, tZ, C0, S0)) : Met l yX1_turn (ws_ yX1_turn cX1_turn 2 (some (.int))) ({ frames := 5, cells := C0, slots := S0, locals := 124 }) (va_Pc [.ref a0, .int a1] (gw_W K t0)) (gw_Qi K r tZ) C0 S0 K.2.2.2.1 := by
  refine Met.ofW (cc := cX1_turn) (maxL := 2) (ret := some (.int)) (by decide) rfl ?_
  intro p e s m args below meth c s₁ B hml hv
  obtain ⟨rfl, hP, hK, hX, hN, hL⟩ := hv
  have hx := B.exec
  have hb := B.bytes
  have hr := B.returns
  have hts := atoms_spec (ws := (ws_ yX1_turn cX1_turn 2 (some (.int)))) B.pre
  have hts : ∀ w ∈ lw_all, w.before _ s = true := fun w h => hts w (List.mem_cons_of_mem _ h)
  have hown : s.vm.findClass "LosslessFabric" = some m.cls := findClass_of_methodNamed B.named
  have hlk := B.notSynchronized
  have C : gw_C K "LosslessFabric" p s m _ c cX1_turn := ⟨hx, hb, hts, hown, hK, hA, hX, hN, hL⟩
  have hk : 0 + C0 = C0 := Nat.zero_add _
  have hn : 0 + S0 = S0 := Nat.zero_add _
  have hS : va_S K.2.2.2.1 s.heap s.heap [] := va_S.rf
  have hl := lv_entry ([.ref a0, .int a1]) (n := 2) (Nat.le_of_ble_eq_true rfl)
  rw [lg_entry_eq]
  generalize (lg_sl ([.ref a0, .int a1]) ++ List.replicate (2 - (lg_sl ([.ref a0, .int a1])).length) Slot.unset).toArray = ls at hl ⊢
  have hl : lv_has ls 2 [(0, .ref a0), (1, .int a1)] := hl
  unfold fx_X1_turn at hf
  refine lv_aload_n hx hb dX1_turn_0 rfl (lv_at hl 0 rfl) ?_
  refine lv_iload_n hx hb dX1_turn_1 rfl (lv_at hl 1 rfl) ?_
  obtain ⟨x1, t2, c2, s2, C2, S2, e3, hf, hk, hn⟩ := gw_bcE hf hk hn
  refine gw_cVi (As := [.int a1]) (rest := []) (ci := 0) (T := TX1) (N := 18) C hml hP hS rfl (gw_onE e3).1 (mx_X1_isFlow (l := l) (K := K) hA _ _ _ _ _ _ _ (gw_onE e3).2) (cwV 1 hts (lw_V q952 q954 qs21 q101 q955) rfl rfl rfl hdX1_isFlow ⟨Nat.le_of_ble_eq_true rfl, Nat.le_of_ble_eq_true rfl⟩) rfl hl.1 rfl (Nat.le_of_ble_eq_true rfl) (Nat.le.intro hk) (Nat.le.intro hn) dX1_turn_2 (fun H locs hP hS => ?_)
  refine lv_if_ne (tgt := 10) hx hb dX1_turn_5 (by decide) (fun hc => ?_) (fun hc => ?_)
  · have hf := tw_ifF hc hf
    refine lv_aload_n hx hb dX1_turn_10 rfl (lv_at hl 0 rfl) ?_
    obtain ⟨x4, t5, c5, s5, C5, S5, e6, hf, hk, hn⟩ := gw_bcE hf hk hn
    refine gw_cVv (As := []) (rest := []) (ci := 0) (T := TX1) (N := 18) C hml hP hS rfl (gw_onE e6).1 (mx_X1_canUndo (l := l) (K := K) hA _ _ _ _ _ _ (gw_onE e6).2) (cwV 0 hts (lw_V q847 q849 qs15 q101 q850) rfl rfl rfl hdX1_canUndo ⟨Nat.le_of_ble_eq_true rfl, Nat.le_of_ble_eq_true rfl⟩) rfl hl.1 rfl (Nat.le_of_ble_eq_true rfl) (Nat.le.intro hk) (Nat.le.intro hn) dX1_turn_11 (fun H locs hP hS => ?_)
    refine lv_aload_n hx hb dX1_turn_14 rfl (lv_at hl 0 rfl) ?_
    obtain ⟨x7, t8, e9, hf⟩ := gw_b0E hf
    refine gw_rget (ci := 0) (k := 11) (T := TX1) C hP rfl in_X1 (by decide) e9 q404 rfl dX1_turn_15 (fun hP => ?_)
    obtain ⟨x10, t11, e12, hf⟩ := gw_b0E hf
    refine gw_rgetN (ci := 2) (k := 3) (T := TX3) C hP rfl in_X3 (by decide) e12 q358 rfl dX1_turn_18 (fun hP => ?_)
    refine lv_iload_n hx hb dX1_turn_21 rfl (lv_at hl 1 rfl) ?_
    obtain ⟨x13, t14, e15, hf⟩ := gw_b0E hf
    refine gw_aald C hP rfl e15 dX1_turn_22 (fun hP => ?_)
    refine lv_aload_n hx hb dX1_turn_23 rfl (lv_at hl 0 rfl) ?_
    obtain ⟨x16, t17, e18, hf⟩ := gw_b0E hf
    refine gw_rget (ci := 0) (k := 11) (T := TX1) C hP rfl in_X1 (by decide) e18 q404 rfl dX1_turn_24 (fun hP => ?_)
    obtain ⟨x19, t20, e21, hf⟩ := gw_b0E hf
    refine gw_rgetN (ci := 2) (k := 3) (T := TX3) C hP rfl in_X3 (by decide) e21 q358 rfl dX1_turn_27 (fun hP => ?_)
    refine lv_iload_n hx hb dX1_turn_30 rfl (lv_at hl 1 rfl) ?_
    obtain ⟨x22, t23, e24, hf⟩ := gw_b0E hf
    refine gw_aald C hP rfl e24 dX1_turn_31 (fun hP => ?_)
    obtain ⟨x25, t26, e27, hf⟩ := gw_b0E hf
    refine gw_igetN (ci := 4) (k := 11) (T := TX5) C hP rfl in_X5 (by decide) e27 q325 rfl dX1_turn_32 (fun hP => ?_)
    have k43 : ∀ (w43_0 : Int32) (t28 : Hp) (k28 n28 C28 S28 : Nat) (H : Heap) (locs : List Loc) (ls : Array Slot), gw_P K t28 H → va_S K.2.2.2.1 s.heap H locs → k28 + C28 = C0 → n28 + S28 = S0 → lv_has ls 2 [(0, .ref a0), (1, .int a1)] → fx_X1_turn_J43 x13 a0 a1 w43_0 t28 = some (r, tZ, C28, S28) → W p l e (headSpec (ws_ yX1_turn cX1_turn 2 (some (.int))) ({ frames := 5, cells := C0, slots := S0, locals := 124 })).room s m ([.ref a0, .int a1] : List Value).toArray below meth c H locs k28 n28 (MQ below (gw_Qi K r tZ) ([.ref a0, .int a1] : List Value).toArray s C0 S0 K.2.2.2.1) (F0 m 43 ls [.int w43_0, .ref x13]) := by
      intro w43_0 t28 k28 n28 C28 S28 H locs ls hP hS hk hn hl hf
      unfold fx_X1_turn_J43 at hf
      obtain ⟨x29, t30, e31, hf⟩ := gw_b0E hf
      refine gw_vputN (ci := 4) (k := 11) (T := TX5) C hP hS rfl in_X5 tyX5 tyX5_ok nmX5 (by decide) (gw_pzE e31).2 q325 rfl rfl (gw_zn (gw_pzE e31).1) (gw_zf (gw_pzE e31).1) dX1_turn_43 (fun H locs hP hS => ?_)
      refine lv_aload_n hx hb dX1_turn_46 rfl (lv_at hl 0 rfl) ?_
      obtain ⟨x32, t33, e34, hf⟩ := gw_b0E hf
      refine gw_rget (ci := 0) (k := 11) (T := TX1) C hP rfl in_X1 (by decide) e34 q404 rfl dX1_turn_47 (fun hP => ?_)
      obtain ⟨x35, t36, e37, hf⟩ := gw_b0E hf
      refine gw_rgetN (ci := 2) (k := 3) (T := TX3) C hP rfl in_X3 (by decide) e37 q358 rfl dX1_turn_50 (fun hP => ?_)
      refine lv_iload_n hx hb dX1_turn_53 rfl (lv_at hl 1 rfl) ?_
      obtain ⟨x38, t39, e40, hf⟩ := gw_b0E hf
      refine gw_aald C hP rfl e40 dX1_turn_54 (fun hP => ?_)
      obtain ⟨x41, t42, e43, hf⟩ := gw_b0E hf
      refine gw_igetN (ci := 4) (k := 11) (T := TX5) C hP rfl in_X5 (by decide) e43 q325 rfl dX1_turn_55 (fun hP => ?_)
      have k66 : ∀ (w66_0 : Int32) (t44 : Hp) (k44 n44 C44 S44 : Nat) (H : Heap) (locs : List Loc) (ls : Array Slot), gw_P K t44 H → va_S K.2.2.2.1 s.heap H locs → k44 + C44 = C0 → n44 + S44 = S0 → lv_has ls 2 [] → fx_X1_turn_J66 w66_0 t44 = some (r, tZ, C44, S44) → W p l e (headSpec (ws_ yX1_turn cX1_turn 2 (some (.int))) ({ frames := 5, cells := C0, slots := S0, locals := 124 })).room s m ([.ref a0, .int a1] : List Value).toArray below meth c H locs k44 n44 (MQ below (gw_Qi K r tZ) ([.ref a0, .int a1] : List Value).toArray s C0 S0 K.2.2.2.1) (F0 m 66 ls [.int w66_0]) := by
        intro w66_0 t44 k44 n44 C44 S44 H locs ls hP hS hk hn hl hf
        unfold fx_X1_turn_J66 at hf
        obtain ⟨h1, h2, h3, h4⟩ := gw_rcE hf hk hn
        exact gw_ireti h1 h2 h3 h4 C hr hP hS hlk dX1_turn_66
      refine lv_if_eq (tgt := 65) hx hb dX1_turn_58 (by decide) (fun hc => ?_) (fun hc => ?_)
      · have hf := tw_ifT hc hf
        refine lv_iconst (v := (0 : Int32)) hx hb dX1_turn_65 (by decide) ?_
        exact k66 _ _ _ _ _ _ _ _ _ hP hS hk hn (lv_sub hl [] rfl) hf
      · have hf := tw_ifF hc hf
        refine lv_iconst (v := (1 : Int32)) hx hb dX1_turn_61 (by decide) ?_
        refine lv_goto (tgt := 66) hx hb dX1_turn_62 (by decide) ?_
        exact k66 _ _ _ _ _ _ _ _ _ hP hS hk hn (lv_sub hl [] rfl) hf
    refine lv_if_ne (tgt := 42) hx hb dX1_turn_35 (by decide) (fun hc => ?_) (fun hc => ?_)
    · have hf := tw_ifF hc hf
      refine lv_iconst (v := (0 : Int32)) hx hb dX1_turn_42 (by decide) ?_
      exact k43 _ _ _ _ _ _ _ _ _ hP hS hk hn (lv_sub hl [0, 1] rfl) hf
    · have hf := tw_ifT hc hf
      refine lv_iconst (v := (1 : Int32)) hx hb dX1_turn_38 (by decide) ?_
      refine lv_goto (tgt := 43) hx hb dX1_turn_39 (by decide) ?_
      exact k43 _ _ _ _ _ _ _ _ _ hP hS hk hn (lv_sub hl [0, 1] rfl) hf
  · have hf := tw_ifT hc hf
    refine lv_iconst (v := (-1 : Int32)) hx hb dX1_turn_8 (by decide) ?_
    obtain ⟨h1, h2, h3, h4⟩ := gw_rcE hf hk hn
    exact gw_ireti h1 h2 h3 h4 C hr hP hS hlk dX1_turn_9