def fm_takesNotices_J95 (x8 : Int32) (sf2 : Int32 → TM Unit) (v2_1 : Int32) (w95_0 : Int32) : TM Unit :=
  tw_bd (tw_st 26 (x8 + (0 : Int32)) w95_0) fun _ =>
   tw_bd (tw_st 26 (x8 + (2 : Int32)) (0 : Int32)) fun _ =>
   tw_bd (tw_st 26 ((x8 + (2 : Int32)) + (1 : Int32)) (0 : Int32)) fun _ =>
   tw_bd (tw_st 26 (x8 + (9 : Int32)) (0 : Int32)) fun _ =>
   tw_bd (tw_st 26 (x8 + (10 : Int32)) (0 : Int32)) fun _ =>
 
  sf2 (v2_1 + (1 : Int32))
def fm_takesNotices_L2  (sf2 : Int32 → TM Unit) (v2_1 : Int32) : TM Unit :=
  tw_bd (tw_gi 38) fun x2 =>
  if x2 ≤ v2_1 then (tw_rt ())
  else ( tw_bd (tw_ld 36 v2_1) fun x5 =>
  tw_bd (fm_flowAt x5) fun x8 =>
   tw_bd (tw_ld 26 (x8 + (6 : Int32))) fun x11 =>
  tw_bd (tw_st 26 (x8 + (6 : Int32)) (x11 + (1 : Int32))) fun _ =>
    tw_bd (tw_ld 26 (x8 + (0 : Int32))) fun x17 =>
  tw_bd (tw_st 26 (x8 + (1 : Int32)) x17) fun _ =>
   tw_bd (tw_ld 26 (x8 + (0 : Int32))) fun x23 =>
   tw_bd (tw_ld 26 (x8 + (0 : Int32))) fun x26 =>
   tw_bd (tw_ld 37 v2_1) fun x29 =>
  tw_bd (tw_nz (128 : Int32)) fun _ =>
   if (1 : Int32) ≤ (x23 - ((x26 * x29) / (128 : Int32))) then (fm_takesNotices_J95 x8 sf2 v2_1 (x23 - ((x26 * x29) / (128 : Int32))))
  else (fm_takesNotices_J95 x8 sf2 v2_1 (1 : Int32)))
def fm_takesNotices  : TM Unit :=
  tw_lp (fm_takesNotices_L2) (fun _ _ => none) tw_fu (0 : Int32)
theorem hdX6_takesNotices : yX6_takesNotices.cls = "LosslessFabricModel" ∧ (yX6_takesNotices.cls ≠ "java/lang/invoke/MethodHandle" ∧ yX6_takesNotices.cls ≠ "java/lang/invoke/VarHandle" ∧ (parseMethodDescriptor yX6_takesNotices.desc).map (fun d => d.parameters.length) = some 0) := by decide +kernel
set_option maxHeartbeats 4000000 in
theorem mm_takesNotices {l : Launch} {X : (Nat → Nat) × (Nat → Nat) × Nat} {D : va_G} {dA : Nat → ClassId} {o : Nat} {ad : Nat → Nat} {A : Nat → Prop} (hD : tw_D o ad A)  (t0 tZ : TS) (r : Unit) (hf : fm_takesNotices  t0 = some (r, tZ)) : Met l yX6_takesNotices (ws_ yX6_takesNotices cX6_takesNotices 4 (none)) ({ frames := 2, cells := 0, slots := 0, locals := 32 }) (va_Pc [.ref o] (tw_W X A D dA o ad t0)) (tw_Qv D dA o ad A tZ) 0 0 A := by
  refine Met.ofW (cc := cX6_takesNotices) (maxL := 4) (ret := none) (by decide) rfl ?_
  intro p e s m args below meth c s₁ B hml hv
  obtain ⟨rfl, hP, hK, hX⟩ := hv
  have hx := B.exec
  have hb := B.bytes
  have hr := B.returns
  have hts := atoms_spec (ws := (ws_ yX6_takesNotices cX6_takesNotices 4 (none))) B.pre
  have hts : ∀ w ∈ lw_all, w.before _ s = true := fun w h => hts w (List.mem_cons_of_mem _ h)
  have hown : s.vm.findClass "LosslessFabricModel" = some m.cls := findClass_of_methodNamed B.named
  have hlk := B.notSynchronized
  have C : tw_C X p s m _ c cX6_takesNotices D dA o ad A := ⟨hx, hb, hts, hown, hK, hD, hX⟩
  have hS : va_S A s.heap s.heap [] := va_S.rf
  have hl := lv_entry ([.ref o]) (n := 4) (Nat.le_of_ble_eq_true rfl)
  rw [lg_entry_eq]
  generalize (lg_sl ([.ref o]) ++ List.replicate (4 - (lg_sl ([.ref o])).length) Slot.unset).toArray = ls at hl ⊢
  have hl : lv_has ls 4 [(0, .ref o)] := hl
  unfold fm_takesNotices at hf
  refine lv_iconst (v := (0 : Int32)) hx hb dX6_takesNotices_0 (by decide) ?_
  refine lv_istore_n (lv' := [(1, .int (0 : Int32)), (0, .ref o)]) hx hb dX6_takesNotices_1 rfl hl (by decide) rfl (fun ls hl => ?_)
  have k2 : ∀ (n : Nat) (v2_1 : Int32) (t1 : TS) (H : Heap) (locs : List Loc) (ls : Array Slot), tw_P D dA o ad t1 H → va_S A s.heap H locs → lv_has ls 4 [(0, .ref o), (1, .int v2_1)] → tw_lp (fm_takesNotices_L2) (fun _ _ => none) n v2_1 t1 = some (r, tZ) → W p l e (headSpec (ws_ yX6_takesNotices cX6_takesNotices 4 (none)) ({ frames := 2, cells := 0, slots := 0, locals := 32 })).room s m ([.ref o] : List Value).toArray below meth c H locs 0 0 (MQ below (tw_Qv D dA o ad A tZ) ([.ref o] : List Value).toArray s 0 0 A) (F0 m 2 ls []) := by
    intro n
    induction n with
    | zero => intro v2_1 t1 H locs ls hP hS hl hf; exact (tw_no hf).elim
    | succ n ih2 =>
      intro v2_1 t1 H locs ls hP hS hl hf
      obtain ⟨sf2, hs2⟩ : ∃ f, f = tw_lp (fm_takesNotices_L2) (fun _ _ => none) n := ⟨_, rfl⟩
      rw [← hs2] at ih2
      have hf : fm_takesNotices_L2 sf2 v2_1 t1 = some (r, tZ) := by rw [hs2]; exact hf
      clear hs2
      unfold fm_takesNotices_L2 at hf
      refine lv_iload_n hx hb dX6_takesNotices_2 rfl (lv_at hl 1 rfl) ?_
      refine lv_aload_n hx hb dX6_takesNotices_3 rfl (lv_at hl 0 rfl) ?_
      obtain ⟨x2, t3, e4, hf⟩ := tw_bdE hf
      refine tw_iget (k := 38) C hP (by decide) (Or.inl rfl) e4 q1414 dX6_takesNotices_4 (fun hP => ?_)
      refine lv_icmp_ge (tgt := 142) hx hb dX6_takesNotices_7 (by decide) (fun hc => ?_) (fun hc => ?_)
      · have hf := tw_ifT hc hf
        exact tw_iretv (tw_rtE hf).2 C hr hP hS hlk dX6_takesNotices_142
      · have hf := tw_ifF hc hf
        refine lv_aload_n hx hb dX6_takesNotices_10 rfl (lv_at hl 0 rfl) ?_
        refine tw_aget (k := 36) C hP (by decide) (by decide) q1412 dX6_takesNotices_11 ?_
        refine lv_iload_n hx hb dX6_takesNotices_14 rfl (lv_at hl 1 rfl) ?_
        obtain ⟨x5, t6, e7, hf⟩ := tw_bdE hf
        refine tw_iald C hP e7 dX6_takesNotices_15 (fun hP => ?_)
        obtain ⟨x8, t9, e10, hf⟩ := tw_bdE hf
        refine tw_cSi (As := [.int x5]) (rest := []) C hml hP hS (mm_flowAt (l := l) (X := X) (D := D) (dA := dA) hD _ _ _ _ e10) (va_cwS 1 hts (lw_S q1661 q1662 q106 q1663) rfl rfl rfl hdX6_flowAt ⟨Nat.le_of_ble_eq_true rfl, Nat.le_of_ble_eq_true rfl⟩) rfl hl.1 rfl (Nat.le_of_ble_eq_true rfl) dX6_takesNotices_16 (fun H locs hP hS => ?_)
        refine lv_istore_n (lv' := [(2, .int x8), (0, .ref o), (1, .int v2_1)]) hx hb dX6_takesNotices_19 rfl hl (by decide) rfl (fun ls hl => ?_)
        refine lv_aload_n hx hb dX6_takesNotices_20 rfl (lv_at hl 1 rfl) ?_
        refine tw_aget (k := 26) C hP (by decide) (by decide) q1402 dX6_takesNotices_21 ?_
        refine lv_iload_n hx hb dX6_takesNotices_24 rfl (lv_at hl 0 rfl) ?_
        refine lv_bipush (v := (6 : Int32)) hx hb dX6_takesNotices_25 (by decide) ?_
        refine lv_iadd hx hb dX6_takesNotices_27 ?_
        refine lv_dup2_11 hx hb dX6_takesNotices_28 rfl rfl ?_
        obtain ⟨x11, t12, e13, hf⟩ := tw_bdE hf
        refine tw_iald C hP e13 dX6_takesNotices_29 (fun hP => ?_)
        refine lv_iconst (v := (1 : Int32)) hx hb dX6_takesNotices_30 (by decide) ?_
        refine lv_iadd hx hb dX6_takesNotices_31 ?_
        obtain ⟨x14, t15, e16, hf⟩ := tw_bdE hf
        refine tw_iast C hP hS e16 dX6_takesNotices_32 (fun H locs hP hS => ?_)
        refine lv_aload_n hx hb dX6_takesNotices_33 rfl (lv_at hl 1 rfl) ?_
        refine tw_aget (k := 26) C hP (by decide) (by decide) q1402 dX6_takesNotices_34 ?_
        refine lv_iload_n hx hb dX6_takesNotices_37 rfl (lv_at hl 0 rfl) ?_
        refine lv_iconst (v := (1 : Int32)) hx hb dX6_takesNotices_38 (by decide) ?_
        refine lv_iadd hx hb dX6_takesNotices_39 ?_
        refine lv_aload_n hx hb dX6_takesNotices_40 rfl (lv_at hl 1 rfl) ?_
        refine tw_aget (k := 26) C hP (by decide) (by decide) q1402 dX6_takesNotices_41 ?_
        refine lv_iload_n hx hb dX6_takesNotices_44 rfl (lv_at hl 0 rfl) ?_
        refine lv_iconst (v := (0 : Int32)) hx hb dX6_takesNotices_45 (by decide) ?_
        refine lv_iadd hx hb dX6_takesNotices_46 ?_
        obtain ⟨x17, t18, e19, hf⟩ := tw_bdE hf
        refine tw_iald C hP e19 dX6_takesNotices_47 (fun hP => ?_)
        obtain ⟨x20, t21, e22, hf⟩ := tw_bdE hf
        refine tw_iast C hP hS e22 dX6_takesNotices_48 (fun H locs hP hS => ?_)
        refine lv_aload_n hx hb dX6_takesNotices_49 rfl (lv_at hl 1 rfl) ?_
        refine tw_aget (k := 26) C hP (by decide) (by decide) q1402 dX6_takesNotices_50 ?_
        refine lv_iload_n hx hb dX6_takesNotices_53 rfl (lv_at hl 0 rfl) ?_
        refine lv_iconst (v := (0 : Int32)) hx hb dX6_takesNotices_54 (by decide) ?_
        refine lv_iadd hx hb dX6_takesNotices_55 ?_
        obtain ⟨x23, t24, e25, hf⟩ := tw_bdE hf
        refine tw_iald C hP e25 dX6_takesNotices_56 (fun hP => ?_)
        refine lv_aload_n hx hb dX6_takesNotices_57 rfl (lv_at hl 1 rfl) ?_
        refine tw_aget (k := 26) C hP (by decide) (by decide) q1402 dX6_takesNotices_58 ?_
        refine lv_iload_n hx hb dX6_takesNotices_61 rfl (lv_at hl 0 rfl) ?_
        refine lv_iconst (v := (0 : Int32)) hx hb dX6_takesNotices_62 (by decide) ?_
        refine lv_iadd hx hb dX6_takesNotices_63 ?_
        obtain ⟨x26, t27, e28, hf⟩ := tw_bdE hf
        refine tw_iald C hP e28 dX6_takesNotices_64 (fun hP => ?_)
        refine lv_aload_n hx hb dX6_takesNotices_65 rfl (lv_at hl 1 rfl) ?_
        refine tw_aget (k := 37) C hP (by decide) (by decide) q1413 dX6_takesNotices_66 ?_
        refine lv_iload_n hx hb dX6_takesNotices_69 rfl (lv_at hl 2 rfl) ?_
        obtain ⟨x29, t30, e31, hf⟩ := tw_bdE hf
        refine tw_iald C hP e31 dX6_takesNotices_70 (fun hP => ?_)
        refine lv_imul hx hb dX6_takesNotices_71 ?_
        refine lv_sipush (v := (128 : Int32)) hx hb dX6_takesNotices_72 (by decide) ?_
        obtain ⟨w32, t33, e34, hf⟩ := tw_bdE hf
        rw [← (tw_nzE e34).2] at hf
        refine lv_idiv hx hb dX6_takesNotices_75 (tw_nzE e34).1 ?_
        refine lv_isub hx hb dX6_takesNotices_76 ?_
        refine lv_istore_n (lv' := [(3, .int (x23 - ((x26 * x29) / (128 : Int32)))), (2, .int x8), (0, .ref o), (1, .int v2_1)]) hx hb dX6_takesNotices_77 rfl hl (by decide) rfl (fun ls hl => ?_)
        refine lv_aload_n hx hb dX6_takesNotices_78 rfl (lv_at hl 2 rfl) ?_
        refine tw_aget (k := 26) C hP (by decide) (by decide) q1402 dX6_takesNotices_79 ?_
        refine lv_iload_n hx hb dX6_takesNotices_82 rfl (lv_at hl 1 rfl) ?_
        refine lv_iconst (v := (0 : Int32)) hx hb dX6_takesNotices_83 (by decide) ?_
        refine lv_iadd hx hb dX6_takesNotices_84 ?_
        refine lv_iload_n hx hb dX6_takesNotices_85 rfl (lv_at hl 0 rfl) ?_
        refine lv_iconst (v := (1 : Int32)) hx hb dX6_takesNotices_86 (by decide) ?_
        have k95 : ∀ (w95_0 : Int32) (t35 : TS) (H : Heap) (locs : List Loc) (ls : Array Slot), tw_P D dA o ad t35 H → va_S A s.heap H locs → lv_has ls 4 [(0, .ref o), (1, .int v2_1), (2, .int x8)] → fm_takesNotices_J95 x8 sf2 v2_1 w95_0 t35 = some (r, tZ) → W p l e (headSpec (ws_ yX6_takesNotices cX6_takesNotices 4 (none)) ({ frames := 2, cells := 0, slots := 0, locals := 32 })).room s m ([.ref o] : List Value).toArray below meth c H locs 0 0 (MQ below (tw_Qv D dA o ad A tZ) ([.ref o] : List Value).toArray s 0 0 A) (F0 m 95 ls [.int w95_0, .int (x8 + (0 : Int32)), .ref (ad 26)]) := by
          intro w95_0 t35 H locs ls hP hS hl hf
          unfold fm_takesNotices_J95 at hf
          obtain ⟨x36, t37, e38, hf⟩ := tw_bdE hf
          refine tw_iast C hP hS e38 dX6_takesNotices_95 (fun H locs hP hS => ?_)
          refine lv_aload_n hx hb dX6_takesNotices_96 rfl (lv_at hl 0 rfl) ?_
          refine tw_aget (k := 26) C hP (by decide) (by decide) q1402 dX6_takesNotices_97 ?_
          refine lv_iload_n hx hb dX6_takesNotices_100 rfl (lv_at hl 2 rfl) ?_
          refine lv_iconst (v := (2 : Int32)) hx hb dX6_takesNotices_101 (by decide) ?_
          refine lv_iadd hx hb dX6_takesNotices_102 ?_
          refine lv_iconst (v := (0 : Int32)) hx hb dX6_takesNotices_103 (by decide) ?_
          obtain ⟨x39, t40, e41, hf⟩ := tw_bdE hf
          refine tw_iast C hP hS e41 dX6_takesNotices_104 (fun H locs hP hS => ?_)
          refine lv_aload_n hx hb dX6_takesNotices_105 rfl (lv_at hl 0 rfl) ?_
          refine tw_aget (k := 26) C hP (by decide) (by decide) q1402 dX6_takesNotices_106 ?_
          refine lv_iload_n hx hb dX6_takesNotices_109 rfl (lv_at hl 2 rfl) ?_
          refine lv_iconst (v := (2 : Int32)) hx hb dX6_takesNotices_110 (by decide) ?_
          refine lv_iadd hx hb dX6_takesNotices_111 ?_
          refine lv_iconst (v := (1 : Int32)) hx hb dX6_takesNotices_112 (by decide) ?_
          refine lv_iadd hx hb dX6_takesNotices_113 ?_
          refine lv_iconst (v := (0 : Int32)) hx hb dX6_takesNotices_114 (by decide) ?_
          obtain ⟨x42, t43, e44, hf⟩ := tw_bdE hf
          refine tw_iast C hP hS e44 dX6_takesNotices_115 (fun H locs hP hS => ?_)
          refine lv_aload_n hx hb dX6_takesNotices_116 rfl (lv_at hl 0 rfl) ?_
          refine tw_aget (k := 26) C hP (by decide) (by decide) q1402 dX6_takesNotices_117 ?_
          refine lv_iload_n hx hb dX6_takesNotices_120 rfl (lv_at hl 2 rfl) ?_
          refine lv_bipush (v := (9 : Int32)) hx hb dX6_takesNotices_121 (by decide) ?_
          refine lv_iadd hx hb dX6_takesNotices_123 ?_
          refine lv_iconst (v := (0 : Int32)) hx hb dX6_takesNotices_124 (by decide) ?_
          obtain ⟨x45, t46, e47, hf⟩ := tw_bdE hf
          refine tw_iast C hP hS e47 dX6_takesNotices_125 (fun H locs hP hS => ?_)
          refine lv_aload_n hx hb dX6_takesNotices_126 rfl (lv_at hl 0 rfl) ?_
          refine tw_aget (k := 26) C hP (by decide) (by decide) q1402 dX6_takesNotices_127 ?_
          refine lv_iload_n hx hb dX6_takesNotices_130 rfl (lv_at hl 2 rfl) ?_
          refine lv_bipush (v := (10 : Int32)) hx hb dX6_takesNotices_131 (by decide) ?_
          refine lv_iadd hx hb dX6_takesNotices_133 ?_
          refine lv_iconst (v := (0 : Int32)) hx hb dX6_takesNotices_134 (by decide) ?_
          obtain ⟨x48, t49, e50, hf⟩ := tw_bdE hf
          refine tw_iast C hP hS e50 dX6_takesNotices_135 (fun H locs hP hS => ?_)
          refine lv_iinc (v := (v2_1 + (1 : Int32))) (lv' := [(1, .int (v2_1 + (1 : Int32))), (0, .ref o), (2, .int x8)]) hx hb dX6_takesNotices_136 hl (k := 1) rfl rfl (by decide) rfl (fun ls hl => ?_)
          refine lv_goto (tgt := 2) hx hb dX6_takesNotices_139 (by decide) ?_
          exact ih2 _ _ _ _ _ hP hS (lv_sub hl [1, 0] rfl) hf
        refine lv_icmp_ge (tgt := 94) hx hb dX6_takesNotices_87 (by decide) (fun hc => ?_) (fun hc => ?_)
        · have hf := tw_ifT hc hf
          refine lv_iload_n hx hb dX6_takesNotices_94 rfl (lv_at hl 0 rfl) ?_
          exact k95 _ _ _ _ _ hP hS (lv_sub hl [2, 3, 1] rfl) hf
        · have hf := tw_ifF hc hf
          refine lv_iconst (v := (1 : Int32)) hx hb dX6_takesNotices_90 (by decide) ?_
          refine lv_goto (tgt := 95) hx hb dX6_takesNotices_91 (by decide) ?_
          exact k95 _ _ _ _ _ hP hS (lv_sub hl [2, 3, 1] rfl) hf
  exact k2 _ _ _ _ _ _ hP hS (lv_sub hl [1, 0] rfl) hf
def fm_takesOff_J119 (sf12 : Int32 → TM Unit) (v12_2 : Int32)  : TM Unit :=
  sf12 (v12_2 + (1 : Int32))
def fm_takesOff_L12 (sf2 : Int32 → TM Unit) (v2_1 : Int32) (sf12 : Int32 → TM Unit) (v12_2 : Int32) : TM Unit :=
  tw_bd (fm_flows) fun x6 =>
  if x6 ≤ v12_2 then (sf2 (v2_1 + (1 : Int32)))
  else ( tw_bd (tw_ld 34 (((8 : Int32) * v2_1) + v12_2)) fun x9 =>
  if x9 = 0 then (fm_takesOff_J119 sf12 v12_2)
  else (tw_bd (fm_hopOf v12_2 v2_1) fun x13 =>
  if x13 ≤ 0 then ( tw_bd (fm_flowAt v12_2) fun x16 =>
  tw_bd (tw_ld 26 (x16 + (8 : Int32))) fun x19 =>
  tw_bd (tw_st 26 (x16 + (8 : Int32)) (x19 - ((16 : Int32) * x9))) fun _ =>
   tw_bd (fm_flowAt v12_2) fun x25 =>
  tw_bd (tw_ld 26 (x25 + (4 : Int32))) fun x28 =>
  tw_bd (tw_st 26 (x25 + (4 : Int32)) (x28 + x9)) fun _ =>
 
  fm_takesOff_J119 sf12 v12_2)
  else (  tw_bd (tw_ld 15 ((((5 : Int32) * v12_2) + x13) - (1 : Int32))) fun x34 =>
  tw_bd (tw_ld 26 ((((24 : Int32) * x34) + (15 : Int32)) + v12_2)) fun x37 =>
  tw_bd (tw_st 26 ((((24 : Int32) * x34) + (15 : Int32)) + v12_2) (x37 - x9)) fun _ =>
 
  fm_takesOff_J119 sf12 v12_2)))
def fm_takesOff_L2  (sf2 : Int32 → TM Unit) (v2_1 : Int32) : TM Unit :=
  tw_bd (fm_links) fun x2 =>
  if x2 ≤ v2_1 then (tw_rt ())
  else (tw_lp (fm_takesOff_L12 sf2 v2_1) (fun _ _ => none) tw_fu (0 : Int32))
def fm_takesOff  : TM Unit :=
  tw_lp (fm_takesOff_L2) (fun _ _ => none) tw_fu (0 : Int32)
theorem hdX6_takesOff : yX6_takesOff.cls = "LosslessFabricModel" ∧ (yX6_takesOff.cls ≠ "java/lang/invoke/MethodHandle" ∧ yX6_takesOff.cls ≠ "java/lang/invoke/VarHandle" ∧ (parseMethodDescriptor yX6_takesOff.desc).map (fun d => d.parameters.length) = some 0) := by decide +kernel
set_option maxHeartbeats 4000000 in
theorem mm_takesOff {l : Launch} {X : (Nat → Nat) × (Nat → Nat) × Nat} {D : va_G} {dA : Nat → ClassId} {o : Nat} {ad : Nat → Nat} {A : Nat → Prop} (hD : tw_D o ad A)  (t0 tZ : TS) (r : Unit) (hf : fm_takesOff  t0 = some (r, tZ)) : Met l yX6_takesOff (ws_ yX6_takesOff cX6_takesOff 5 (none)) ({ frames := 2, cells := 0, slots := 0, locals := 35 }) (va_Pc [.ref o] (tw_W X A D dA o ad t0)) (tw_Qv D dA o ad A tZ) 0 0 A := by
  refine Met.ofW (cc := cX6_takesOff) (maxL := 5) (ret := none) (by decide) rfl ?_
  intro p e s m args below meth c s₁ B hml hv
  obtain ⟨rfl, hP, hK, hX⟩ := hv
  have hx := B.exec
  have hb := B.bytes
  have hr := B.returns
  have hts := atoms_spec (ws := (ws_ yX6_takesOff cX6_takesOff 5 (none))) B.pre
  have hts : ∀ w ∈ lw_all, w.before _ s = true := fun w h => hts w (List.mem_cons_of_mem _ h)
  have hown : s.vm.findClass "LosslessFabricModel" = some m.cls := findClass_of_methodNamed B.named
  have hlk := B.notSynchronized
  have C : tw_C X p s m _ c cX6_takesOff D dA o ad A := ⟨hx, hb, hts, hown, hK, hD, hX⟩
  have hS : va_S A s.heap s.heap [] := va_S.rf
  have hl := lv_entry ([.ref o]) (n := 5) (Nat.le_of_ble_eq_true rfl)
  rw [lg_entry_eq]
  generalize (lg_sl ([.ref o]) ++ List.replicate (5 - (lg_sl ([.ref o])).length) Slot.unset).toArray = ls at hl ⊢
  have hl : lv_has ls 5 [(0, .ref o)] := hl
  unfold fm_takesOff at hf
  refine lv_iconst (v := (0 : Int32)) hx hb dX6_takesOff_0 (by decide) ?_
  refine lv_istore_n (lv' := [(1, .int (0 : Int32)), (0, .ref o)]) hx hb dX6_takesOff_1 rfl hl (by decide) rfl (fun ls hl => ?_)
  have k2 : ∀ (n : Nat) (v2_1 : Int32) (t1 : TS) (H : Heap) (locs : List Loc) (ls : Array Slot), tw_P D dA o ad t1 H → va_S A s.heap H locs → lv_has ls 5 [(0, .ref o), (1, .int v2_1)] → tw_lp (fm_takesOff_L2) (fun _ _ => none) n v2_1 t1 = some (r, tZ) → W p l e (headSpec (ws_ yX6_takesOff cX6_takesOff 5 (none)) ({ frames := 2, cells := 0, slots := 0, locals := 35 })).room s m ([.ref o] : List Value).toArray below meth c H locs 0 0 (MQ below (tw_Qv D dA o ad A tZ) ([.ref o] : List Value).toArray s 0 0 A) (F0 m 2 ls []) := by
    intro n
    induction n with
    | zero => intro v2_1 t1 H locs ls hP hS hl hf; exact (tw_no hf).elim
    | succ n ih2 =>
      intro v2_1 t1 H locs ls hP hS hl hf
      obtain ⟨sf2, hs2⟩ : ∃ f, f = tw_lp (fm_takesOff_L2) (fun _ _ => none) n := ⟨_, rfl⟩
      rw [← hs2] at ih2
      have hf : fm_takesOff_L2 sf2 v2_1 t1 = some (r, tZ) := by rw [hs2]; exact hf
      clear hs2
      unfold fm_takesOff_L2 at hf
      refine lv_iload_n hx hb dX6_takesOff_2 rfl (lv_at hl 1 rfl) ?_
      refine lv_aload_n hx hb dX6_takesOff_3 rfl (lv_at hl 0 rfl) ?_
      obtain ⟨x2, t3, e4, hf⟩ := tw_bdE hf
      refine tw_cVi (As := []) (rest := [.int v2_1]) C hml hP hS (mm_links (l := l) (X := X) (D := D) (dA := dA) hD _ _ _ e4) (cwV 0 hts (lw_V q1368 q1370 qs43 q106 q1371) rfl rfl rfl hdX6_links ⟨Nat.le_of_ble_eq_true rfl, Nat.le_of_ble_eq_true rfl⟩) rfl hl.1 rfl (Nat.le_of_ble_eq_true rfl) dX6_takesOff_4 (fun H locs hP hS => ?_)
      refine lv_icmp_ge (tgt := 131) hx hb dX6_takesOff_7 (by decide) (fun hc => ?_) (fun hc => ?_)
      · have hf := tw_ifT hc hf
        exact tw_iretv (tw_rtE hf).2 C hr hP hS hlk dX6_takesOff_131
      · have hf := tw_ifF hc hf
        refine lv_iconst (v := (0 : Int32)) hx hb dX6_takesOff_10 (by decide) ?_
        refine lv_istore_n (lv' := [(2, .int (0 : Int32)), (0, .ref o), (1, .int v2_1)]) hx hb dX6_takesOff_11 rfl hl (by decide) rfl (fun ls hl => ?_)
        have k12 : ∀ (n : Nat) (v12_2 : Int32) (t5 : TS) (H : Heap) (locs : List Loc) (ls : Array Slot), tw_P D dA o ad t5 H → va_S A s.heap H locs → lv_has ls 5 [(0, .ref o), (1, .int v2_1), (2, .int v12_2)] → tw_lp (fm_takesOff_L12 sf2 v2_1) (fun _ _ => none) n v12_2 t5 = some (r, tZ) → W p l e (headSpec (ws_ yX6_takesOff cX6_takesOff 5 (none)) ({ frames := 2, cells := 0, slots := 0, locals := 35 })).room s m ([.ref o] : List Value).toArray below meth c H locs 0 0 (MQ below (tw_Qv D dA o ad A tZ) ([.ref o] : List Value).toArray s 0 0 A) (F0 m 12 ls []) := by
          intro n
          induction n with
          | zero => intro v12_2 t5 H locs ls hP hS hl hf; exact (tw_no hf).elim
          | succ n ih12 =>
            intro v12_2 t5 H locs ls hP hS hl hf
            obtain ⟨sf12, hs12⟩ : ∃ f, f = tw_lp (fm_takesOff_L12 sf2 v2_1) (fun _ _ => none) n := ⟨_, rfl⟩
            rw [← hs12] at ih12
            have hf : fm_takesOff_L12 sf2 v2_1 sf12 v12_2 t5 = some (r, tZ) := by rw [hs12]; exact hf
            clear hs12
            unfold fm_takesOff_L12 at hf
            refine lv_iload_n hx hb dX6_takesOff_12 rfl (lv_at hl 2 rfl) ?_
            refine lv_aload_n hx hb dX6_takesOff_13 rfl (lv_at hl 0 rfl) ?_
            obtain ⟨x6, t7, e8, hf⟩ := tw_bdE hf
            refine tw_cVi (As := []) (rest := [.int v12_2]) C hml hP hS (mm_flows (l := l) (X := X) (D := D) (dA := dA) hD _ _ _ e8) (cwV 0 hts (lw_V q1372 q1374 qs44 q106 q1375) rfl rfl rfl hdX6_flows ⟨Nat.le_of_ble_eq_true rfl, Nat.le_of_ble_eq_true rfl⟩) rfl hl.1 rfl (Nat.le_of_ble_eq_true rfl) dX6_takesOff_14 (fun H locs hP hS => ?_)
            refine lv_icmp_ge (tgt := 125) hx hb dX6_takesOff_17 (by decide) (fun hc => ?_) (fun hc => ?_)
            · have hf := tw_ifT hc hf
              refine lv_iinc (v := (v2_1 + (1 : Int32))) (lv' := [(1, .int (v2_1 + (1 : Int32))), (0, .ref o), (2, .int v12_2)]) hx hb dX6_takesOff_125 hl (k := 1) rfl rfl (by decide) rfl (fun ls hl => ?_)
              refine lv_goto (tgt := 2) hx hb dX6_takesOff_128 (by decide) ?_
              exact ih2 _ _ _ _ _ hP hS (lv_sub hl [1, 0] rfl) hf
            · have hf := tw_ifF hc hf
              refine lv_aload_n hx hb dX6_takesOff_20 rfl (lv_at hl 0 rfl) ?_
              refine tw_aget (k := 34) C hP (by decide) (by decide) q1410 dX6_takesOff_21 ?_
              refine lv_bipush (v := (8 : Int32)) hx hb dX6_takesOff_24 (by decide) ?_
              refine lv_iload_n hx hb dX6_takesOff_26 rfl (lv_at hl 1 rfl) ?_
              refine lv_imul hx hb dX6_takesOff_27 ?_
              refine lv_iload_n hx hb dX6_takesOff_28 rfl (lv_at hl 2 rfl) ?_
              refine lv_iadd hx hb dX6_takesOff_29 ?_
              obtain ⟨x9, t10, e11, hf⟩ := tw_bdE hf
              refine tw_iald C hP e11 dX6_takesOff_30 (fun hP => ?_)
              refine lv_istore_n (lv' := [(3, .int x9), (0, .ref o), (1, .int v2_1), (2, .int v12_2)]) hx hb dX6_takesOff_31 rfl hl (by decide) rfl (fun ls hl => ?_)
              refine lv_iload_n hx hb dX6_takesOff_32 rfl (lv_at hl 0 rfl) ?_
              have k119 : ∀  (t12 : TS) (H : Heap) (locs : List Loc) (ls : Array Slot), tw_P D dA o ad t12 H → va_S A s.heap H locs → lv_has ls 5 [(0, .ref o), (1, .int v2_1), (2, .int v12_2)] → fm_takesOff_J119 sf12 v12_2  t12 = some (r, tZ) → W p l e (headSpec (ws_ yX6_takesOff cX6_takesOff 5 (none)) ({ frames := 2, cells := 0, slots := 0, locals := 35 })).room s m ([.ref o] : List Value).toArray below meth c H locs 0 0 (MQ below (tw_Qv D dA o ad A tZ) ([.ref o] : List Value).toArray s 0 0 A) (F0 m 119 ls []) := by
                intro t12 H locs ls hP hS hl hf
                unfold fm_takesOff_J119 at hf
                refine lv_iinc (v := (v12_2 + (1 : Int32))) (lv' := [(2, .int (v12_2 + (1 : Int32))), (0, .ref o), (1, .int v2_1)]) hx hb dX6_takesOff_119 hl (k := 2) rfl rfl (by decide) rfl (fun ls hl => ?_)
                refine lv_goto (tgt := 12) hx hb dX6_takesOff_122 (by decide) ?_
                exact ih12 _ _ _ _ _ hP hS (lv_sub hl [1, 2, 0] rfl) hf
              refine lv_if_ne (tgt := 39) hx hb dX6_takesOff_33 (by decide) (fun hc => ?_) (fun hc => ?_)
              · have hf := tw_ifF hc hf
                refine lv_aload_n hx hb dX6_takesOff_39 rfl (lv_at hl 1 rfl) ?_
                refine lv_iload_n hx hb dX6_takesOff_40 rfl (lv_at hl 3 rfl) ?_
                refine lv_iload_n hx hb dX6_takesOff_41 rfl (lv_at hl 2 rfl) ?_
                obtain ⟨x13, t14, e15, hf⟩ := tw_bdE hf
                refine tw_cVi (As := [.int v12_2, .int v2_1]) (rest := []) C hml hP hS (mm_hopOf (l := l) (X := X) (D := D) (dA := dA) hD _ _ _ _ _ e15) (cwV 2 hts (lw_V q1675 q1677 qs68 q106 q1678) rfl rfl rfl hdX6_hopOf ⟨Nat.le_of_ble_eq_true rfl, Nat.le_of_ble_eq_true rfl⟩) rfl hl.1 rfl (Nat.le_of_ble_eq_true rfl) dX6_takesOff_42 (fun H locs hP hS => ?_)
                refine lv_istore (lv' := [(4, .int x13), (3, .int x9), (0, .ref o), (1, .int v2_1), (2, .int v12_2)]) hx hb dX6_takesOff_45 hl (by decide) rfl (fun ls hl => ?_)
                refine lv_iload hx hb dX6_takesOff_47 (lv_at hl 0 rfl) ?_
                refine lv_if_le (tgt := 85) hx hb dX6_takesOff_49 (by decide) (fun hc => ?_) (fun hc => ?_)
                · have hf := tw_ifT hc hf
                  refine lv_aload_n hx hb dX6_takesOff_85 rfl (lv_at hl 2 rfl) ?_
                  refine tw_aget (k := 26) C hP (by decide) (by decide) q1402 dX6_takesOff_86 ?_
                  refine lv_iload_n hx hb dX6_takesOff_89 rfl (lv_at hl 4 rfl) ?_
                  obtain ⟨x16, t17, e18, hf⟩ := tw_bdE hf
                  refine tw_cSi (As := [.int v12_2]) (rest := [.ref (ad 26)]) C hml hP hS (mm_flowAt (l := l) (X := X) (D := D) (dA := dA) hD _ _ _ _ e18) (va_cwS 1 hts (lw_S q1661 q1662 q106 q1663) rfl rfl rfl hdX6_flowAt ⟨Nat.le_of_ble_eq_true rfl, Nat.le_of_ble_eq_true rfl⟩) rfl hl.1 rfl (Nat.le_of_ble_eq_true rfl) dX6_takesOff_90 (fun H locs hP hS => ?_)
                  refine lv_bipush (v := (8 : Int32)) hx hb dX6_takesOff_93 (by decide) ?_
                  refine lv_iadd hx hb dX6_takesOff_95 ?_
                  refine lv_dup2_11 hx hb dX6_takesOff_96 rfl rfl ?_
                  obtain ⟨x19, t20, e21, hf⟩ := tw_bdE hf
                  refine tw_iald C hP e21 dX6_takesOff_97 (fun hP => ?_)
                  refine lv_bipush (v := (16 : Int32)) hx hb dX6_takesOff_98 (by decide) ?_
                  refine lv_iload_n hx hb dX6_takesOff_100 rfl (lv_at hl 1 rfl) ?_
                  refine lv_imul hx hb dX6_takesOff_101 ?_
                  refine lv_isub hx hb dX6_takesOff_102 ?_
                  obtain ⟨x22, t23, e24, hf⟩ := tw_bdE hf
                  refine tw_iast C hP hS e24 dX6_takesOff_103 (fun H locs hP hS => ?_)
                  refine lv_aload_n hx hb dX6_takesOff_104 rfl (lv_at hl 2 rfl) ?_
                  refine tw_aget (k := 26) C hP (by decide) (by decide) q1402 dX6_takesOff_105 ?_
                  refine lv_iload_n hx hb dX6_takesOff_108 rfl (lv_at hl 4 rfl) ?_
                  obtain ⟨x25, t26, e27, hf⟩ := tw_bdE hf
                  refine tw_cSi (As := [.int v12_2]) (rest := [.ref (ad 26)]) C hml hP hS (mm_flowAt (l := l) (X := X) (D := D) (dA := dA) hD _ _ _ _ e27) (va_cwS 1 hts (lw_S q1661 q1662 q106 q1663) rfl rfl rfl hdX6_flowAt ⟨Nat.le_of_ble_eq_true rfl, Nat.le_of_ble_eq_true rfl⟩) rfl hl.1 rfl (Nat.le_of_ble_eq_true rfl) dX6_takesOff_109 (fun H locs hP hS => ?_)
                  refine lv_iconst (v := (4 : Int32)) hx hb dX6_takesOff_112 (by decide) ?_
                  refine lv_iadd hx hb dX6_takesOff_113 ?_
                  refine lv_dup2_11 hx hb dX6_takesOff_114 rfl rfl ?_
                  obtain ⟨x28, t29, e30, hf⟩ := tw_bdE hf
                  refine tw_iald C hP e30 dX6_takesOff_115 (fun hP => ?_)
                  refine lv_iload_n hx hb dX6_takesOff_116 rfl (lv_at hl 1 rfl) ?_
                  refine lv_iadd hx hb dX6_takesOff_117 ?_
                  obtain ⟨x31, t32, e33, hf⟩ := tw_bdE hf
                  refine tw_iast C hP hS e33 dX6_takesOff_118 (fun H locs hP hS => ?_)
                  exact k119 _ _ _ _ hP hS (lv_sub hl [2, 3, 4] rfl) hf
                · have hf := tw_ifF hc hf
                  refine lv_aload_n hx hb dX6_takesOff_52 rfl (lv_at hl 2 rfl) ?_
                  refine tw_aget (k := 26) C hP (by decide) (by decide) q1402 dX6_takesOff_53 ?_
                  refine lv_bipush (v := (24 : Int32)) hx hb dX6_takesOff_56 (by decide) ?_
                  refine lv_aload_n hx hb dX6_takesOff_58 rfl (lv_at hl 2 rfl) ?_
                  refine tw_aget (k := 15) C hP (by decide) (by decide) q1391 dX6_takesOff_59 ?_
                  refine lv_iconst (v := (5 : Int32)) hx hb dX6_takesOff_62 (by decide) ?_
                  refine lv_iload_n hx hb dX6_takesOff_63 rfl (lv_at hl 4 rfl) ?_
                  refine lv_imul hx hb dX6_takesOff_64 ?_
                  refine lv_iload hx hb dX6_takesOff_65 (lv_at hl 0 rfl) ?_
                  refine lv_iadd hx hb dX6_takesOff_67 ?_
                  refine lv_iconst (v := (1 : Int32)) hx hb dX6_takesOff_68 (by decide) ?_
                  refine lv_isub hx hb dX6_takesOff_69 ?_
                  obtain ⟨x34, t35, e36, hf⟩ := tw_bdE hf
                  refine tw_iald C hP e36 dX6_takesOff_70 (fun hP => ?_)
                  refine lv_imul hx hb dX6_takesOff_71 ?_
                  refine lv_bipush (v := (15 : Int32)) hx hb dX6_takesOff_72 (by decide) ?_
                  refine lv_iadd hx hb dX6_takesOff_74 ?_
                  refine lv_iload_n hx hb dX6_takesOff_75 rfl (lv_at hl 4 rfl) ?_
                  refine lv_iadd hx hb dX6_takesOff_76 ?_
                  refine lv_dup2_11 hx hb dX6_takesOff_77 rfl rfl ?_
                  obtain ⟨x37, t38, e39, hf⟩ := tw_bdE hf
                  refine tw_iald C hP e39 dX6_takesOff_78 (fun hP => ?_)
                  refine lv_iload_n hx hb dX6_takesOff_79 rfl (lv_at hl 1 rfl) ?_
                  refine lv_isub hx hb dX6_takesOff_80 ?_
                  obtain ⟨x40, t41, e42, hf⟩ := tw_bdE hf
                  refine tw_iast C hP hS e42 dX6_takesOff_81 (fun H locs hP hS => ?_)
                  refine lv_goto (tgt := 119) hx hb dX6_takesOff_82 (by decide) ?_
                  exact k119 _ _ _ _ hP hS (lv_sub hl [2, 3, 4] rfl) hf
              · have hf := tw_ifT hc hf
                refine lv_goto (tgt := 119) hx hb dX6_takesOff_36 (by decide) ?_
                exact k119 _ _ _ _ hP hS (lv_sub hl [1, 2, 3] rfl) hf
        exact k12 _ _ _ _ _ _ hP hS (lv_sub hl [1, 2, 0] rfl) hf
  exact k2 _ _ _ _ _ _ hP hS (lv_sub hl [1, 0] rfl) hf
def fm_tickGoes_J187 (sf166 : Int32 → TM Unit) (v166_1 : Int32)  : TM Unit :=
  sf166 (v166_1 + (1 : Int32))
def fm_tickGoes_L166  (sf166 : Int32 → TM Unit) (v166_1 : Int32) : TM Unit :=
  tw_bd (fm_flows) fun x34 =>
  if x34 ≤ v166_1 then ( tw_bd (tw_ld 26 (336 : Int32)) fun x37 =>
  tw_bd (tw_st 26 (336 : Int32) (x37 + (1 : Int32))) fun _ =>
  tw_rt ())
  else (tw_bd (fm_isOn v166_1) fun x43 =>
  if x43 = 0 then (fm_tickGoes_J187 sf166 v166_1)
  else (tw_bd (fm_recovers v166_1) fun _ =>
 
  fm_tickGoes_J187 sf166 v166_1))
def fm_tickGoes_L141  (sf141 : Int32 → TM Unit) (v141_1 : Int32) : TM Unit :=
  tw_bd (fm_links) fun x27 =>
  if x27 ≤ v141_1 then (tw_bd (fm_takesNotices) fun _ =>
 
  tw_lp (fm_tickGoes_L166) (fun _ _ => none) tw_fu (0 : Int32))
  else (tw_bd (fm_samples v141_1) fun _ =>
 
  sf141 (v141_1 + (1 : Int32)))
def fm_tickGoes_L120  (sf120 : Int32 → TM Unit) (v120_1 : Int32) : TM Unit :=
  tw_bd (fm_links) fun x23 =>
  if x23 ≤ v120_1 then (tw_lp (fm_tickGoes_L141) (fun _ _ => none) tw_fu (0 : Int32))
  else (tw_bd (fm_asks v120_1) fun _ =>
 
  sf120 (v120_1 + (1 : Int32)))
def fm_tickGoes_L99  (sf99 : Int32 → TM Unit) (v99_1 : Int32) : TM Unit :=
  tw_bd (fm_links) fun x19 =>
  if x19 ≤ v99_1 then (tw_lp (fm_tickGoes_L120) (fun _ _ => none) tw_fu (0 : Int32))
  else (tw_bd (fm_comesTo v99_1) fun _ =>
 
  sf99 (v99_1 + (1 : Int32)))
def fm_tickGoes_L69  (sf69 : Int32 → TM Unit) (v69_1 : Int32) : TM Unit :=
  tw_bd (fm_links) fun x9 =>
  if x9 ≤ v69_1 then (tw_bd (fm_takesOff) fun _ =>
  tw_bd (tw_pi 38 (0 : Int32)) fun _ =>
 
  tw_lp (fm_tickGoes_L99) (fun _ _ => none) tw_fu (0 : Int32))
  else (tw_bd (fm_carriesOf v69_1) fun _ =>
 
  sf69 (v69_1 + (1 : Int32)))
def fm_tickGoes_J57 (sf2 : Int32 → TM Unit) (v2_1 : Int32)  : TM Unit :=
  sf2 (v2_1 + (1 : Int32))
def fm_tickGoes_L2  (sf2 : Int32 → TM Unit) (v2_1 : Int32) : TM Unit :=
  tw_bd (fm_flows) fun x2 =>
  if x2 ≤ v2_1 then (tw_bd (fm_laysCan) fun _ =>
 
  tw_lp (fm_tickGoes_L69) (fun _ _ => none) tw_fu (0 : Int32))
  else (tw_bd (fm_flowAt v2_1) fun x62 =>
  tw_bd (fm_isOn v2_1) fun x65 =>
  if x65 = 0 then (fm_tickGoes_J57 sf2 v2_1)
  else (  tw_bd (tw_ld 26 (x62 + (8 : Int32))) fun x69 =>
   tw_bd (tw_ld 26 (x62 + (0 : Int32))) fun x72 =>
  tw_bd (fm_within (x69 + x72) (0 : Int32) (1024 : Int32)) fun x75 =>
  tw_bd (tw_st 26 (x62 + (8 : Int32)) x75) fun _ =>
 
  fm_tickGoes_J57 sf2 v2_1))
def fm_tickGoes  : TM Unit :=
  tw_lp (fm_tickGoes_L2) (fun _ _ => none) tw_fu (0 : Int32)
theorem hdX6_tickGoes : yX6_tickGoes.cls = "LosslessFabricModel" ∧ (yX6_tickGoes.cls ≠ "java/lang/invoke/MethodHandle" ∧ yX6_tickGoes.cls ≠ "java/lang/invoke/VarHandle" ∧ (parseMethodDescriptor yX6_tickGoes.desc).map (fun d => d.parameters.length) = some 0) := by decide +kernel
set_option maxHeartbeats 4000000 in
theorem mm_tickGoes {l : Launch} {X : (Nat → Nat) × (Nat → Nat) × Nat} {D : va_G} {dA : Nat → ClassId} {o : Nat} {ad : Nat → Nat} {A : Nat → Prop} (hD : tw_D o ad A)  (t0 tZ : TS) (r : Unit) (hf : fm_tickGoes  t0 = some (r, tZ)) : Met l yX6_tickGoes (ws_ yX6_tickGoes cX6_tickGoes 3 (none)) ({ frames := 4, cells := 0, slots := 0, locals := 81 }) (va_Pc [.ref o] (tw_W X A D dA o ad t0)) (tw_Qv D dA o ad A tZ) 0 0 A := by
  refine Met.ofW (cc := cX6_tickGoes) (maxL := 3) (ret := none) (by decide) rfl ?_
  intro p e s m args below meth c s₁ B hml hv
  obtain ⟨rfl, hP, hK, hX⟩ := hv
  have hx := B.exec
  have hb := B.bytes
  have hr := B.returns
  have hts := atoms_spec (ws := (ws_ yX6_tickGoes cX6_tickGoes 3 (none))) B.pre
  have hts : ∀ w ∈ lw_all, w.before _ s = true := fun w h => hts w (List.mem_cons_of_mem _ h)
  have hown : s.vm.findClass "LosslessFabricModel" = some m.cls := findClass_of_methodNamed B.named
  have hlk := B.notSynchronized
  have C : tw_C X p s m _ c cX6_tickGoes D dA o ad A := ⟨hx, hb, hts, hown, hK, hD, hX⟩
  have hS : va_S A s.heap s.heap [] := va_S.rf
  have hl := lv_entry ([.ref o]) (n := 3) (Nat.le_of_ble_eq_true rfl)
  rw [lg_entry_eq]
  generalize (lg_sl ([.ref o]) ++ List.replicate (3 - (lg_sl ([.ref o])).length) Slot.unset).toArray = ls at hl ⊢
  have hl : lv_has ls 3 [(0, .ref o)] := hl
  unfold fm_tickGoes at hf
  refine lv_iconst (v := (0 : Int32)) hx hb dX6_tickGoes_0 (by decide) ?_
  refine lv_istore_n (lv' := [(1, .int (0 : Int32)), (0, .ref o)]) hx hb dX6_tickGoes_1 rfl hl (by decide) rfl (fun ls hl => ?_)
  have k2 : ∀ (n : Nat) (v2_1 : Int32) (t1 : TS) (H : Heap) (locs : List Loc) (ls : Array Slot), tw_P D dA o ad t1 H → va_S A s.heap H locs → lv_has ls 3 [(0, .ref o), (1, .int v2_1)] → tw_lp (fm_tickGoes_L2) (fun _ _ => none) n v2_1 t1 = some (r, tZ) → W p l e (headSpec (ws_ yX6_tickGoes cX6_tickGoes 3 (none)) ({ frames := 4, cells := 0, slots := 0, locals := 81 })).room s m ([.ref o] : List Value).toArray below meth c H locs 0 0 (MQ below (tw_Qv D dA o ad A tZ) ([.ref o] : List Value).toArray s 0 0 A) (F0 m 2 ls []) := by
    intro n
    induction n with
    | zero => intro v2_1 t1 H locs ls hP hS hl hf; exact (tw_no hf).elim
    | succ n ih2 =>
      intro v2_1 t1 H locs ls hP hS hl hf
      obtain ⟨sf2, hs2⟩ : ∃ f, f = tw_lp (fm_tickGoes_L2) (fun _ _ => none) n := ⟨_, rfl⟩
      rw [← hs2] at ih2
      have hf : fm_tickGoes_L2 sf2 v2_1 t1 = some (r, tZ) := by rw [hs2]; exact hf
      clear hs2
      unfold fm_tickGoes_L2 at hf
      refine lv_iload_n hx hb dX6_tickGoes_2 rfl (lv_at hl 1 rfl) ?_
      refine lv_aload_n hx hb dX6_tickGoes_3 rfl (lv_at hl 0 rfl) ?_
      obtain ⟨x2, t3, e4, hf⟩ := tw_bdE hf
      refine tw_cVi (As := []) (rest := [.int v2_1]) C hml hP hS (mm_flows (l := l) (X := X) (D := D) (dA := dA) hD _ _ _ e4) (cwV 0 hts (lw_V q1372 q1374 qs44 q106 q1375) rfl rfl rfl hdX6_flows ⟨Nat.le_of_ble_eq_true rfl, Nat.le_of_ble_eq_true rfl⟩) rfl hl.1 rfl (Nat.le_of_ble_eq_true rfl) dX6_tickGoes_4 (fun H locs hP hS => ?_)
      refine lv_icmp_ge (tgt := 63) hx hb dX6_tickGoes_7 (by decide) (fun hc => ?_) (fun hc => ?_)
      · have hf := tw_ifT hc hf
        refine lv_aload_n hx hb dX6_tickGoes_63 rfl (lv_at hl 0 rfl) ?_
        obtain ⟨x5, t6, e7, hf⟩ := tw_bdE hf
        refine tw_cVv (As := []) (rest := []) C hml hP hS (mm_laysCan (l := l) (X := X) (D := D) (dA := dA) hD _ _ _ e7) (cwV 0 hts (lw_V q1671 q1673 qs67 q106 q1674) rfl rfl rfl hdX6_laysCan ⟨Nat.le_of_ble_eq_true rfl, Nat.le_of_ble_eq_true rfl⟩) rfl hl.1 rfl (Nat.le_of_ble_eq_true rfl) dX6_tickGoes_64 (fun H locs hP hS => ?_)
        refine lv_iconst (v := (0 : Int32)) hx hb dX6_tickGoes_67 (by decide) ?_
        refine lv_istore_n (lv' := [(1, .int (0 : Int32)), (0, .ref o)]) hx hb dX6_tickGoes_68 rfl hl (by decide) rfl (fun ls hl => ?_)
        have k69 : ∀ (n : Nat) (v69_1 : Int32) (t8 : TS) (H : Heap) (locs : List Loc) (ls : Array Slot), tw_P D dA o ad t8 H → va_S A s.heap H locs → lv_has ls 3 [(0, .ref o), (1, .int v69_1)] → tw_lp (fm_tickGoes_L69) (fun _ _ => none) n v69_1 t8 = some (r, tZ) → W p l e (headSpec (ws_ yX6_tickGoes cX6_tickGoes 3 (none)) ({ frames := 4, cells := 0, slots := 0, locals := 81 })).room s m ([.ref o] : List Value).toArray below meth c H locs 0 0 (MQ below (tw_Qv D dA o ad A tZ) ([.ref o] : List Value).toArray s 0 0 A) (F0 m 69 ls []) := by
          intro n
          induction n with
          | zero => intro v69_1 t8 H locs ls hP hS hl hf; exact (tw_no hf).elim
          | succ n ih69 =>
            intro v69_1 t8 H locs ls hP hS hl hf
            obtain ⟨sf69, hs69⟩ : ∃ f, f = tw_lp (fm_tickGoes_L69) (fun _ _ => none) n := ⟨_, rfl⟩
            rw [← hs69] at ih69
            have hf : fm_tickGoes_L69 sf69 v69_1 t8 = some (r, tZ) := by rw [hs69]; exact hf
            clear hs69
            unfold fm_tickGoes_L69 at hf
            refine lv_iload_n hx hb dX6_tickGoes_69 rfl (lv_at hl 1 rfl) ?_
            refine lv_aload_n hx hb dX6_tickGoes_70 rfl (lv_at hl 0 rfl) ?_
            obtain ⟨x9, t10, e11, hf⟩ := tw_bdE hf
            refine tw_cVi (As := []) (rest := [.int v69_1]) C hml hP hS (mm_links (l := l) (X := X) (D := D) (dA := dA) hD _ _ _ e11) (cwV 0 hts (lw_V q1368 q1370 qs43 q106 q1371) rfl rfl rfl hdX6_links ⟨Nat.le_of_ble_eq_true rfl, Nat.le_of_ble_eq_true rfl⟩) rfl hl.1 rfl (Nat.le_of_ble_eq_true rfl) dX6_tickGoes_71 (fun H locs hP hS => ?_)
            refine lv_icmp_ge (tgt := 88) hx hb dX6_tickGoes_74 (by decide) (fun hc => ?_) (fun hc => ?_)
            · have hf := tw_ifT hc hf
              refine lv_aload_n hx hb dX6_tickGoes_88 rfl (lv_at hl 0 rfl) ?_
              obtain ⟨x12, t13, e14, hf⟩ := tw_bdE hf
              refine tw_cVv (As := []) (rest := []) C hml hP hS (mm_takesOff (l := l) (X := X) (D := D) (dA := dA) hD _ _ _ e14) (cwV 0 hts (lw_V q1683 q1685 qs70 q106 q1686) rfl rfl rfl hdX6_takesOff ⟨Nat.le_of_ble_eq_true rfl, Nat.le_of_ble_eq_true rfl⟩) rfl hl.1 rfl (Nat.le_of_ble_eq_true rfl) dX6_tickGoes_89 (fun H locs hP hS => ?_)
              refine lv_aload_n hx hb dX6_tickGoes_92 rfl (lv_at hl 0 rfl) ?_
              refine lv_iconst (v := (0 : Int32)) hx hb dX6_tickGoes_93 (by decide) ?_
              obtain ⟨x15, t16, e17, hf⟩ := tw_bdE hf
              refine tw_iput (k := 38) C hP hS (by decide) rfl e17 q1414 dX6_tickGoes_94 (fun H locs hP hS => ?_)
              refine lv_iconst (v := (0 : Int32)) hx hb dX6_tickGoes_97 (by decide) ?_
              refine lv_istore_n (lv' := [(1, .int (0 : Int32)), (0, .ref o)]) hx hb dX6_tickGoes_98 rfl hl (by decide) rfl (fun ls hl => ?_)
              have k99 : ∀ (n : Nat) (v99_1 : Int32) (t18 : TS) (H : Heap) (locs : List Loc) (ls : Array Slot), tw_P D dA o ad t18 H → va_S A s.heap H locs → lv_has ls 3 [(0, .ref o), (1, .int v99_1)] → tw_lp (fm_tickGoes_L99) (fun _ _ => none) n v99_1 t18 = some (r, tZ) → W p l e (headSpec (ws_ yX6_tickGoes cX6_tickGoes 3 (none)) ({ frames := 4, cells := 0, slots := 0, locals := 81 })).room s m ([.ref o] : List Value).toArray below meth c H locs 0 0 (MQ below (tw_Qv D dA o ad A tZ) ([.ref o] : List Value).toArray s 0 0 A) (F0 m 99 ls []) := by
                intro n
                induction n with
                | zero => intro v99_1 t18 H locs ls hP hS hl hf; exact (tw_no hf).elim
                | succ n ih99 =>
                  intro v99_1 t18 H locs ls hP hS hl hf
                  obtain ⟨sf99, hs99⟩ : ∃ f, f = tw_lp (fm_tickGoes_L99) (fun _ _ => none) n := ⟨_, rfl⟩
                  rw [← hs99] at ih99
                  have hf : fm_tickGoes_L99 sf99 v99_1 t18 = some (r, tZ) := by rw [hs99]; exact hf
                  clear hs99
                  unfold fm_tickGoes_L99 at hf
                  refine lv_iload_n hx hb dX6_tickGoes_99 rfl (lv_at hl 1 rfl) ?_
                  refine lv_aload_n hx hb dX6_tickGoes_100 rfl (lv_at hl 0 rfl) ?_
                  obtain ⟨x19, t20, e21, hf⟩ := tw_bdE hf
                  refine tw_cVi (As := []) (rest := [.int v99_1]) C hml hP hS (mm_links (l := l) (X := X) (D := D) (dA := dA) hD _ _ _ e21) (cwV 0 hts (lw_V q1368 q1370 qs43 q106 q1371) rfl rfl rfl hdX6_links ⟨Nat.le_of_ble_eq_true rfl, Nat.le_of_ble_eq_true rfl⟩) rfl hl.1 rfl (Nat.le_of_ble_eq_true rfl) dX6_tickGoes_101 (fun H locs hP hS => ?_)
                  refine lv_icmp_ge (tgt := 118) hx hb dX6_tickGoes_104 (by decide) (fun hc => ?_) (fun hc => ?_)
                  · have hf := tw_ifT hc hf
                    refine lv_iconst (v := (0 : Int32)) hx hb dX6_tickGoes_118 (by decide) ?_
                    refine lv_istore_n (lv' := [(1, .int (0 : Int32)), (0, .ref o)]) hx hb dX6_tickGoes_119 rfl hl (by decide) rfl (fun ls hl => ?_)
                    have k120 : ∀ (n : Nat) (v120_1 : Int32) (t22 : TS) (H : Heap) (locs : List Loc) (ls : Array Slot), tw_P D dA o ad t22 H → va_S A s.heap H locs → lv_has ls 3 [(0, .ref o), (1, .int v120_1)] → tw_lp (fm_tickGoes_L120) (fun _ _ => none) n v120_1 t22 = some (r, tZ) → W p l e (headSpec (ws_ yX6_tickGoes cX6_tickGoes 3 (none)) ({ frames := 4, cells := 0, slots := 0, locals := 81 })).room s m ([.ref o] : List Value).toArray below meth c H locs 0 0 (MQ below (tw_Qv D dA o ad A tZ) ([.ref o] : List Value).toArray s 0 0 A) (F0 m 120 ls []) := by
                      intro n
                      induction n with
                      | zero => intro v120_1 t22 H locs ls hP hS hl hf; exact (tw_no hf).elim
                      | succ n ih120 =>
                        intro v120_1 t22 H locs ls hP hS hl hf
                        obtain ⟨sf120, hs120⟩ : ∃ f, f = tw_lp (fm_tickGoes_L120) (fun _ _ => none) n := ⟨_, rfl⟩
                        rw [← hs120] at ih120
                        have hf : fm_tickGoes_L120 sf120 v120_1 t22 = some (r, tZ) := by rw [hs120]; exact hf
                        clear hs120
                        unfold fm_tickGoes_L120 at hf
                        refine lv_iload_n hx hb dX6_tickGoes_120 rfl (lv_at hl 1 rfl) ?_
                        refine lv_aload_n hx hb dX6_tickGoes_121 rfl (lv_at hl 0 rfl) ?_
                        obtain ⟨x23, t24, e25, hf⟩ := tw_bdE hf
                        refine tw_cVi (As := []) (rest := [.int v120_1]) C hml hP hS (mm_links (l := l) (X := X) (D := D) (dA := dA) hD _ _ _ e25) (cwV 0 hts (lw_V q1368 q1370 qs43 q106 q1371) rfl rfl rfl hdX6_links ⟨Nat.le_of_ble_eq_true rfl, Nat.le_of_ble_eq_true rfl⟩) rfl hl.1 rfl (Nat.le_of_ble_eq_true rfl) dX6_tickGoes_122 (fun H locs hP hS => ?_)
                        refine lv_icmp_ge (tgt := 139) hx hb dX6_tickGoes_125 (by decide) (fun hc => ?_) (fun hc => ?_)
                        · have hf := tw_ifT hc hf
                          refine lv_iconst (v := (0 : Int32)) hx hb dX6_tickGoes_139 (by decide) ?_
                          refine lv_istore_n (lv' := [(1, .int (0 : Int32)), (0, .ref o)]) hx hb dX6_tickGoes_140 rfl hl (by decide) rfl (fun ls hl => ?_)
                          have k141 : ∀ (n : Nat) (v141_1 : Int32) (t26 : TS) (H : Heap) (locs : List Loc) (ls : Array Slot), tw_P D dA o ad t26 H → va_S A s.heap H locs → lv_has ls 3 [(0, .ref o), (1, .int v141_1)] → tw_lp (fm_tickGoes_L141) (fun _ _ => none) n v141_1 t26 = some (r, tZ) → W p l e (headSpec (ws_ yX6_tickGoes cX6_tickGoes 3 (none)) ({ frames := 4, cells := 0, slots := 0, locals := 81 })).room s m ([.ref o] : List Value).toArray below meth c H locs 0 0 (MQ below (tw_Qv D dA o ad A tZ) ([.ref o] : List Value).toArray s 0 0 A) (F0 m 141 ls []) := by
                            intro n
                            induction n with
                            | zero => intro v141_1 t26 H locs ls hP hS hl hf; exact (tw_no hf).elim
                            | succ n ih141 =>
                              intro v141_1 t26 H locs ls hP hS hl hf
                              obtain ⟨sf141, hs141⟩ : ∃ f, f = tw_lp (fm_tickGoes_L141) (fun _ _ => none) n := ⟨_, rfl⟩
                              rw [← hs141] at ih141
                              have hf : fm_tickGoes_L141 sf141 v141_1 t26 = some (r, tZ) := by rw [hs141]; exact hf
                              clear hs141
                              unfold fm_tickGoes_L141 at hf
                              refine lv_iload_n hx hb dX6_tickGoes_141 rfl (lv_at hl 1 rfl) ?_
                              refine lv_aload_n hx hb dX6_tickGoes_142 rfl (lv_at hl 0 rfl) ?_
                              obtain ⟨x27, t28, e29, hf⟩ := tw_bdE hf
                              refine tw_cVi (As := []) (rest := [.int v141_1]) C hml hP hS (mm_links (l := l) (X := X) (D := D) (dA := dA) hD _ _ _ e29) (cwV 0 hts (lw_V q1368 q1370 qs43 q106 q1371) rfl rfl rfl hdX6_links ⟨Nat.le_of_ble_eq_true rfl, Nat.le_of_ble_eq_true rfl⟩) rfl hl.1 rfl (Nat.le_of_ble_eq_true rfl) dX6_tickGoes_143 (fun H locs hP hS => ?_)
                              refine lv_icmp_ge (tgt := 160) hx hb dX6_tickGoes_146 (by decide) (fun hc => ?_) (fun hc => ?_)
                              · have hf := tw_ifT hc hf
                                refine lv_aload_n hx hb dX6_tickGoes_160 rfl (lv_at hl 0 rfl) ?_
                                obtain ⟨x30, t31, e32, hf⟩ := tw_bdE hf
                                refine tw_cVv (As := []) (rest := []) C hml hP hS (mm_takesNotices (l := l) (X := X) (D := D) (dA := dA) hD _ _ _ e32) (cwV 0 hts (lw_V q1711 q1713 qs77 q106 q1714) rfl rfl rfl hdX6_takesNotices ⟨Nat.le_of_ble_eq_true rfl, Nat.le_of_ble_eq_true rfl⟩) rfl hl.1 rfl (Nat.le_of_ble_eq_true rfl) dX6_tickGoes_161 (fun H locs hP hS => ?_)
                                refine lv_iconst (v := (0 : Int32)) hx hb dX6_tickGoes_164 (by decide) ?_
                                refine lv_istore_n (lv' := [(1, .int (0 : Int32)), (0, .ref o)]) hx hb dX6_tickGoes_165 rfl hl (by decide) rfl (fun ls hl => ?_)
                                have k166 : ∀ (n : Nat) (v166_1 : Int32) (t33 : TS) (H : Heap) (locs : List Loc) (ls : Array Slot), tw_P D dA o ad t33 H → va_S A s.heap H locs → lv_has ls 3 [(0, .ref o), (1, .int v166_1)] → tw_lp (fm_tickGoes_L166) (fun _ _ => none) n v166_1 t33 = some (r, tZ) → W p l e (headSpec (ws_ yX6_tickGoes cX6_tickGoes 3 (none)) ({ frames := 4, cells := 0, slots := 0, locals := 81 })).room s m ([.ref o] : List Value).toArray below meth c H locs 0 0 (MQ below (tw_Qv D dA o ad A tZ) ([.ref o] : List Value).toArray s 0 0 A) (F0 m 166 ls []) := by
                                  intro n
                                  induction n with
                                  | zero => intro v166_1 t33 H locs ls hP hS hl hf; exact (tw_no hf).elim
                                  | succ n ih166 =>
                                    intro v166_1 t33 H locs ls hP hS hl hf
                                    obtain ⟨sf166, hs166⟩ : ∃ f, f = tw_lp (fm_tickGoes_L166) (fun _ _ => none) n := ⟨_, rfl⟩
                                    rw [← hs166] at ih166
                                    have hf : fm_tickGoes_L166 sf166 v166_1 t33 = some (r, tZ) := by rw [hs166]; exact hf
                                    clear hs166
                                    unfold fm_tickGoes_L166 at hf
                                    refine lv_iload_n hx hb dX6_tickGoes_166 rfl (lv_at hl 1 rfl) ?_
                                    refine lv_aload_n hx hb dX6_tickGoes_167 rfl (lv_at hl 0 rfl) ?_
                                    obtain ⟨x34, t35, e36, hf⟩ := tw_bdE hf
                                    refine tw_cVi (As := []) (rest := [.int v166_1]) C hml hP hS (mm_flows (l := l) (X := X) (D := D) (dA := dA) hD _ _ _ e36) (cwV 0 hts (lw_V q1372 q1374 qs44 q106 q1375) rfl rfl rfl hdX6_flows ⟨Nat.le_of_ble_eq_true rfl, Nat.le_of_ble_eq_true rfl⟩) rfl hl.1 rfl (Nat.le_of_ble_eq_true rfl) dX6_tickGoes_168 (fun H locs hP hS => ?_)
                                    refine lv_icmp_ge (tgt := 193) hx hb dX6_tickGoes_171 (by decide) (fun hc => ?_) (fun hc => ?_)
                                    · have hf := tw_ifT hc hf
                                      refine lv_aload_n hx hb dX6_tickGoes_193 rfl (lv_at hl 0 rfl) ?_
                                      refine tw_aget (k := 26) C hP (by decide) (by decide) q1402 dX6_tickGoes_194 ?_
                                      refine lv_sipush (v := (336 : Int32)) hx hb dX6_tickGoes_197 (by decide) ?_
                                      refine lv_dup2_11 hx hb dX6_tickGoes_200 rfl rfl ?_
                                      obtain ⟨x37, t38, e39, hf⟩ := tw_bdE hf
                                      refine tw_iald C hP e39 dX6_tickGoes_201 (fun hP => ?_)
                                      refine lv_iconst (v := (1 : Int32)) hx hb dX6_tickGoes_202 (by decide) ?_
                                      refine lv_iadd hx hb dX6_tickGoes_203 ?_
                                      obtain ⟨x40, t41, e42, hf⟩ := tw_bdE hf
                                      refine tw_iast C hP hS e42 dX6_tickGoes_204 (fun H locs hP hS => ?_)
                                      exact tw_iretv (tw_rtE hf).2 C hr hP hS hlk dX6_tickGoes_205
                                    · have hf := tw_ifF hc hf
                                      refine lv_aload_n hx hb dX6_tickGoes_174 rfl (lv_at hl 0 rfl) ?_
                                      refine lv_iload_n hx hb dX6_tickGoes_175 rfl (lv_at hl 1 rfl) ?_
                                      obtain ⟨x43, t44, e45, hf⟩ := tw_bdE hf
                                      refine tw_cVi (As := [.int v166_1]) (rest := []) C hml hP hS (mm_isOn (l := l) (X := X) (D := D) (dA := dA) hD _ _ _ _ e45) (cwV 1 hts (lw_V q1664 q1666 qs66 q106 q1667) rfl rfl rfl hdX6_isOn ⟨Nat.le_of_ble_eq_true rfl, Nat.le_of_ble_eq_true rfl⟩) rfl hl.1 rfl (Nat.le_of_ble_eq_true rfl) dX6_tickGoes_176 (fun H locs hP hS => ?_)
                                      have k187 : ∀  (t46 : TS) (H : Heap) (locs : List Loc) (ls : Array Slot), tw_P D dA o ad t46 H → va_S A s.heap H locs → lv_has ls 3 [(0, .ref o), (1, .int v166_1)] → fm_tickGoes_J187 sf166 v166_1  t46 = some (r, tZ) → W p l e (headSpec (ws_ yX6_tickGoes cX6_tickGoes 3 (none)) ({ frames := 4, cells := 0, slots := 0, locals := 81 })).room s m ([.ref o] : List Value).toArray below meth c H locs 0 0 (MQ below (tw_Qv D dA o ad A tZ) ([.ref o] : List Value).toArray s 0 0 A) (F0 m 187 ls []) := by
                                        intro t46 H locs ls hP hS hl hf
                                        unfold fm_tickGoes_J187 at hf
                                        refine lv_iinc (v := (v166_1 + (1 : Int32))) (lv' := [(1, .int (v166_1 + (1 : Int32))), (0, .ref o)]) hx hb dX6_tickGoes_187 hl (k := 1) rfl rfl (by decide) rfl (fun ls hl => ?_)
                                        refine lv_goto (tgt := 166) hx hb dX6_tickGoes_190 (by decide) ?_
                                        exact ih166 _ _ _ _ _ hP hS (lv_sub hl [1, 0] rfl) hf
                                      refine lv_if_eq (tgt := 187) hx hb dX6_tickGoes_179 (by decide) (fun hc => ?_) (fun hc => ?_)
                                      · have hf := tw_ifT hc hf
                                        exact k187 _ _ _ _ hP hS (lv_sub hl [0, 1] rfl) hf
                                      · have hf := tw_ifF hc hf
                                        refine lv_aload_n hx hb dX6_tickGoes_182 rfl (lv_at hl 0 rfl) ?_
                                        refine lv_iload_n hx hb dX6_tickGoes_183 rfl (lv_at hl 1 rfl) ?_
                                        obtain ⟨x47, t48, e49, hf⟩ := tw_bdE hf
                                        refine tw_cVv (As := [.int v166_1]) (rest := []) C hml hP hS (mm_recovers (l := l) (X := X) (D := D) (dA := dA) hD _ _ _ _ e49) (cwV 1 hts (lw_V q1715 q1717 qs78 q106 q1718) rfl rfl rfl hdX6_recovers ⟨Nat.le_of_ble_eq_true rfl, Nat.le_of_ble_eq_true rfl⟩) rfl hl.1 rfl (Nat.le_of_ble_eq_true rfl) dX6_tickGoes_184 (fun H locs hP hS => ?_)
                                        exact k187 _ _ _ _ hP hS (lv_sub hl [0, 1] rfl) hf
                                exact k166 _ _ _ _ _ _ hP hS (lv_sub hl [1, 0] rfl) hf
                              · have hf := tw_ifF hc hf
                                refine lv_aload_n hx hb dX6_tickGoes_149 rfl (lv_at hl 0 rfl) ?_
                                refine lv_iload_n hx hb dX6_tickGoes_150 rfl (lv_at hl 1 rfl) ?_
                                obtain ⟨x50, t51, e52, hf⟩ := tw_bdE hf
                                refine tw_cVv (As := [.int v141_1]) (rest := []) C hml hP hS (mm_samples (l := l) (X := X) (D := D) (dA := dA) hD _ _ _ _ e52) (cwV 1 hts (lw_V q1699 q1701 qs74 q106 q1702) rfl rfl rfl hdX6_samples ⟨Nat.le_of_ble_eq_true rfl, Nat.le_of_ble_eq_true rfl⟩) rfl hl.1 rfl (Nat.le_of_ble_eq_true rfl) dX6_tickGoes_151 (fun H locs hP hS => ?_)
                                refine lv_iinc (v := (v141_1 + (1 : Int32))) (lv' := [(1, .int (v141_1 + (1 : Int32))), (0, .ref o)]) hx hb dX6_tickGoes_154 hl (k := 1) rfl rfl (by decide) rfl (fun ls hl => ?_)
                                refine lv_goto (tgt := 141) hx hb dX6_tickGoes_157 (by decide) ?_
                                exact ih141 _ _ _ _ _ hP hS (lv_sub hl [1, 0] rfl) hf
                          exact k141 _ _ _ _ _ _ hP hS (lv_sub hl [1, 0] rfl) hf
                        · have hf := tw_ifF hc hf
                          refine lv_aload_n hx hb dX6_tickGoes_128 rfl (lv_at hl 0 rfl) ?_
                          refine lv_iload_n hx hb dX6_tickGoes_129 rfl (lv_at hl 1 rfl) ?_
                          obtain ⟨x53, t54, e55, hf⟩ := tw_bdE hf
                          refine tw_cVv (As := [.int v120_1]) (rest := []) C hml hP hS (mm_asks (l := l) (X := X) (D := D) (dA := dA) hD _ _ _ _ e55) (cwV 1 hts (lw_V q1695 q1697 qs73 q106 q1698) rfl rfl rfl hdX6_asks ⟨Nat.le_of_ble_eq_true rfl, Nat.le_of_ble_eq_true rfl⟩) rfl hl.1 rfl (Nat.le_of_ble_eq_true rfl) dX6_tickGoes_130 (fun H locs hP hS => ?_)
                          refine lv_iinc (v := (v120_1 + (1 : Int32))) (lv' := [(1, .int (v120_1 + (1 : Int32))), (0, .ref o)]) hx hb dX6_tickGoes_133 hl (k := 1) rfl rfl (by decide) rfl (fun ls hl => ?_)
                          refine lv_goto (tgt := 120) hx hb dX6_tickGoes_136 (by decide) ?_
                          exact ih120 _ _ _ _ _ hP hS (lv_sub hl [1, 0] rfl) hf
                    exact k120 _ _ _ _ _ _ hP hS (lv_sub hl [1, 0] rfl) hf
                  · have hf := tw_ifF hc hf
                    refine lv_aload_n hx hb dX6_tickGoes_107 rfl (lv_at hl 0 rfl) ?_
                    refine lv_iload_n hx hb dX6_tickGoes_108 rfl (lv_at hl 1 rfl) ?_
                    obtain ⟨x56, t57, e58, hf⟩ := tw_bdE hf
                    refine tw_cVv (As := [.int v99_1]) (rest := []) C hml hP hS (mm_comesTo (l := l) (X := X) (D := D) (dA := dA) hD _ _ _ _ e58) (cwV 1 hts (lw_V q1687 q1689 qs71 q106 q1690) rfl rfl rfl hdX6_comesTo ⟨Nat.le_of_ble_eq_true rfl, Nat.le_of_ble_eq_true rfl⟩) rfl hl.1 rfl (Nat.le_of_ble_eq_true rfl) dX6_tickGoes_109 (fun H locs hP hS => ?_)
                    refine lv_iinc (v := (v99_1 + (1 : Int32))) (lv' := [(1, .int (v99_1 + (1 : Int32))), (0, .ref o)]) hx hb dX6_tickGoes_112 hl (k := 1) rfl rfl (by decide) rfl (fun ls hl => ?_)
                    refine lv_goto (tgt := 99) hx hb dX6_tickGoes_115 (by decide) ?_
                    exact ih99 _ _ _ _ _ hP hS (lv_sub hl [1, 0] rfl) hf
              exact k99 _ _ _ _ _ _ hP hS (lv_sub hl [1, 0] rfl) hf
            · have hf := tw_ifF hc hf
              refine lv_aload_n hx hb dX6_tickGoes_77 rfl (lv_at hl 0 rfl) ?_
              refine lv_iload_n hx hb dX6_tickGoes_78 rfl (lv_at hl 1 rfl) ?_
              obtain ⟨x59, t60, e61, hf⟩ := tw_bdE hf
              refine tw_cVv (As := [.int v69_1]) (rest := []) C hml hP hS (mm_carriesOf (l := l) (X := X) (D := D) (dA := dA) hD _ _ _ _ e61) (cwV 1 hts (lw_V q1679 q1681 qs69 q106 q1682) rfl rfl rfl hdX6_carriesOf ⟨Nat.le_of_ble_eq_true rfl, Nat.le_of_ble_eq_true rfl⟩) rfl hl.1 rfl (Nat.le_of_ble_eq_true rfl) dX6_tickGoes_79 (fun H locs hP hS => ?_)
              refine lv_iinc (v := (v69_1 + (1 : Int32))) (lv' := [(1, .int (v69_1 + (1 : Int32))), (0, .ref o)]) hx hb dX6_tickGoes_82 hl (k := 1) rfl rfl (by decide) rfl (fun ls hl => ?_)
              refine lv_goto (tgt := 69) hx hb dX6_tickGoes_85 (by decide) ?_
              exact ih69 _ _ _ _ _ hP hS (lv_sub hl [1, 0] rfl) hf
        exact k69 _ _ _ _ _ _ hP hS (lv_sub hl [1, 0] rfl) hf
      · have hf := tw_ifF hc hf
        refine lv_iload_n hx hb dX6_tickGoes_10 rfl (lv_at hl 1 rfl) ?_
        obtain ⟨x62, t63, e64, hf⟩ := tw_bdE hf
        refine tw_cSi (As := [.int v2_1]) (rest := []) C hml hP hS (mm_flowAt (l := l) (X := X) (D := D) (dA := dA) hD _ _ _ _ e64) (va_cwS 1 hts (lw_S q1661 q1662 q106 q1663) rfl rfl rfl hdX6_flowAt ⟨Nat.le_of_ble_eq_true rfl, Nat.le_of_ble_eq_true rfl⟩) rfl hl.1 rfl (Nat.le_of_ble_eq_true rfl) dX6_tickGoes_11 (fun H locs hP hS => ?_)
        refine lv_istore_n (lv' := [(2, .int x62), (0, .ref o), (1, .int v2_1)]) hx hb dX6_tickGoes_14 rfl hl (by decide) rfl (fun ls hl => ?_)
        refine lv_aload_n hx hb dX6_tickGoes_15 rfl (lv_at hl 1 rfl) ?_
        refine lv_iload_n hx hb dX6_tickGoes_16 rfl (lv_at hl 2 rfl) ?_
        obtain ⟨x65, t66, e67, hf⟩ := tw_bdE hf
        refine tw_cVi (As := [.int v2_1]) (rest := []) C hml hP hS (mm_isOn (l := l) (X := X) (D := D) (dA := dA) hD _ _ _ _ e67) (cwV 1 hts (lw_V q1664 q1666 qs66 q106 q1667) rfl rfl rfl hdX6_isOn ⟨Nat.le_of_ble_eq_true rfl, Nat.le_of_ble_eq_true rfl⟩) rfl hl.1 rfl (Nat.le_of_ble_eq_true rfl) dX6_tickGoes_17 (fun H locs hP hS => ?_)
        have k57 : ∀  (t68 : TS) (H : Heap) (locs : List Loc) (ls : Array Slot), tw_P D dA o ad t68 H → va_S A s.heap H locs → lv_has ls 3 [(0, .ref o), (1, .int v2_1)] → fm_tickGoes_J57 sf2 v2_1  t68 = some (r, tZ) → W p l e (headSpec (ws_ yX6_tickGoes cX6_tickGoes 3 (none)) ({ frames := 4, cells := 0, slots := 0, locals := 81 })).room s m ([.ref o] : List Value).toArray below meth c H locs 0 0 (MQ below (tw_Qv D dA o ad A tZ) ([.ref o] : List Value).toArray s 0 0 A) (F0 m 57 ls []) := by
          intro t68 H locs ls hP hS hl hf
          unfold fm_tickGoes_J57 at hf
          refine lv_iinc (v := (v2_1 + (1 : Int32))) (lv' := [(1, .int (v2_1 + (1 : Int32))), (0, .ref o)]) hx hb dX6_tickGoes_57 hl (k := 1) rfl rfl (by decide) rfl (fun ls hl => ?_)
          refine lv_goto (tgt := 2) hx hb dX6_tickGoes_60 (by decide) ?_
          exact ih2 _ _ _ _ _ hP hS (lv_sub hl [1, 0] rfl) hf
        refine lv_if_eq (tgt := 57) hx hb dX6_tickGoes_20 (by decide) (fun hc => ?_) (fun hc => ?_)
        · have hf := tw_ifT hc hf
          exact k57 _ _ _ _ hP hS (lv_sub hl [1, 2] rfl) hf
        · have hf := tw_ifF hc hf
          refine lv_aload_n hx hb dX6_tickGoes_23 rfl (lv_at hl 1 rfl) ?_
          refine tw_aget (k := 26) C hP (by decide) (by decide) q1402 dX6_tickGoes_24 ?_
          refine lv_iload_n hx hb dX6_tickGoes_27 rfl (lv_at hl 0 rfl) ?_
          refine lv_bipush (v := (8 : Int32)) hx hb dX6_tickGoes_28 (by decide) ?_
          refine lv_iadd hx hb dX6_tickGoes_30 ?_
          refine lv_aload_n hx hb dX6_tickGoes_31 rfl (lv_at hl 1 rfl) ?_
          refine tw_aget (k := 26) C hP (by decide) (by decide) q1402 dX6_tickGoes_32 ?_
          refine lv_iload_n hx hb dX6_tickGoes_35 rfl (lv_at hl 0 rfl) ?_
          refine lv_bipush (v := (8 : Int32)) hx hb dX6_tickGoes_36 (by decide) ?_
          refine lv_iadd hx hb dX6_tickGoes_38 ?_
          obtain ⟨x69, t70, e71, hf⟩ := tw_bdE hf
          refine tw_iald C hP e71 dX6_tickGoes_39 (fun hP => ?_)
          refine lv_aload_n hx hb dX6_tickGoes_40 rfl (lv_at hl 1 rfl) ?_
          refine tw_aget (k := 26) C hP (by decide) (by decide) q1402 dX6_tickGoes_41 ?_
          refine lv_iload_n hx hb dX6_tickGoes_44 rfl (lv_at hl 0 rfl) ?_
          refine lv_iconst (v := (0 : Int32)) hx hb dX6_tickGoes_45 (by decide) ?_
          refine lv_iadd hx hb dX6_tickGoes_46 ?_
          obtain ⟨x72, t73, e74, hf⟩ := tw_bdE hf
          refine tw_iald C hP e74 dX6_tickGoes_47 (fun hP => ?_)
          refine lv_iadd hx hb dX6_tickGoes_48 ?_
          refine lv_iconst (v := (0 : Int32)) hx hb dX6_tickGoes_49 (by decide) ?_
          refine lv_sipush (v := (1024 : Int32)) hx hb dX6_tickGoes_50 (by decide) ?_
          obtain ⟨x75, t76, e77, hf⟩ := tw_bdE hf
          refine tw_cSi (As := [.int (x69 + x72), .int (0 : Int32), .int (1024 : Int32)]) (rest := [.int (x62 + (8 : Int32)), .ref (ad 26)]) C hml hP hS (mm_within (l := l) (X := X) (D := D) (dA := dA) hD _ _ _ _ _ _ e77) (va_cwS 3 hts (lw_S q1668 q1669 q106 q1670) rfl rfl rfl hdX6_within ⟨Nat.le_of_ble_eq_true rfl, Nat.le_of_ble_eq_true rfl⟩) rfl hl.1 rfl (Nat.le_of_ble_eq_true rfl) dX6_tickGoes_53 (fun H locs hP hS => ?_)
          obtain ⟨x78, t79, e80, hf⟩ := tw_bdE hf
          refine tw_iast C hP hS e80 dX6_tickGoes_56 (fun H locs hP hS => ?_)
          exact k57 _ _ _ _ hP hS (lv_sub hl [1, 2] rfl) hf
  exact k2 _ _ _ _ _ _ hP hS (lv_sub hl [1, 0] rfl) hf
def fm_tick_J16   : TM Int32 :=
  tw_rt (-1 : Int32)
def fm_tick_L43 (a1 : Int32) (sf43 : Int32 → TM Int32) (v43_2 : Int32) : TM Int32 :=
  if a1 ≤ v43_2 then ( tw_bd (tw_ld 26 (336 : Int32)) fun x12 =>
  tw_rt x12)
  else (tw_bd (fm_tickGoes) fun _ =>
 
  sf43 (v43_2 + (1 : Int32)))
def fm_tick (a1 : Int32) : TM Int32 :=
  tw_bd (tw_pi 0 (0 : Int32)) fun _ =>
  if a1 < (1 : Int32) then (fm_tick_J16)
  else (if a1 ≤ (50 : Int32) then ( tw_bd (tw_ld 26 (336 : Int32)) fun x5 =>
  if (x5 + a1) ≤ (9999 : Int32) then (tw_bd (fm_remembers) fun _ =>
 
  tw_lp (fm_tick_L43 a1) (fun _ _ => none) tw_fu (0 : Int32))
  else (tw_rt (-2 : Int32)))
  else (fm_tick_J16))
theorem hdX6_tick : yX6_tick.cls = "LosslessFabricModel" ∧ (yX6_tick.cls ≠ "java/lang/invoke/MethodHandle" ∧ yX6_tick.cls ≠ "java/lang/invoke/VarHandle" ∧ (parseMethodDescriptor yX6_tick.desc).map (fun d => d.parameters.length) = some 1) := by decide +kernel
set_option maxHeartbeats 4000000 in
theorem mm_tick {l : Launch} {X : (Nat → Nat) × (Nat → Nat) × Nat} {D : va_G} {dA : Nat → ClassId} {o : Nat} {ad : Nat → Nat} {A : Nat → Prop} (hD : tw_D o ad A) (a1 : Int32) (t0 tZ : TS) (r : Int32) (hf : fm_tick a1 t0 = some (r, tZ)) : Met l yX6_tick (ws_ yX6_tick cX6_tick 3 (some .int)) ({ frames := 5, cells := 0, slots := 0, locals := 103 }) (va_Pc [.ref o, .int a1] (tw_W X A D dA o ad t0)) (tw_Qi D dA o ad A r tZ) 0 0 A := by
  refine Met.ofW (cc := cX6_tick) (maxL := 3) (ret := some .int) (by decide) rfl ?_
  intro p e s m args below meth c s₁ B hml hv
  obtain ⟨rfl, hP, hK, hX⟩ := hv
  have hx := B.exec
  have hb := B.bytes
  have hr := B.returns
  have hts := atoms_spec (ws := (ws_ yX6_tick cX6_tick 3 (some .int))) B.pre
  have hts : ∀ w ∈ lw_all, w.before _ s = true := fun w h => hts w (List.mem_cons_of_mem _ h)
  have hown : s.vm.findClass "LosslessFabricModel" = some m.cls := findClass_of_methodNamed B.named
  have hlk := B.notSynchronized
  have C : tw_C X p s m _ c cX6_tick D dA o ad A := ⟨hx, hb, hts, hown, hK, hD, hX⟩
  have hS : va_S A s.heap s.heap [] := va_S.rf
  have hl := lv_entry ([.ref o, .int a1]) (n := 3) (Nat.le_of_ble_eq_true rfl)
  rw [lg_entry_eq]
  generalize (lg_sl ([.ref o, .int a1]) ++ List.replicate (3 - (lg_sl ([.ref o, .int a1])).length) Slot.unset).toArray = ls at hl ⊢
  have hl : lv_has ls 3 [(0, .ref o), (1, .int a1)] := hl
  unfold fm_tick at hf
  refine lv_aload_n hx hb dX6_tick_0 rfl (lv_at hl 0 rfl) ?_
  refine lv_iconst (v := (0 : Int32)) hx hb dX6_tick_1 (by decide) ?_
  obtain ⟨x1, t2, e3, hf⟩ := tw_bdE hf
  refine tw_iput (k := 0) C hP hS (by decide) rfl e3 q1376 dX6_tick_2 (fun H locs hP hS => ?_)
  refine lv_iload_n hx hb dX6_tick_5 rfl (lv_at hl 1 rfl) ?_
  refine lv_iconst (v := (1 : Int32)) hx hb dX6_tick_6 (by decide) ?_
  have k16 : ∀  (t4 : TS) (H : Heap) (locs : List Loc) (ls : Array Slot), tw_P D dA o ad t4 H → va_S A s.heap H locs → lv_has ls 3 [] → fm_tick_J16  t4 = some (r, tZ) → W p l e (headSpec (ws_ yX6_tick cX6_tick 3 (some .int)) ({ frames := 5, cells := 0, slots := 0, locals := 103 })).room s m ([.ref o, .int a1] : List Value).toArray below meth c H locs 0 0 (MQ below (tw_Qi D dA o ad A r tZ) ([.ref o, .int a1] : List Value).toArray s 0 0 A) (F0 m 16 ls []) := by
    intro t4 H locs ls hP hS hl hf
    unfold fm_tick_J16 at hf
    refine lv_iconst (v := (-1 : Int32)) hx hb dX6_tick_16 (by decide) ?_
    exact tw_ireti (tw_rtE hf).1 (tw_rtE hf).2 C hr hP hS hlk dX6_tick_17
  refine lv_icmp_lt (tgt := 16) hx hb dX6_tick_7 (by decide) (fun hc => ?_) (fun hc => ?_)
  · have hf := tw_ifT hc hf
    exact k16 _ _ _ _ hP hS (lv_sub hl [] rfl) hf
  · have hf := tw_ifF hc hf
    refine lv_iload_n hx hb dX6_tick_10 rfl (lv_at hl 1 rfl) ?_
    refine lv_bipush (v := (50 : Int32)) hx hb dX6_tick_11 (by decide) ?_
    refine lv_icmp_le (tgt := 18) hx hb dX6_tick_13 (by decide) (fun hc => ?_) (fun hc => ?_)
    · have hf := tw_ifT hc hf
      refine lv_aload_n hx hb dX6_tick_18 rfl (lv_at hl 0 rfl) ?_
      refine tw_aget (k := 26) C hP (by decide) (by decide) q1402 dX6_tick_19 ?_
      refine lv_sipush (v := (336 : Int32)) hx hb dX6_tick_22 (by decide) ?_
      obtain ⟨x5, t6, e7, hf⟩ := tw_bdE hf
      refine tw_iald C hP e7 dX6_tick_25 (fun hP => ?_)
      refine lv_iload_n hx hb dX6_tick_26 rfl (lv_at hl 1 rfl) ?_
      refine lv_iadd hx hb dX6_tick_27 ?_
      refine lv_sipush (v := (9999 : Int32)) hx hb dX6_tick_28 (by decide) ?_
      refine lv_icmp_le (tgt := 37) hx hb dX6_tick_31 (by decide) (fun hc => ?_) (fun hc => ?_)
      · have hf := tw_ifT hc hf
        refine lv_aload_n hx hb dX6_tick_37 rfl (lv_at hl 0 rfl) ?_
        obtain ⟨x8, t9, e10, hf⟩ := tw_bdE hf
        refine tw_cVv (As := []) (rest := []) C hml hP hS (mm_remembers (l := l) (X := X) (D := D) (dA := dA) hD _ _ _ e10) (cwV 0 hts (lw_V q1653 q1655 qs64 q106 q1656) rfl rfl rfl hdX6_remembers ⟨Nat.le_of_ble_eq_true rfl, Nat.le_of_ble_eq_true rfl⟩) rfl hl.1 rfl (Nat.le_of_ble_eq_true rfl) dX6_tick_38 (fun H locs hP hS => ?_)
        refine lv_iconst (v := (0 : Int32)) hx hb dX6_tick_41 (by decide) ?_
        refine lv_istore_n (lv' := [(2, .int (0 : Int32)), (0, .ref o), (1, .int a1)]) hx hb dX6_tick_42 rfl hl (by decide) rfl (fun ls hl => ?_)
        have k43 : ∀ (n : Nat) (v43_2 : Int32) (t11 : TS) (H : Heap) (locs : List Loc) (ls : Array Slot), tw_P D dA o ad t11 H → va_S A s.heap H locs → lv_has ls 3 [(0, .ref o), (1, .int a1), (2, .int v43_2)] → tw_lp (fm_tick_L43 a1) (fun _ _ => none) n v43_2 t11 = some (r, tZ) → W p l e (headSpec (ws_ yX6_tick cX6_tick 3 (some .int)) ({ frames := 5, cells := 0, slots := 0, locals := 103 })).room s m ([.ref o, .int a1] : List Value).toArray below meth c H locs 0 0 (MQ below (tw_Qi D dA o ad A r tZ) ([.ref o, .int a1] : List Value).toArray s 0 0 A) (F0 m 43 ls []) := by
          intro n
          induction n with
          | zero => intro v43_2 t11 H locs ls hP hS hl hf; exact (tw_no hf).elim
          | succ n ih43 =>
            intro v43_2 t11 H locs ls hP hS hl hf
            obtain ⟨sf43, hs43⟩ : ∃ f, f = tw_lp (fm_tick_L43 a1) (fun _ _ => none) n := ⟨_, rfl⟩
            rw [← hs43] at ih43
            have hf : fm_tick_L43 a1 sf43 v43_2 t11 = some (r, tZ) := by rw [hs43]; exact hf
            clear hs43
            unfold fm_tick_L43 at hf
            refine lv_iload_n hx hb dX6_tick_43 rfl (lv_at hl 2 rfl) ?_
            refine lv_iload_n hx hb dX6_tick_44 rfl (lv_at hl 1 rfl) ?_
            refine lv_icmp_ge (tgt := 58) hx hb dX6_tick_45 (by decide) (fun hc => ?_) (fun hc => ?_)
            · have hf := tw_ifT hc hf
              refine lv_aload_n hx hb dX6_tick_58 rfl (lv_at hl 0 rfl) ?_
              refine tw_aget (k := 26) C hP (by decide) (by decide) q1402 dX6_tick_59 ?_
              refine lv_sipush (v := (336 : Int32)) hx hb dX6_tick_62 (by decide) ?_
              obtain ⟨x12, t13, e14, hf⟩ := tw_bdE hf
              refine tw_iald C hP e14 dX6_tick_65 (fun hP => ?_)
              exact tw_ireti (tw_rtE hf).1 (tw_rtE hf).2 C hr hP hS hlk dX6_tick_66
            · have hf := tw_ifF hc hf
              refine lv_aload_n hx hb dX6_tick_48 rfl (lv_at hl 0 rfl) ?_
              obtain ⟨x15, t16, e17, hf⟩ := tw_bdE hf
              refine tw_cVv (As := []) (rest := []) C hml hP hS (mm_tickGoes (l := l) (X := X) (D := D) (dA := dA) hD _ _ _ e17) (cwV 0 hts (lw_V q1657 q1659 qs65 q106 q1660) rfl rfl rfl hdX6_tickGoes ⟨Nat.le_of_ble_eq_true rfl, Nat.le_of_ble_eq_true rfl⟩) rfl hl.1 rfl (Nat.le_of_ble_eq_true rfl) dX6_tick_49 (fun H locs hP hS => ?_)
              refine lv_iinc (v := (v43_2 + (1 : Int32))) (lv' := [(2, .int (v43_2 + (1 : Int32))), (0, .ref o), (1, .int a1)]) hx hb dX6_tick_52 hl (k := 2) rfl rfl (by decide) rfl (fun ls hl => ?_)
              refine lv_goto (tgt := 43) hx hb dX6_tick_55 (by decide) ?_
              exact ih43 _ _ _ _ _ hP hS (lv_sub hl [1, 2, 0] rfl) hf
        exact k43 _ _ _ _ _ _ hP hS (lv_sub hl [1, 2, 0] rfl) hf
      · have hf := tw_ifF hc hf
        refine lv_bipush (v := (-2 : Int32)) hx hb dX6_tick_34 (by decide) ?_
        exact tw_ireti (tw_rtE hf).1 (tw_rtE hf).2 C hr hP hS hlk dX6_tick_36
    · have hf := tw_ifF hc hf
      exact k16 _ _ _ _ hP hS (lv_sub hl [] rfl) hf
def fm_isFlow_J17  (w17_0 : Int32) : TM Int32 :=
  tw_rz w17_0
def fm_isFlow_J16   : TM Int32 :=
  fm_isFlow_J17 (0 : Int32)
def fm_isFlow (a1 : Int32) : TM Int32 :=
  if a1 < 0 then (fm_isFlow_J16)
  else (tw_bd (fm_flows) fun x3 =>
  if x3 ≤ a1 then (fm_isFlow_J16)
  else (fm_isFlow_J17 (1 : Int32)))
theorem hdX6_isFlow : yX6_isFlow.cls = "LosslessFabricModel" ∧ (yX6_isFlow.cls ≠ "java/lang/invoke/MethodHandle" ∧ yX6_isFlow.cls ≠ "java/lang/invoke/VarHandle" ∧ (parseMethodDescriptor yX6_isFlow.desc).map (fun d => d.parameters.length) = some 1) := by decide +kernel
set_option maxHeartbeats 4000000 in
theorem mm_isFlow {l : Launch} {X : (Nat → Nat) × (Nat → Nat) × Nat} {D : va_G} {dA : Nat → ClassId} {o : Nat} {ad : Nat → Nat} {A : Nat → Prop} (hD : tw_D o ad A) (a1 : Int32) (t0 tZ : TS) (r : Int32) (hf : fm_isFlow a1 t0 = some (r, tZ)) : Met l yX6_isFlow (ws_ yX6_isFlow cX6_isFlow 2 (some .boolean)) ({ frames := 2, cells := 0, slots := 0, locals := 32 }) (va_Pc [.ref o, .int a1] (tw_W X A D dA o ad t0)) (tw_Qi D dA o ad A r tZ) 0 0 A := by
  refine Met.ofW (cc := cX6_isFlow) (maxL := 2) (ret := some .boolean) (by decide) rfl ?_
  intro p e s m args below meth c s₁ B hml hv
  obtain ⟨rfl, hP, hK, hX⟩ := hv
  have hx := B.exec
  have hb := B.bytes
  have hr := B.returns
  have hts := atoms_spec (ws := (ws_ yX6_isFlow cX6_isFlow 2 (some .boolean))) B.pre
  have hts : ∀ w ∈ lw_all, w.before _ s = true := fun w h => hts w (List.mem_cons_of_mem _ h)
  have hown : s.vm.findClass "LosslessFabricModel" = some m.cls := findClass_of_methodNamed B.named
  have hlk := B.notSynchronized
  have C : tw_C X p s m _ c cX6_isFlow D dA o ad A := ⟨hx, hb, hts, hown, hK, hD, hX⟩
  have hS : va_S A s.heap s.heap [] := va_S.rf
  have hl := lv_entry ([.ref o, .int a1]) (n := 2) (Nat.le_of_ble_eq_true rfl)
  rw [lg_entry_eq]
  generalize (lg_sl ([.ref o, .int a1]) ++ List.replicate (2 - (lg_sl ([.ref o, .int a1])).length) Slot.unset).toArray = ls at hl ⊢
  have hl : lv_has ls 2 [(0, .ref o), (1, .int a1)] := hl
  unfold fm_isFlow at hf
  refine lv_iload_n hx hb dX6_isFlow_0 rfl (lv_at hl 1 rfl) ?_
  have k17 : ∀ (w17_0 : Int32) (t1 : TS) (H : Heap) (locs : List Loc) (ls : Array Slot), tw_P D dA o ad t1 H → va_S A s.heap H locs → lv_has ls 2 [] → fm_isFlow_J17 w17_0 t1 = some (r, tZ) → W p l e (headSpec (ws_ yX6_isFlow cX6_isFlow 2 (some .boolean)) ({ frames := 2, cells := 0, slots := 0, locals := 32 })).room s m ([.ref o, .int a1] : List Value).toArray below meth c H locs 0 0 (MQ below (tw_Qi D dA o ad A r tZ) ([.ref o, .int a1] : List Value).toArray s 0 0 A) (F0 m 17 ls [.int w17_0]) := by
    intro w17_0 t1 H locs ls hP hS hl hf
    unfold fm_isFlow_J17 at hf
    exact tw_iretz hf C hr hP hS hlk dX6_isFlow_17
  have k16 : ∀  (t2 : TS) (H : Heap) (locs : List Loc) (ls : Array Slot), tw_P D dA o ad t2 H → va_S A s.heap H locs → lv_has ls 2 [] → fm_isFlow_J16  t2 = some (r, tZ) → W p l e (headSpec (ws_ yX6_isFlow cX6_isFlow 2 (some .boolean)) ({ frames := 2, cells := 0, slots := 0, locals := 32 })).room s m ([.ref o, .int a1] : List Value).toArray below meth c H locs 0 0 (MQ below (tw_Qi D dA o ad A r tZ) ([.ref o, .int a1] : List Value).toArray s 0 0 A) (F0 m 16 ls []) := by
    intro t2 H locs ls hP hS hl hf
    unfold fm_isFlow_J16 at hf
    refine lv_iconst (v := (0 : Int32)) hx hb dX6_isFlow_16 (by decide) ?_
    exact k17 _ _ _ _ _ hP hS (lv_sub hl [] rfl) hf
  refine lv_if_lt (tgt := 16) hx hb dX6_isFlow_1 (by decide) (fun hc => ?_) (fun hc => ?_)
  · have hf := tw_ifT hc hf
    exact k16 _ _ _ _ hP hS (lv_sub hl [] rfl) hf
  · have hf := tw_ifF hc hf
    refine lv_iload_n hx hb dX6_isFlow_4 rfl (lv_at hl 1 rfl) ?_
    refine lv_aload_n hx hb dX6_isFlow_5 rfl (lv_at hl 0 rfl) ?_
    obtain ⟨x3, t4, e5, hf⟩ := tw_bdE hf
    refine tw_cVi (As := []) (rest := [.int a1]) C hml hP hS (mm_flows (l := l) (X := X) (D := D) (dA := dA) hD _ _ _ e5) (cwV 0 hts (lw_V q1372 q1374 qs44 q106 q1375) rfl rfl rfl hdX6_flows ⟨Nat.le_of_ble_eq_true rfl, Nat.le_of_ble_eq_true rfl⟩) rfl hl.1 rfl (Nat.le_of_ble_eq_true rfl) dX6_isFlow_6 (fun H locs hP hS => ?_)
    refine lv_icmp_ge (tgt := 16) hx hb dX6_isFlow_9 (by decide) (fun hc => ?_) (fun hc => ?_)
    · have hf := tw_ifT hc hf
      exact k16 _ _ _ _ hP hS (lv_sub hl [] rfl) hf
    · have hf := tw_ifF hc hf
      refine lv_iconst (v := (1 : Int32)) hx hb dX6_isFlow_12 (by decide) ?_
      refine lv_goto (tgt := 17) hx hb dX6_isFlow_13 (by decide) ?_
      exact k17 _ _ _ _ _ hP hS (lv_sub hl [] rfl) hf
def fm_rate_J25   : TM Int32 :=
  tw_rt (-1 : Int32)
def fm_rate (a1 : Int32) (a2 : Int32) : TM Int32 :=
  tw_bd (tw_pi 0 (0 : Int32)) fun _ =>
  tw_bd (fm_isFlow a1) fun x4 =>
  if x4 = 0 then (fm_rate_J25)
  else (if a2 < (1 : Int32) then (fm_rate_J25)
  else (if a2 ≤ (1024 : Int32) then (tw_bd (fm_remembers) fun _ =>
   tw_bd (fm_flowAt a1) fun x11 =>
  tw_bd (tw_ld 26 (x11 + (0 : Int32))) fun x14 =>
   tw_bd (fm_flowAt a1) fun x17 =>
  tw_bd (tw_st 26 (x17 + (0 : Int32)) a2) fun _ =>
   tw_bd (fm_flowAt a1) fun x23 =>
  tw_bd (tw_st 26 (x23 + (1 : Int32)) a2) fun _ =>
  tw_rt x14)
  else (fm_rate_J25)))
theorem hdX6_rate : yX6_rate.cls = "LosslessFabricModel" ∧ (yX6_rate.cls ≠ "java/lang/invoke/MethodHandle" ∧ yX6_rate.cls ≠ "java/lang/invoke/VarHandle" ∧ (parseMethodDescriptor yX6_rate.desc).map (fun d => d.parameters.length) = some 2) := by decide +kernel
set_option maxHeartbeats 4000000 in
theorem mm_rate {l : Launch} {X : (Nat → Nat) × (Nat → Nat) × Nat} {D : va_G} {dA : Nat → ClassId} {o : Nat} {ad : Nat → Nat} {A : Nat → Prop} (hD : tw_D o ad A) (a1 : Int32) (a2 : Int32) (t0 tZ : TS) (r : Int32) (hf : fm_rate a1 a2 t0 = some (r, tZ)) : Met l yX6_rate (ws_ yX6_rate cX6_rate 4 (some .int)) ({ frames := 3, cells := 0, slots := 0, locals := 57 }) (va_Pc [.ref o, .int a1, .int a2] (tw_W X A D dA o ad t0)) (tw_Qi D dA o ad A r tZ) 0 0 A := by
  refine Met.ofW (cc := cX6_rate) (maxL := 4) (ret := some .int) (by decide) rfl ?_
  intro p e s m args below meth c s₁ B hml hv
  obtain ⟨rfl, hP, hK, hX⟩ := hv
  have hx := B.exec
  have hb := B.bytes
  have hr := B.returns
  have hts := atoms_spec (ws := (ws_ yX6_rate cX6_rate 4 (some .int))) B.pre
  have hts : ∀ w ∈ lw_all, w.before _ s = true := fun w h => hts w (List.mem_cons_of_mem _ h)
  have hown : s.vm.findClass "LosslessFabricModel" = some m.cls := findClass_of_methodNamed B.named
  have hlk := B.notSynchronized
  have C : tw_C X p s m _ c cX6_rate D dA o ad A := ⟨hx, hb, hts, hown, hK, hD, hX⟩
  have hS : va_S A s.heap s.heap [] := va_S.rf
  have hl := lv_entry ([.ref o, .int a1, .int a2]) (n := 4) (Nat.le_of_ble_eq_true rfl)
  rw [lg_entry_eq]
  generalize (lg_sl ([.ref o, .int a1, .int a2]) ++ List.replicate (4 - (lg_sl ([.ref o, .int a1, .int a2])).length) Slot.unset).toArray = ls at hl ⊢
  have hl : lv_has ls 4 [(0, .ref o), (1, .int a1), (2, .int a2)] := hl
  unfold fm_rate at hf
  refine lv_aload_n hx hb dX6_rate_0 rfl (lv_at hl 0 rfl) ?_
  refine lv_iconst (v := (0 : Int32)) hx hb dX6_rate_1 (by decide) ?_
  obtain ⟨x1, t2, e3, hf⟩ := tw_bdE hf
  refine tw_iput (k := 0) C hP hS (by decide) rfl e3 q1376 dX6_rate_2 (fun H locs hP hS => ?_)
  refine lv_aload_n hx hb dX6_rate_5 rfl (lv_at hl 0 rfl) ?_
  refine lv_iload_n hx hb dX6_rate_6 rfl (lv_at hl 1 rfl) ?_
  obtain ⟨x4, t5, e6, hf⟩ := tw_bdE hf
  refine tw_cVi (As := [.int a1]) (rest := []) C hml hP hS (mm_isFlow (l := l) (X := X) (D := D) (dA := dA) hD _ _ _ _ e6) (cwV 1 hts (lw_V q1727 q1729 qs80 q106 q1730) rfl rfl rfl hdX6_isFlow ⟨Nat.le_of_ble_eq_true rfl, Nat.le_of_ble_eq_true rfl⟩) rfl hl.1 rfl (Nat.le_of_ble_eq_true rfl) dX6_rate_7 (fun H locs hP hS => ?_)
  have k25 : ∀  (t7 : TS) (H : Heap) (locs : List Loc) (ls : Array Slot), tw_P D dA o ad t7 H → va_S A s.heap H locs → lv_has ls 4 [] → fm_rate_J25  t7 = some (r, tZ) → W p l e (headSpec (ws_ yX6_rate cX6_rate 4 (some .int)) ({ frames := 3, cells := 0, slots := 0, locals := 57 })).room s m ([.ref o, .int a1, .int a2] : List Value).toArray below meth c H locs 0 0 (MQ below (tw_Qi D dA o ad A r tZ) ([.ref o, .int a1, .int a2] : List Value).toArray s 0 0 A) (F0 m 25 ls []) := by
    intro t7 H locs ls hP hS hl hf
    unfold fm_rate_J25 at hf
    refine lv_iconst (v := (-1 : Int32)) hx hb dX6_rate_25 (by decide) ?_
    exact tw_ireti (tw_rtE hf).1 (tw_rtE hf).2 C hr hP hS hlk dX6_rate_26
  refine lv_if_eq (tgt := 25) hx hb dX6_rate_10 (by decide) (fun hc => ?_) (fun hc => ?_)
  · have hf := tw_ifT hc hf
    exact k25 _ _ _ _ hP hS (lv_sub hl [] rfl) hf
  · have hf := tw_ifF hc hf
    refine lv_iload_n hx hb dX6_rate_13 rfl (lv_at hl 2 rfl) ?_
    refine lv_iconst (v := (1 : Int32)) hx hb dX6_rate_14 (by decide) ?_
    refine lv_icmp_lt (tgt := 25) hx hb dX6_rate_15 (by decide) (fun hc => ?_) (fun hc => ?_)
    · have hf := tw_ifT hc hf
      exact k25 _ _ _ _ hP hS (lv_sub hl [] rfl) hf
    · have hf := tw_ifF hc hf
      refine lv_iload_n hx hb dX6_rate_18 rfl (lv_at hl 2 rfl) ?_
      refine lv_sipush (v := (1024 : Int32)) hx hb dX6_rate_19 (by decide) ?_
      refine lv_icmp_le (tgt := 27) hx hb dX6_rate_22 (by decide) (fun hc => ?_) (fun hc => ?_)
      · have hf := tw_ifT hc hf
        refine lv_aload_n hx hb dX6_rate_27 rfl (lv_at hl 0 rfl) ?_
        obtain ⟨x8, t9, e10, hf⟩ := tw_bdE hf
        refine tw_cVv (As := []) (rest := []) C hml hP hS (mm_remembers (l := l) (X := X) (D := D) (dA := dA) hD _ _ _ e10) (cwV 0 hts (lw_V q1653 q1655 qs64 q106 q1656) rfl rfl rfl hdX6_remembers ⟨Nat.le_of_ble_eq_true rfl, Nat.le_of_ble_eq_true rfl⟩) rfl hl.1 rfl (Nat.le_of_ble_eq_true rfl) dX6_rate_28 (fun H locs hP hS => ?_)
        refine lv_aload_n hx hb dX6_rate_31 rfl (lv_at hl 0 rfl) ?_
        refine tw_aget (k := 26) C hP (by decide) (by decide) q1402 dX6_rate_32 ?_
        refine lv_iload_n hx hb dX6_rate_35 rfl (lv_at hl 1 rfl) ?_
        obtain ⟨x11, t12, e13, hf⟩ := tw_bdE hf
        refine tw_cSi (As := [.int a1]) (rest := [.ref (ad 26)]) C hml hP hS (mm_flowAt (l := l) (X := X) (D := D) (dA := dA) hD _ _ _ _ e13) (va_cwS 1 hts (lw_S q1661 q1662 q106 q1663) rfl rfl rfl hdX6_flowAt ⟨Nat.le_of_ble_eq_true rfl, Nat.le_of_ble_eq_true rfl⟩) rfl hl.1 rfl (Nat.le_of_ble_eq_true rfl) dX6_rate_36 (fun H locs hP hS => ?_)
        refine lv_iconst (v := (0 : Int32)) hx hb dX6_rate_39 (by decide) ?_
        refine lv_iadd hx hb dX6_rate_40 ?_
        obtain ⟨x14, t15, e16, hf⟩ := tw_bdE hf
        refine tw_iald C hP e16 dX6_rate_41 (fun hP => ?_)
        refine lv_istore_n (lv' := [(3, .int x14), (0, .ref o), (1, .int a1), (2, .int a2)]) hx hb dX6_rate_42 rfl hl (by decide) rfl (fun ls hl => ?_)
        refine lv_aload_n hx hb dX6_rate_43 rfl (lv_at hl 1 rfl) ?_
        refine tw_aget (k := 26) C hP (by decide) (by decide) q1402 dX6_rate_44 ?_
        refine lv_iload_n hx hb dX6_rate_47 rfl (lv_at hl 2 rfl) ?_
        obtain ⟨x17, t18, e19, hf⟩ := tw_bdE hf
        refine tw_cSi (As := [.int a1]) (rest := [.ref (ad 26)]) C hml hP hS (mm_flowAt (l := l) (X := X) (D := D) (dA := dA) hD _ _ _ _ e19) (va_cwS 1 hts (lw_S q1661 q1662 q106 q1663) rfl rfl rfl hdX6_flowAt ⟨Nat.le_of_ble_eq_true rfl, Nat.le_of_ble_eq_true rfl⟩) rfl hl.1 rfl (Nat.le_of_ble_eq_true rfl) dX6_rate_48 (fun H locs hP hS => ?_)
        refine lv_iconst (v := (0 : Int32)) hx hb dX6_rate_51 (by decide) ?_
        refine lv_iadd hx hb dX6_rate_52 ?_
        refine lv_iload_n hx hb dX6_rate_53 rfl (lv_at hl 3 rfl) ?_
        obtain ⟨x20, t21, e22, hf⟩ := tw_bdE hf
        refine tw_iast C hP hS e22 dX6_rate_54 (fun H locs hP hS => ?_)
        refine lv_aload_n hx hb dX6_rate_55 rfl (lv_at hl 1 rfl) ?_
        refine tw_aget (k := 26) C hP (by decide) (by decide) q1402 dX6_rate_56 ?_
        refine lv_iload_n hx hb dX6_rate_59 rfl (lv_at hl 2 rfl) ?_
        obtain ⟨x23, t24, e25, hf⟩ := tw_bdE hf
        refine tw_cSi (As := [.int a1]) (rest := [.ref (ad 26)]) C hml hP hS (mm_flowAt (l := l) (X := X) (D := D) (dA := dA) hD _ _ _ _ e25) (va_cwS 1 hts (lw_S q1661 q1662 q106 q1663) rfl rfl rfl hdX6_flowAt ⟨Nat.le_of_ble_eq_true rfl, Nat.le_of_ble_eq_true rfl⟩) rfl hl.1 rfl (Nat.le_of_ble_eq_true rfl) dX6_rate_60 (fun H locs hP hS => ?_)
        refine lv_iconst (v := (1 : Int32)) hx hb dX6_rate_63 (by decide) ?_
        refine lv_iadd hx hb dX6_rate_64 ?_
        refine lv_iload_n hx hb dX6_rate_65 rfl (lv_at hl 3 rfl) ?_
        obtain ⟨x26, t27, e28, hf⟩ := tw_bdE hf
        refine tw_iast C hP hS e28 dX6_rate_66 (fun H locs hP hS => ?_)
        refine lv_iload_n hx hb dX6_rate_67 rfl (lv_at hl 0 rfl) ?_
        exact tw_ireti (tw_rtE hf).1 (tw_rtE hf).2 C hr hP hS hlk dX6_rate_68
      · have hf := tw_ifF hc hf
        exact k25 _ _ _ _ hP hS (lv_sub hl [] rfl) hf