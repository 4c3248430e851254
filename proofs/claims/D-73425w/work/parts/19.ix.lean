/-- where the next gap is; -1: none -/
def gw_ixf : Nat → Nat → Int32
  | 0, _ => -1
  | n + 1, i => if (gw_txt.take 31).getD i 0 = 32 then nI i else gw_ixf n (i + 1)
theorem hdJ1_canEncode : (yJ1_canEncode.cls ≠ "java/lang/invoke/MethodHandle" ∧ yJ1_canEncode.cls ≠ "java/lang/invoke/VarHandle" ∧ (parseMethodDescriptor yJ1_canEncode.desc).map (fun d => d.parameters.length) = some 1) := by decide +kernel
set_option maxHeartbeats 4000000 in
theorem ms_J1_canEncode {l : Launch} {X : (Nat → Nat) × (Nat → Nat) × Nat} {A : Nat → Prop}  : Met l yJ1_canEncode (ws_ yJ1_canEncode cJ1_canEncode 1 (some .boolean)) ({ frames := 1, cells := 0, slots := 0, locals := 40 }) (va_Pc [.int 32] (fun U => gw_X X A U U.heap)) (vp_Si (fun r => r = 1)) 0 0 (fun _ => False) := by
  refine Met.ofW (cc := cJ1_canEncode) (maxL := 1) (ret := some .boolean) (by decide) rfl ?_
  intro p e s m args below meth c s₁ B hml hv
  obtain ⟨rfl, hX⟩ := hv
  have hx := B.exec
  have hb := B.bytes
  have hr := B.returns
  have hts := atoms_spec (ws := (ws_ yJ1_canEncode cJ1_canEncode 1 (some .boolean))) B.pre
  have hts : ∀ w ∈ lw_all, w.before _ s = true := fun w h => hts w (List.mem_cons_of_mem _ h)
  have hown : s.vm.findClass "java/lang/StringLatin1" = some m.cls := findClass_of_methodNamed B.named
  have hlk := B.notSynchronized
  have hS : va_S A s.heap s.heap [] := va_S.rf
  have hl := lv_entry ([.int 32]) (n := 1) (Nat.le_of_ble_eq_true rfl)
  rw [lg_entry_eq]
  generalize (lg_sl ([.int 32]) ++ List.replicate (1 - (lg_sl ([.int 32])).length) Slot.unset).toArray = ls at hl ⊢
  have hl : lv_has ls 1 [(0, .int 32)] := hl
  refine lv_iload_n hx hb dJ1_canEncode_0 rfl (lv_at hl 0 rfl) ?_
  refine lv_if_lt (tgt := 15) hx hb dJ1_canEncode_1 (by decide) (fun hc => absurd hc (by decide)) (fun hc => ?_)
  refine lv_iload_n hx hb dJ1_canEncode_4 rfl (lv_at hl 0 rfl) ?_
  refine lv_sipush (v := (255 : Int32)) hx hb dJ1_canEncode_5 (by decide) ?_
  refine lv_icmp_gt (tgt := 15) hx hb dJ1_canEncode_8 (by decide) (fun hc => absurd hc (by decide)) (fun hc => ?_)
  refine lv_iconst (v := (1 : Int32)) hx hb dJ1_canEncode_11 (by decide) ?_
  refine lv_goto (tgt := 16) hx hb dJ1_canEncode_12 (by decide) ?_
  exact W.zret hx hb hr rfl (fun t ht hW => ⟨1, rfl, rfl, ht⟩) (fun q h => by cases h) dJ1_canEncode_16 hlk
theorem hdJ1_indexOfChar : (yJ1_indexOfChar.cls ≠ "java/lang/invoke/MethodHandle" ∧ yJ1_indexOfChar.cls ≠ "java/lang/invoke/VarHandle" ∧ (parseMethodDescriptor yJ1_indexOfChar.desc).map (fun d => d.parameters.length) = some 4) := by decide +kernel
set_option maxHeartbeats 4000000 in
theorem ms_J1_indexOfChar {l : Launch} {X : (Nat → Nat) × (Nat → Nat) × Nat} {A : Nat → Prop} {j : Nat} (hj : j < 31) : Met l yJ1_indexOfChar (ws_ yJ1_indexOfChar cJ1_indexOfChar 6 (some .int)) ({ frames := 1, cells := 0, slots := 0, locals := 40 }) (va_Pc [.ref (X.2.1 1), .int 32, .int (nI j), .int (nI 31)] (fun U => gw_X X A U U.heap)) (vp_Si (fun r => r = gw_ixf (31 - j) j)) 0 0 (fun _ => False) := by
  refine Met.ofW (cc := cJ1_indexOfChar) (maxL := 6) (ret := some .int) (by decide) rfl ?_
  intro p e s m args below meth c s₁ B hml hv
  obtain ⟨rfl, hX⟩ := hv
  have hx := B.exec
  have hb := B.bytes
  have hr := B.returns
  have hts := atoms_spec (ws := (ws_ yJ1_indexOfChar cJ1_indexOfChar 6 (some .int))) B.pre
  have hts : ∀ w ∈ lw_all, w.before _ s = true := fun w h => hts w (List.mem_cons_of_mem _ h)
  have hown : s.vm.findClass "java/lang/StringLatin1" = some m.cls := findClass_of_methodNamed B.named
  have hlk := B.notSynchronized
  have hS : va_S A s.heap s.heap [] := va_S.rf
  have hl := lv_entry ([.ref (X.2.1 1), .int 32, .int (nI j), .int (nI 31)]) (n := 6) (Nat.le_of_ble_eq_true rfl)
  rw [lg_entry_eq]
  generalize (lg_sl ([.ref (X.2.1 1), .int 32, .int (nI j), .int (nI 31)]) ++ List.replicate (6 - (lg_sl ([.ref (X.2.1 1), .int 32, .int (nI j), .int (nI 31)])).length) Slot.unset).toArray = ls at hl ⊢
  have hl : lv_has ls 6 [(0, .ref (X.2.1 1)), (1, .int 32), (2, .int (nI j)), (3, .int (nI 31))] := hl
  refine lv_iload_n hx hb dJ1_indexOfChar_0 rfl (lv_at hl 1 rfl) ?_
  refine lv_i2b (v := (32 : Int32)) hx hb dJ1_indexOfChar_1 (by decide) ?_
  refine lv_istore (lv' := [(4, .int 32), (0, .ref (X.2.1 1)), (1, .int 32), (2, .int (nI j)), (3, .int (nI 31))]) hx hb dJ1_indexOfChar_2 hl (by decide) rfl (fun ls hl => ?_)
  refine lv_iload_n hx hb dJ1_indexOfChar_4 rfl (lv_at hl 3 rfl) ?_
  refine lv_istore (lv' := [(5, .int (nI j)), (4, .int 32), (0, .ref (X.2.1 1)), (1, .int 32), (2, .int (nI j)), (3, .int (nI 31))]) hx hb dJ1_indexOfChar_5 hl (by decide) rfl (fun ls hl => ?_)
  obtain ⟨r0, hr0⟩ : ∃ r, r = gw_ixf (31 - j) j := ⟨_, rfl⟩
  rw [← hr0]
  have key : ∀ (n i : Nat), i + n = 31 → r0 = gw_ixf n i → ∀ ls : Array Slot, lv_has ls 6 [(5, .int (nI i)), (4, .int 32), (0, .ref (X.2.1 1)), (3, .int (nI 31))] → W p l e (headSpec (ws_ yJ1_indexOfChar cJ1_indexOfChar 6 (some .int)) ({ frames := 1, cells := 0, slots := 0, locals := 40 })).room s m ([.ref (X.2.1 1), .int 32, .int (nI j), .int (nI 31)] : List Value).toArray below meth c s.heap [] 0 0 (MQ below (vp_Si (fun r => r = r0)) ([.ref (X.2.1 1), .int 32, .int (nI j), .int (nI 31)] : List Value).toArray s 0 0 (fun _ => False)) (F0 m 7 ls []) := by
    intro n
    induction n with
    | zero =>
      intro i hi e0 ls hl
      refine lv_iload hx hb dJ1_indexOfChar_7 (lv_at hl 0 rfl) ?_
      refine lv_iload_n hx hb dJ1_indexOfChar_9 rfl (lv_at hl 3 rfl) ?_
      refine lv_icmp_ge (tgt := 31) hx hb dJ1_indexOfChar_10 (by decide) (fun hc => ?_) (fun hc => absurd (nI_le (by omega) (by omega)) hc)
      refine lv_iconst (v := (-1 : Int32)) hx hb dJ1_indexOfChar_31 (by decide) ?_
      exact W.iret hx hb hr (fun t ht hW => ⟨_, rfl, e0.symm, ht⟩) (fun q h => by cases h) dJ1_indexOfChar_32 hlk
    | succ n ih =>
      intro i hi e0 ls hl
      refine lv_iload hx hb dJ1_indexOfChar_7 (lv_at hl 0 rfl) ?_
      refine lv_iload_n hx hb dJ1_indexOfChar_9 rfl (lv_at hl 3 rfl) ?_
      refine lv_icmp_ge (tgt := 31) hx hb dJ1_indexOfChar_10 (by decide) (fun hc => absurd hc (nI_ge (by omega) (by omega))) (fun hc => ?_)
      refine lv_aload_n hx hb dJ1_indexOfChar_13 rfl (lv_at hl 2 rfl) ?_
      refine lv_iload hx hb dJ1_indexOfChar_14 (lv_at hl 0 rfl) ?_
      refine va_tb (v := .int ((gw_txt.take 31).getD i 0)) hx hb (hX.2.2.1.1 1 (by decide)).2.2.2 hS (nI_in (by show i < 31; omega) (by decide)) (by rw [nI_clamp (by omega)]; rfl) dJ1_indexOfChar_16 ?_
      refine lv_iload hx hb dJ1_indexOfChar_17 (lv_at hl 1 rfl) ?_
      refine lv_icmp_ne (tgt := 25) hx hb dJ1_indexOfChar_19 (by decide) (fun hc => ?_) (fun hc => ?_)
      · have e1 : r0 = gw_ixf n (i + 1) := by rw [e0]; show (if (gw_txt.take 31).getD i 0 = 32 then nI i else gw_ixf n (i + 1)) = _; rw [if_neg hc]
        refine lv_iinc (v := nI (i + 1)) (lv' := [(5, .int (nI (i + 1))), (4, .int 32), (0, .ref (X.2.1 1)), (3, .int (nI 31))]) hx hb dJ1_indexOfChar_25 hl (k := 0) rfl (nI_1 i) (by decide) rfl (fun ls hl => ?_)
        refine lv_goto (tgt := 7) hx hb dJ1_indexOfChar_28 (by decide) ?_
        exact ih (i + 1) (by omega) e1 ls hl
      · have e1 : r0 = nI i := by rw [e0]; show (if (gw_txt.take 31).getD i 0 = 32 then nI i else gw_ixf n (i + 1)) = _; rw [if_pos hc]
        refine lv_iload hx hb dJ1_indexOfChar_22 (lv_at hl 0 rfl) ?_
        exact W.iret hx hb hr (fun t ht hW => ⟨_, rfl, e1.symm, ht⟩) (fun q h => by cases h) dJ1_indexOfChar_24 hlk
  exact key (31 - j) j (by omega) hr0 ls (lv_sub hl [0, 1, 2, 5] rfl)
theorem hdJ1_indexOf : (yJ1_indexOf.cls ≠ "java/lang/invoke/MethodHandle" ∧ yJ1_indexOf.cls ≠ "java/lang/invoke/VarHandle" ∧ (parseMethodDescriptor yJ1_indexOf.desc).map (fun d => d.parameters.length) = some 4) := by decide +kernel
set_option maxHeartbeats 4000000 in
theorem ms_J1_indexOf {l : Launch} {X : (Nat → Nat) × (Nat → Nat) × Nat} {A : Nat → Prop} {j : Nat} (hj : j < 31) : Met l yJ1_indexOf (ws_ yJ1_indexOf cJ1_indexOf 4 (some .int)) ({ frames := 2, cells := 0, slots := 0, locals := 65 }) (va_Pc [.ref (X.2.1 1), .int 32, .int (nI j), .int (nI 31)] (fun U => gw_X X A U U.heap)) (vp_Si (fun r => r = gw_ixf (31 - j) j)) 0 0 (fun _ => False) := by
  refine Met.ofW (cc := cJ1_indexOf) (maxL := 4) (ret := some .int) (by decide) rfl ?_
  intro p e s m args below meth c s₁ B hml hv
  obtain ⟨rfl, hX⟩ := hv
  have hx := B.exec
  have hb := B.bytes
  have hr := B.returns
  have hts := atoms_spec (ws := (ws_ yJ1_indexOf cJ1_indexOf 4 (some .int))) B.pre
  have hts : ∀ w ∈ lw_all, w.before _ s = true := fun w h => hts w (List.mem_cons_of_mem _ h)
  have hown : s.vm.findClass "java/lang/StringLatin1" = some m.cls := findClass_of_methodNamed B.named
  have hlk := B.notSynchronized
  have hS : va_S A s.heap s.heap [] := va_S.rf
  have hl := lv_entry ([.ref (X.2.1 1), .int 32, .int (nI j), .int (nI 31)]) (n := 4) (Nat.le_of_ble_eq_true rfl)
  rw [lg_entry_eq]
  generalize (lg_sl ([.ref (X.2.1 1), .int 32, .int (nI j), .int (nI 31)]) ++ List.replicate (4 - (lg_sl ([.ref (X.2.1 1), .int 32, .int (nI j), .int (nI 31)])).length) Slot.unset).toArray = ls at hl ⊢
  have hl : lv_has ls 4 [(0, .ref (X.2.1 1)), (1, .int 32), (2, .int (nI j)), (3, .int (nI 31))] := hl
  refine lv_iload_n hx hb dJ1_indexOf_0 rfl (lv_at hl 1 rfl) ?_
  refine vp_callSi (W.runS (As := [.int 32]) (rest := []) ⟨hx, hb, hml, hown, hts⟩ (ms_J1_canEncode (l := l) (X := X) (A := A)) (va_cwS 1 hts (lw_S q517 q518 q109 q519) rfl rfl rfl hdJ1_canEncode ⟨Nat.le_of_ble_eq_true rfl, Nat.le_of_ble_eq_true rfl⟩) ⟨fun a U g mk q => ⟨q.1, q.2.blind g mk a⟩, fun U hU hW => ⟨rfl, hX.pass hS hU hW⟩⟩ rfl rfl hl.1 rfl (lv_room (Nat.le_of_ble_eq_true rfl)) dJ1_indexOf_1 ⟨Nat.zero_le _, Nat.zero_le _⟩) (fun r hq => ?_)
  subst hq
  refine lv_if_ne (tgt := 9) hx hb dJ1_indexOf_4 (by decide) (fun hc => ?_) (fun hc => absurd hc (by decide))
  refine lv_iload_n hx hb dJ1_indexOf_9 rfl (lv_at hl 2 rfl) ?_
  refine lv_iconst (v := (0 : Int32)) hx hb dJ1_indexOf_10 (by decide) ?_
  refine va_mmax (rest := []) hx hb (hml.trans hl.1.symm) hown (hts _ q520) (hts _ q521) (hts _ q110) (hts _ q522) (Nat.le_of_ble_eq_true rfl) (Nat.le_of_ble_eq_true rfl) (Nat.zero_le _) (Nat.zero_le _) dJ1_indexOf_11 ?_
  rw [if_neg (nI_pos (by omega))]
  refine lv_istore_n (lv' := [(2, .int (nI j)), (0, .ref (X.2.1 1)), (1, .int 32), (3, .int (nI 31))]) hx hb dJ1_indexOf_14 rfl hl (by decide) rfl (fun ls hl => ?_)
  refine lv_iload_n hx hb dJ1_indexOf_15 rfl (lv_at hl 3 rfl) ?_
  refine lv_aload_n hx hb dJ1_indexOf_16 rfl (lv_at hl 1 rfl) ?_
  refine va_tlen (v := nI 31) hx hb (hX.2.2.1.1 1 (by decide)).2.2.2 hS rfl dJ1_indexOf_17 ?_
  refine va_mmin (rest := []) hx hb (hml.trans hl.1.symm) hown (hts _ q523) (hts _ q524) (hts _ q110) (hts _ q525) (Nat.le_of_ble_eq_true rfl) (Nat.le_of_ble_eq_true rfl) (Nat.zero_le _) (Nat.zero_le _) dJ1_indexOf_18 ?_
  rw [if_neg (show ¬ nI 31 < nI 31 by decide)]
  refine lv_istore_n (lv' := [(3, .int (nI 31)), (2, .int (nI j)), (0, .ref (X.2.1 1)), (1, .int 32)]) hx hb dJ1_indexOf_21 rfl hl (by decide) rfl (fun ls hl => ?_)
  refine lv_iload_n hx hb dJ1_indexOf_22 rfl (lv_at hl 1 rfl) ?_
  refine lv_iload_n hx hb dJ1_indexOf_23 rfl (lv_at hl 0 rfl) ?_
  refine lv_icmp_lt (tgt := 29) hx hb dJ1_indexOf_24 (by decide) (fun hc => ?_) (fun hc => absurd (nI_lt hj (by decide)) hc)
  refine lv_aload_n hx hb dJ1_indexOf_29 rfl (lv_at hl 2 rfl) ?_
  refine lv_iload_n hx hb dJ1_indexOf_30 rfl (lv_at hl 3 rfl) ?_
  refine lv_iload_n hx hb dJ1_indexOf_31 rfl (lv_at hl 1 rfl) ?_
  refine lv_iload_n hx hb dJ1_indexOf_32 rfl (lv_at hl 0 rfl) ?_
  refine vp_callSi (W.runS (As := [.ref (X.2.1 1), .int 32, .int (nI j), .int (nI 31)]) (rest := []) ⟨hx, hb, hml, hown, hts⟩ (ms_J1_indexOfChar (l := l) (X := X) (A := A) hj) (va_cwS 4 hts (lw_S q526 q527 q109 q528) rfl rfl rfl hdJ1_indexOfChar ⟨Nat.le_of_ble_eq_true rfl, Nat.le_of_ble_eq_true rfl⟩) ⟨fun a U g mk q => ⟨q.1, q.2.blind g mk a⟩, fun U hU hW => ⟨rfl, hX.pass hS hU hW⟩⟩ rfl rfl hl.1 rfl (lv_room (Nat.le_of_ble_eq_true rfl)) dJ1_indexOf_33 ⟨Nat.zero_le _, Nat.zero_le _⟩) (fun r hq => ?_)
  subst hq
  exact W.iret hx hb hr (fun t ht hW => ⟨_, rfl, rfl, ht⟩) (fun q h => by cases h) dJ1_indexOf_36 hlk
theorem hdJ0_indexOf : yJ0_indexOf.cls = "java/lang/String" ∧ (yJ0_indexOf.cls ≠ "java/lang/invoke/MethodHandle" ∧ yJ0_indexOf.cls ≠ "java/lang/invoke/VarHandle" ∧ (parseMethodDescriptor yJ0_indexOf.desc).map (fun d => d.parameters.length) = some 2) := by decide +kernel
set_option maxHeartbeats 4000000 in
theorem ms_J0_indexOf {l : Launch} {X : (Nat → Nat) × (Nat → Nat) × Nat} {A : Nat → Prop} {j : Nat} (hj : j < 31) : Met l yJ0_indexOf (ws_ yJ0_indexOf cJ0_indexOf 3 (some .int)) ({ frames := 3, cells := 0, slots := 0, locals := 88 }) (va_Pc [.ref (X.1 1), .int 32, .int (nI j)] (fun U => gw_X X A U U.heap)) (vp_Si (fun r => r = gw_ixf (31 - j) j)) 0 0 (fun _ => False) := by
  refine Met.ofW (cc := cJ0_indexOf) (maxL := 3) (ret := some .int) (by decide) rfl ?_
  intro p e s m args below meth c s₁ B hml hv
  obtain ⟨rfl, hX⟩ := hv
  have hx := B.exec
  have hb := B.bytes
  have hr := B.returns
  have hts := atoms_spec (ws := (ws_ yJ0_indexOf cJ0_indexOf 3 (some .int))) B.pre
  have hts : ∀ w ∈ lw_all, w.before _ s = true := fun w h => hts w (List.mem_cons_of_mem _ h)
  have hown : s.vm.findClass "java/lang/String" = some m.cls := findClass_of_methodNamed B.named
  have hlk := B.notSynchronized
  have hS : va_S A s.heap s.heap [] := va_S.rf
  have hl := lv_entry ([.ref (X.1 1), .int 32, .int (nI j)]) (n := 3) (Nat.le_of_ble_eq_true rfl)
  rw [lg_entry_eq]
  generalize (lg_sl ([.ref (X.1 1), .int 32, .int (nI j)]) ++ List.replicate (3 - (lg_sl ([.ref (X.1 1), .int 32, .int (nI j)])).length) Slot.unset).toArray = ls at hl ⊢
  have hl : lv_has ls 3 [(0, .ref (X.1 1)), (1, .int 32), (2, .int (nI j))] := hl
  refine lv_aload_n hx hb dJ0_indexOf_0 rfl (lv_at hl 0 rfl) ?_
  refine vp_callSi (W.runV (As := []) (rest := []) ⟨hx, hb, hml, hown, hts⟩ (ms_J0_isLatin1 (l := l) (X := X) (A := A) (k := 1) (by decide)) (cwV 0 hts (lw_V q509 q510 q511 q108 q512) rfl rfl rfl hdJ0_isLatin1 ⟨Nat.le_of_ble_eq_true rfl, Nat.le_of_ble_eq_true rfl⟩) ⟨fun a U g mk q => ⟨q.1, q.2.blind g mk a⟩, vk_recv hX.2.2.1 (by decide) hS, fun U hU hW => ⟨rfl, hX.pass hS hU hW⟩⟩ rfl rfl hl.1 rfl (lv_room (Nat.le_of_ble_eq_true rfl)) dJ0_indexOf_1 ⟨Nat.zero_le _, Nat.zero_le _⟩) (fun r hq => ?_)
  subst hq
  refine lv_if_eq (tgt := 23) hx hb dJ0_indexOf_4 (by decide) (fun hc => absurd hc (by decide)) (fun hc => ?_)
  refine lv_aload_n hx hb dJ0_indexOf_7 rfl (lv_at hl 0 rfl) ?_
  refine vk_getf hx hb (hX.2.2.1.1 1 (by decide)).2.2.1 hS hown (hts _ q1941) (fun _ h => h) dJ0_indexOf_8 ?_
  refine lv_iload_n hx hb dJ0_indexOf_11 rfl (lv_at hl 1 rfl) ?_
  refine lv_iload_n hx hb dJ0_indexOf_12 rfl (lv_at hl 2 rfl) ?_
  refine lv_aload_n hx hb dJ0_indexOf_13 rfl (lv_at hl 0 rfl) ?_
  refine vp_callSi (W.runV (As := []) (rest := [.int (nI j), .int 32, .ref (X.2.1 1)]) ⟨hx, hb, hml, hown, hts⟩ (ms_J0_length (l := l) (X := X) (A := A) (k := 1) (by decide)) (cwV 0 hts (lw_V q513 q496 q497 q108 q498) rfl rfl rfl hdJ0_length ⟨Nat.le_of_ble_eq_true rfl, Nat.le_of_ble_eq_true rfl⟩) ⟨fun a U g mk q => ⟨q.1, q.2.blind g mk a⟩, vk_recv hX.2.2.1 (by decide) hS, fun U hU hW => ⟨rfl, hX.pass hS hU hW⟩⟩ rfl rfl hl.1 rfl (lv_room (Nat.le_of_ble_eq_true rfl)) dJ0_indexOf_14 ⟨Nat.zero_le _, Nat.zero_le _⟩) (fun r hq => ?_)
  subst hq
  refine vp_callSi (W.runS (As := [.ref (X.2.1 1), .int 32, .int (nI j), .int (nI 31)]) (rest := []) ⟨hx, hb, hml, hown, hts⟩ (ms_J1_indexOf (l := l) (X := X) (A := A) hj) (va_cwS 4 hts (lw_S q514 q515 q109 q516) rfl rfl rfl hdJ1_indexOf ⟨Nat.le_of_ble_eq_true rfl, Nat.le_of_ble_eq_true rfl⟩) ⟨fun a U g mk q => ⟨q.1, q.2.blind g mk a⟩, fun U hU hW => ⟨rfl, hX.pass hS hU hW⟩⟩ rfl rfl hl.1 rfl (lv_room (Nat.le_of_ble_eq_true rfl)) dJ0_indexOf_17 ⟨Nat.zero_le _, Nat.zero_le _⟩) (fun r hq => ?_)
  subst hq
  refine lv_goto (tgt := 36) hx hb dJ0_indexOf_20 (by decide) ?_
  exact W.iret hx hb hr (fun t ht hW => ⟨_, rfl, rfl, ht⟩) (fun q h => by cases h) dJ0_indexOf_36 hlk
