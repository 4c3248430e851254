/-! THE JDK's String members that are reached, on the two texts (k = 0: the twin's, 1: the reader's) -/
def gw_len (k : Nat) : Int32 := Int32.ofNat ([32, 31].getD k 0)
def gw_by (k : Nat) (i : Int32) : Int32 := ([gw_txt, gw_txt.take 31].getD k []).getD i.toNatClampNeg 0
def gw_ch (k : Nat) (i : Int32) : Int32 := ((gw_by k i &&& 255).toUInt32 % 65536).toInt32
theorem gw_len0 : ∀ k, k < 2 → gw_len k >>> ((0 : Int32) &&& 31) = gw_len k := by decide
theorem hdJ0_coder : yJ0_coder.cls = "java/lang/String" ∧ (yJ0_coder.cls ≠ "java/lang/invoke/MethodHandle" ∧ yJ0_coder.cls ≠ "java/lang/invoke/VarHandle" ∧ (parseMethodDescriptor yJ0_coder.desc).map (fun d => d.parameters.length) = some 0) := by decide +kernel
set_option maxHeartbeats 4000000 in
theorem ms_J0_coder {l : Launch} {X : (Nat → Nat) × (Nat → Nat) × Nat} {A : Nat → Prop} {k : Nat} (hk : k < 2) : Met l yJ0_coder (ws_ yJ0_coder cJ0_coder 1 (some .byte)) ({ frames := 1, cells := 0, slots := 0, locals := 40 }) (va_Pc [.ref (X.1 k)] (fun U => gw_X X A U U.heap)) (vp_Si (fun r => r = 0)) 0 0 (fun _ => False) := by
  refine Met.ofW (cc := cJ0_coder) (maxL := 1) (ret := some .byte) (by decide) rfl ?_
  intro p e s m args below meth c s₁ B hml hv
  obtain ⟨rfl, hX⟩ := hv
  have hx := B.exec
  have hb := B.bytes
  have hr := B.returns
  have hts := atoms_spec (ws := (ws_ yJ0_coder cJ0_coder 1 (some .byte))) B.pre
  have hts : ∀ w ∈ lw_all, w.before _ s = true := fun w h => hts w (List.mem_cons_of_mem _ h)
  have hown : s.vm.findClass "java/lang/String" = some m.cls := findClass_of_methodNamed B.named
  have hlk := B.notSynchronized
  have hS : va_S A s.heap s.heap [] := va_S.rf
  have hl := lv_entry ([.ref (X.1 k)]) (n := 1) (Nat.le_of_ble_eq_true rfl)
  rw [lg_entry_eq]
  generalize (lg_sl ([.ref (X.1 k)]) ++ List.replicate (1 - (lg_sl ([.ref (X.1 k)])).length) Slot.unset).toArray = ls at hl ⊢
  have hl : lv_has ls 1 [(0, .ref (X.1 k))] := hl
  refine va_gets hx hb hX.2.2.2.1 hS hown (hts _ q503) (fun _ h => h) dJ0_coder_0 ?_
  refine lv_if_eq (tgt := 13) hx hb dJ0_coder_3 (by decide) (fun hc => absurd hc (by decide)) (fun hc => ?_)
  refine lv_aload_n hx hb dJ0_coder_6 rfl (lv_at hl 0 rfl) ?_
  refine vk_getf hx hb (hX.2.2.1.1 k hk).2.1 hS hown (hts _ q1942) (fun _ h => h) dJ0_coder_7 ?_
  refine lv_goto (tgt := 14) hx hb dJ0_coder_10 (by decide) ?_
  exact W.zret hx hb hr rfl (fun t ht hW => ⟨0, rfl, rfl, ht⟩) (fun q h => by cases h) dJ0_coder_14 hlk
theorem hdJ0_isLatin1 : yJ0_isLatin1.cls = "java/lang/String" ∧ (yJ0_isLatin1.cls ≠ "java/lang/invoke/MethodHandle" ∧ yJ0_isLatin1.cls ≠ "java/lang/invoke/VarHandle" ∧ (parseMethodDescriptor yJ0_isLatin1.desc).map (fun d => d.parameters.length) = some 0) := by decide +kernel
set_option maxHeartbeats 4000000 in
theorem ms_J0_isLatin1 {l : Launch} {X : (Nat → Nat) × (Nat → Nat) × Nat} {A : Nat → Prop} {k : Nat} (hk : k < 2) : Met l yJ0_isLatin1 (ws_ yJ0_isLatin1 cJ0_isLatin1 1 (some .boolean)) ({ frames := 1, cells := 0, slots := 0, locals := 40 }) (va_Pc [.ref (X.1 k)] (fun U => gw_X X A U U.heap)) (vp_Si (fun r => r = 1)) 0 0 (fun _ => False) := by
  refine Met.ofW (cc := cJ0_isLatin1) (maxL := 1) (ret := some .boolean) (by decide) rfl ?_
  intro p e s m args below meth c s₁ B hml hv
  obtain ⟨rfl, hX⟩ := hv
  have hx := B.exec
  have hb := B.bytes
  have hr := B.returns
  have hts := atoms_spec (ws := (ws_ yJ0_isLatin1 cJ0_isLatin1 1 (some .boolean))) B.pre
  have hts : ∀ w ∈ lw_all, w.before _ s = true := fun w h => hts w (List.mem_cons_of_mem _ h)
  have hown : s.vm.findClass "java/lang/String" = some m.cls := findClass_of_methodNamed B.named
  have hlk := B.notSynchronized
  have hS : va_S A s.heap s.heap [] := va_S.rf
  have hl := lv_entry ([.ref (X.1 k)]) (n := 1) (Nat.le_of_ble_eq_true rfl)
  rw [lg_entry_eq]
  generalize (lg_sl ([.ref (X.1 k)]) ++ List.replicate (1 - (lg_sl ([.ref (X.1 k)])).length) Slot.unset).toArray = ls at hl ⊢
  have hl : lv_has ls 1 [(0, .ref (X.1 k))] := hl
  refine va_gets hx hb hX.2.2.2.1 hS hown (hts _ q503) (fun _ h => h) dJ0_isLatin1_0 ?_
  refine lv_if_eq (tgt := 17) hx hb dJ0_isLatin1_3 (by decide) (fun hc => absurd hc (by decide)) (fun hc => ?_)
  refine lv_aload_n hx hb dJ0_isLatin1_6 rfl (lv_at hl 0 rfl) ?_
  refine vk_getf hx hb (hX.2.2.1.1 k hk).2.1 hS hown (hts _ q1942) (fun _ h => h) dJ0_isLatin1_7 ?_
  refine lv_if_ne (tgt := 17) hx hb dJ0_isLatin1_10 (by decide) (fun hc => absurd rfl hc) (fun hc => ?_)
  refine lv_iconst (v := (1 : Int32)) hx hb dJ0_isLatin1_13 (by decide) ?_
  refine lv_goto (tgt := 18) hx hb dJ0_isLatin1_14 (by decide) ?_
  exact W.zret hx hb hr rfl (fun t ht hW => ⟨1, rfl, rfl, ht⟩) (fun q h => by cases h) dJ0_isLatin1_18 hlk
theorem hdJ0_length : yJ0_length.cls = "java/lang/String" ∧ (yJ0_length.cls ≠ "java/lang/invoke/MethodHandle" ∧ yJ0_length.cls ≠ "java/lang/invoke/VarHandle" ∧ (parseMethodDescriptor yJ0_length.desc).map (fun d => d.parameters.length) = some 0) := by decide +kernel
set_option maxHeartbeats 4000000 in
theorem ms_J0_length {l : Launch} {X : (Nat → Nat) × (Nat → Nat) × Nat} {A : Nat → Prop} {k : Nat} (hk : k < 2) : Met l yJ0_length (ws_ yJ0_length cJ0_length 1 (some .int)) ({ frames := 2, cells := 0, slots := 0, locals := 60 }) (va_Pc [.ref (X.1 k)] (fun U => gw_X X A U U.heap)) (vp_Si (fun r => r = gw_len k)) 0 0 (fun _ => False) := by
  refine Met.ofW (cc := cJ0_length) (maxL := 1) (ret := some .int) (by decide) rfl ?_
  intro p e s m args below meth c s₁ B hml hv
  obtain ⟨rfl, hX⟩ := hv
  have hx := B.exec
  have hb := B.bytes
  have hr := B.returns
  have hts := atoms_spec (ws := (ws_ yJ0_length cJ0_length 1 (some .int))) B.pre
  have hts : ∀ w ∈ lw_all, w.before _ s = true := fun w h => hts w (List.mem_cons_of_mem _ h)
  have hown : s.vm.findClass "java/lang/String" = some m.cls := findClass_of_methodNamed B.named
  have hlk := B.notSynchronized
  have hS : va_S A s.heap s.heap [] := va_S.rf
  have hl := lv_entry ([.ref (X.1 k)]) (n := 1) (Nat.le_of_ble_eq_true rfl)
  rw [lg_entry_eq]
  generalize (lg_sl ([.ref (X.1 k)]) ++ List.replicate (1 - (lg_sl ([.ref (X.1 k)])).length) Slot.unset).toArray = ls at hl ⊢
  have hl : lv_has ls 1 [(0, .ref (X.1 k))] := hl
  refine lv_aload_n hx hb dJ0_length_0 rfl (lv_at hl 0 rfl) ?_
  refine vk_getf hx hb (hX.2.2.1.1 k hk).2.2.1 hS hown (hts _ q1941) (fun _ h => h) dJ0_length_1 ?_
  refine va_tlen (v := gw_len k) hx hb (hX.2.2.1.1 k hk).2.2.2 hS rfl dJ0_length_4 ?_
  refine lv_aload_n hx hb dJ0_length_5 rfl (lv_at hl 0 rfl) ?_
  refine vp_callSi (W.runV (As := []) (rest := [.int (gw_len k)]) ⟨hx, hb, hml, hown, hts⟩ (ms_J0_coder (l := l) (X := X) (A := A) hk) (cwV 0 hts (lw_V q499 q500 q501 q108 q502) rfl rfl rfl hdJ0_coder ⟨Nat.le_of_ble_eq_true rfl, Nat.le_of_ble_eq_true rfl⟩) ⟨fun a U g mk q => ⟨q.1, q.2.blind g mk a⟩, vk_recv hX.2.2.1 hk hS, fun U hU hW => ⟨rfl, hX.pass hS hU hW⟩⟩ rfl rfl hl.1 rfl (lv_room (Nat.le_of_ble_eq_true rfl)) dJ0_length_6 ⟨Nat.zero_le _, Nat.zero_le _⟩) (fun r hq => ?_)
  subst hq
  refine lv_ishr hx hb dJ0_length_9 ?_
  exact W.iret hx hb hr (fun t ht hW => ⟨_, rfl, gw_len0 k hk, ht⟩) (fun q h => by cases h) dJ0_length_10 hlk
theorem hdJ4_checkIndex : (yJ4_checkIndex.cls ≠ "java/lang/invoke/MethodHandle" ∧ yJ4_checkIndex.cls ≠ "java/lang/invoke/VarHandle" ∧ (parseMethodDescriptor yJ4_checkIndex.desc).map (fun d => d.parameters.length) = some 3) := by decide +kernel
set_option maxHeartbeats 4000000 in
theorem ms_J4_checkIndexR {l : Launch} {X : (Nat → Nat) × (Nat → Nat) × Nat} {A : Nat → Prop} {w : Nat} {i n : Int32} (h0 : ¬ i < 0) (h1 : i < n) : Met l yJ4_checkIndex (ws_ yJ4_checkIndex cJ4_checkIndex 3 (some .int)) ({ frames := 1, cells := 0, slots := 0, locals := 40 }) (va_Pc [.int i, .int n, .ref w] (fun U => gw_X X A U U.heap)) (vp_Si (fun r => r = i)) 0 0 (fun _ => False) := by
  refine Met.ofW (cc := cJ4_checkIndex) (maxL := 3) (ret := some .int) (by decide) rfl ?_
  intro p e s m args below meth c s₁ B hml hv
  obtain ⟨rfl, hX⟩ := hv
  have hx := B.exec
  have hb := B.bytes
  have hr := B.returns
  have hts := atoms_spec (ws := (ws_ yJ4_checkIndex cJ4_checkIndex 3 (some .int))) B.pre
  have hts : ∀ w ∈ lw_all, w.before _ s = true := fun w h => hts w (List.mem_cons_of_mem _ h)
  have hown : s.vm.findClass "jdk/internal/util/Preconditions" = some m.cls := findClass_of_methodNamed B.named
  have hlk := B.notSynchronized
  have hS : va_S A s.heap s.heap [] := va_S.rf
  have hl := lv_entry ([.int i, .int n, .ref w]) (n := 3) (Nat.le_of_ble_eq_true rfl)
  rw [lg_entry_eq]
  generalize (lg_sl ([.int i, .int n, .ref w]) ++ List.replicate (3 - (lg_sl ([.int i, .int n, .ref w])).length) Slot.unset).toArray = ls at hl ⊢
  have hl : lv_has ls 3 [(0, .int i), (1, .int n), (2, .ref w)] := hl
  refine lv_iload_n hx hb dJ4_checkIndex_0 rfl (lv_at hl 0 rfl) ?_
  refine lv_if_lt (tgt := 9) hx hb dJ4_checkIndex_1 (by decide) (fun hc => absurd hc h0) (fun hc => ?_)
  refine lv_iload_n hx hb dJ4_checkIndex_4 rfl (lv_at hl 0 rfl) ?_
  refine lv_iload_n hx hb dJ4_checkIndex_5 rfl (lv_at hl 1 rfl) ?_
  refine lv_icmp_lt (tgt := 16) hx hb dJ4_checkIndex_6 (by decide) (fun hc => ?_) (fun hc => absurd h1 hc)
  refine lv_iload_n hx hb dJ4_checkIndex_16 rfl (lv_at hl 0 rfl) ?_
  exact W.iret hx hb hr (fun t ht hW => ⟨i, rfl, rfl, ht⟩) (fun q h => by cases h) dJ4_checkIndex_17 hlk
set_option maxHeartbeats 4000000 in
theorem ms_J4_checkIndexN {l : Launch} {X : (Nat → Nat) × (Nat → Nat) × Nat} {A : Nat → Prop} {i n : Int32} (h0 : ¬ i < 0) (h1 : i < n) : Met l yJ4_checkIndex (ws_ yJ4_checkIndex cJ4_checkIndex 3 (some .int)) ({ frames := 1, cells := 0, slots := 0, locals := 40 }) (va_Pc [.int i, .int n, .null] (fun U => gw_X X A U U.heap)) (vp_Si (fun r => r = i)) 0 0 (fun _ => False) := by
  refine Met.ofW (cc := cJ4_checkIndex) (maxL := 3) (ret := some .int) (by decide) rfl ?_
  intro p e s m args below meth c s₁ B hml hv
  obtain ⟨rfl, hX⟩ := hv
  have hx := B.exec
  have hb := B.bytes
  have hr := B.returns
  have hts := atoms_spec (ws := (ws_ yJ4_checkIndex cJ4_checkIndex 3 (some .int))) B.pre
  have hts : ∀ w ∈ lw_all, w.before _ s = true := fun w h => hts w (List.mem_cons_of_mem _ h)
  have hown : s.vm.findClass "jdk/internal/util/Preconditions" = some m.cls := findClass_of_methodNamed B.named
  have hlk := B.notSynchronized
  have hS : va_S A s.heap s.heap [] := va_S.rf
  have hl := lv_entry ([.int i, .int n, .null]) (n := 3) (Nat.le_of_ble_eq_true rfl)
  rw [lg_entry_eq]
  generalize (lg_sl ([.int i, .int n, .null]) ++ List.replicate (3 - (lg_sl ([.int i, .int n, .null])).length) Slot.unset).toArray = ls at hl ⊢
  have hl : lv_has ls 3 [(0, .int i), (1, .int n), (2, .null)] := hl
  refine lv_iload_n hx hb dJ4_checkIndex_0 rfl (lv_at hl 0 rfl) ?_
  refine lv_if_lt (tgt := 9) hx hb dJ4_checkIndex_1 (by decide) (fun hc => absurd hc h0) (fun hc => ?_)
  refine lv_iload_n hx hb dJ4_checkIndex_4 rfl (lv_at hl 0 rfl) ?_
  refine lv_iload_n hx hb dJ4_checkIndex_5 rfl (lv_at hl 1 rfl) ?_
  refine lv_icmp_lt (tgt := 16) hx hb dJ4_checkIndex_6 (by decide) (fun hc => ?_) (fun hc => absurd h1 hc)
  refine lv_iload_n hx hb dJ4_checkIndex_16 rfl (lv_at hl 0 rfl) ?_
  exact W.iret hx hb hr (fun t ht hW => ⟨i, rfl, rfl, ht⟩) (fun q h => by cases h) dJ4_checkIndex_17 hlk
theorem hdJ0_checkIndex : (yJ0_checkIndex.cls ≠ "java/lang/invoke/MethodHandle" ∧ yJ0_checkIndex.cls ≠ "java/lang/invoke/VarHandle" ∧ (parseMethodDescriptor yJ0_checkIndex.desc).map (fun d => d.parameters.length) = some 2) := by decide +kernel
set_option maxHeartbeats 4000000 in
theorem ms_J0_checkIndex {l : Launch} {X : (Nat → Nat) × (Nat → Nat) × Nat} {A : Nat → Prop} {i n : Int32} (h0 : ¬ i < 0) (h1 : i < n) : Met l yJ0_checkIndex (ws_ yJ0_checkIndex cJ0_checkIndex 2 (none)) ({ frames := 2, cells := 0, slots := 0, locals := 62 }) (va_Pc [.int i, .int n] (fun U => gw_X X A U U.heap)) (va_Sv (fun _ => True)) 0 0 (fun _ => False) := by
  refine Met.ofW (cc := cJ0_checkIndex) (maxL := 2) (ret := none) (by decide) rfl ?_
  intro p e s m args below meth c s₁ B hml hv
  obtain ⟨rfl, hX⟩ := hv
  have hx := B.exec
  have hb := B.bytes
  have hr := B.returns
  have hts := atoms_spec (ws := (ws_ yJ0_checkIndex cJ0_checkIndex 2 (none))) B.pre
  have hts : ∀ w ∈ lw_all, w.before _ s = true := fun w h => hts w (List.mem_cons_of_mem _ h)
  have hown : s.vm.findClass "java/lang/String" = some m.cls := findClass_of_methodNamed B.named
  have hlk := B.notSynchronized
  have hS : va_S A s.heap s.heap [] := va_S.rf
  have hl := lv_entry ([.int i, .int n]) (n := 2) (Nat.le_of_ble_eq_true rfl)
  rw [lg_entry_eq]
  generalize (lg_sl ([.int i, .int n]) ++ List.replicate (2 - (lg_sl ([.int i, .int n])).length) Slot.unset).toArray = ls at hl ⊢
  have hl : lv_has ls 2 [(0, .int i), (1, .int n)] := hl
  refine lv_iload_n hx hb dJ0_checkIndex_0 rfl (lv_at hl 0 rfl) ?_
  refine lv_iload_n hx hb dJ0_checkIndex_1 rfl (lv_at hl 1 rfl) ?_
  rcases hX.2.2.2.2.1 with hZ | ⟨w, hZ⟩
  · refine va_gets hx hb hZ hS hown (hts _ q547) (fun _ h => h) dJ0_checkIndex_2 ?_
    refine vp_callSi (W.runS (As := [.int i, .int n, .null]) (rest := []) ⟨hx, hb, hml, hown, hts⟩ (ms_J4_checkIndexN (l := l) (X := X) (A := A) h0 h1) (va_cwS 3 hts (lw_S q588 q589 q112 q590) rfl rfl rfl hdJ4_checkIndex ⟨Nat.le_of_ble_eq_true rfl, Nat.le_of_ble_eq_true rfl⟩) ⟨fun a U g mk q => ⟨q.1, q.2.blind g mk a⟩, fun U hU hW => ⟨rfl, hX.pass hS hU hW⟩⟩ rfl rfl hl.1 rfl (lv_room (Nat.le_of_ble_eq_true rfl)) dJ0_checkIndex_5 ⟨Nat.zero_le _, Nat.zero_le _⟩) (fun r hq => ?_)
    refine lv_pop hx hb dJ0_checkIndex_8 rfl ?_
    exact W.vret hx hb hr (fun t ht hW => ⟨rfl, trivial, ht⟩) (fun q h => by cases h) dJ0_checkIndex_9 hlk
  · refine va_gets hx hb hZ hS hown (hts _ q547) (fun _ h => h) dJ0_checkIndex_2 ?_
    refine vp_callSi (W.runS (As := [.int i, .int n, .ref w]) (rest := []) ⟨hx, hb, hml, hown, hts⟩ (ms_J4_checkIndexR (l := l) (X := X) (A := A) h0 h1) (va_cwS 3 hts (lw_S q588 q589 q112 q590) rfl rfl rfl hdJ4_checkIndex ⟨Nat.le_of_ble_eq_true rfl, Nat.le_of_ble_eq_true rfl⟩) ⟨fun a U g mk q => ⟨q.1, q.2.blind g mk a⟩, fun U hU hW => ⟨rfl, hX.pass hS hU hW⟩⟩ rfl rfl hl.1 rfl (lv_room (Nat.le_of_ble_eq_true rfl)) dJ0_checkIndex_5 ⟨Nat.zero_le _, Nat.zero_le _⟩) (fun r hq => ?_)
    refine lv_pop hx hb dJ0_checkIndex_8 rfl ?_
    exact W.vret hx hb hr (fun t ht hW => ⟨rfl, trivial, ht⟩) (fun q h => by cases h) dJ0_checkIndex_9 hlk
theorem gw_lt {k : Nat} (hk : k < 2) {i : Int32} (h : ¬ (i < 0 ∨ [32, 31].getD k 0 ≤ i.toNatClampNeg)) : i < gw_len k := by
  have h1 : ¬ i < 0 := fun q => h (Or.inl q)
  have h2 : ¬ [32, 31].getD k 0 ≤ i.toNatClampNeg := fun q => h (Or.inr q)
  obtain ⟨j, hj, rfl⟩ := nI_of h1
  rw [nI_clamp hj] at h2
  match k, hk with
  | 0, _ => exact nI_lt (a := j) (b := 32) (by simpa using h2) (by decide)
  | 1, _ => exact nI_lt (a := j) (b := 31) (by simpa using h2) (by decide)
theorem hdJ1_charAt : (yJ1_charAt.cls ≠ "java/lang/invoke/MethodHandle" ∧ yJ1_charAt.cls ≠ "java/lang/invoke/VarHandle" ∧ (parseMethodDescriptor yJ1_charAt.desc).map (fun d => d.parameters.length) = some 2) := by decide +kernel
set_option maxHeartbeats 4000000 in
theorem ms_J1_charAt {l : Launch} {X : (Nat → Nat) × (Nat → Nat) × Nat} {A : Nat → Prop} {k : Nat} (hk : k < 2) {i : Int32} (h0 : ¬ (i < 0 ∨ [32, 31].getD k 0 ≤ i.toNatClampNeg)) : Met l yJ1_charAt (ws_ yJ1_charAt cJ1_charAt 2 (some .char)) ({ frames := 3, cells := 0, slots := 0, locals := 83 }) (va_Pc [.ref (X.2.1 k), .int i] (fun U => gw_X X A U U.heap)) (vp_Si (fun r => r = gw_ch k i)) 0 0 (fun _ => False) := by
  refine Met.ofW (cc := cJ1_charAt) (maxL := 2) (ret := some .char) (by decide) rfl ?_
  intro p e s m args below meth c s₁ B hml hv
  obtain ⟨rfl, hX⟩ := hv
  have hx := B.exec
  have hb := B.bytes
  have hr := B.returns
  have hts := atoms_spec (ws := (ws_ yJ1_charAt cJ1_charAt 2 (some .char))) B.pre
  have hts : ∀ w ∈ lw_all, w.before _ s = true := fun w h => hts w (List.mem_cons_of_mem _ h)
  have hown : s.vm.findClass "java/lang/StringLatin1" = some m.cls := findClass_of_methodNamed B.named
  have hlk := B.notSynchronized
  have hS : va_S A s.heap s.heap [] := va_S.rf
  have hl := lv_entry ([.ref (X.2.1 k), .int i]) (n := 2) (Nat.le_of_ble_eq_true rfl)
  rw [lg_entry_eq]
  generalize (lg_sl ([.ref (X.2.1 k), .int i]) ++ List.replicate (2 - (lg_sl ([.ref (X.2.1 k), .int i])).length) Slot.unset).toArray = ls at hl ⊢
  have hl : lv_has ls 2 [(0, .ref (X.2.1 k)), (1, .int i)] := hl
  have h1 : ¬ i < 0 := fun h => h0 (Or.inl h)
  have h2 : i < gw_len k := gw_lt hk h0
  refine lv_iload_n hx hb dJ1_charAt_0 rfl (lv_at hl 1 rfl) ?_
  refine lv_aload_n hx hb dJ1_charAt_1 rfl (lv_at hl 0 rfl) ?_
  refine va_tlen (v := gw_len k) hx hb (hX.2.2.1.1 k hk).2.2.2 hS rfl dJ1_charAt_2 ?_
  refine va_csv (W.runS (As := [.int i, .int (gw_len k)]) (rest := []) ⟨hx, hb, hml, hown, hts⟩ (ms_J0_checkIndex (l := l) (X := X) (A := A) h1 h2) (va_cwS 2 hts (lw_S q585 q586 q108 q587) rfl rfl rfl hdJ0_checkIndex ⟨Nat.le_of_ble_eq_true rfl, Nat.le_of_ble_eq_true rfl⟩) ⟨fun a U g mk q => ⟨q.1, q.2.blind g mk a⟩, fun U hU hW => ⟨rfl, hX.pass hS hU hW⟩⟩ rfl rfl hl.1 rfl (lv_room (Nat.le_of_ble_eq_true rfl)) dJ1_charAt_3 ⟨Nat.zero_le _, Nat.zero_le _⟩) (fun hq => ?_)
  refine lv_aload_n hx hb dJ1_charAt_6 rfl (lv_at hl 0 rfl) ?_
  refine lv_iload_n hx hb dJ1_charAt_7 rfl (lv_at hl 1 rfl) ?_
  refine va_tb (v := .int (gw_by k i)) hx hb (hX.2.2.1.1 k hk).2.2.2 hS h0 rfl dJ1_charAt_8 ?_
  refine lv_sipush (v := (255 : Int32)) hx hb dJ1_charAt_9 (by decide) ?_
  refine lv_iand hx hb dJ1_charAt_12 ?_
  refine lv_i2c hx hb dJ1_charAt_13 rfl ?_
  exact W.zret hx hb hr (pk_nc _) (fun t ht hW => ⟨_, rfl, rfl, ht⟩) (fun q h => by cases h) dJ1_charAt_14 hlk
theorem hdJ0_charAt : yJ0_charAt.cls = "java/lang/String" ∧ (yJ0_charAt.cls ≠ "java/lang/invoke/MethodHandle" ∧ yJ0_charAt.cls ≠ "java/lang/invoke/VarHandle" ∧ (parseMethodDescriptor yJ0_charAt.desc).map (fun d => d.parameters.length) = some 1) := by decide +kernel
set_option maxHeartbeats 4000000 in
theorem ms_J0_charAt {l : Launch} {X : (Nat → Nat) × (Nat → Nat) × Nat} {A : Nat → Prop} {k : Nat} (hk : k < 2) {i : Int32} (h0 : ¬ (i < 0 ∨ [32, 31].getD k 0 ≤ i.toNatClampNeg)) : Met l yJ0_charAt (ws_ yJ0_charAt cJ0_charAt 2 (some .char)) ({ frames := 4, cells := 0, slots := 0, locals := 104 }) (va_Pc [.ref (X.1 k), .int i] (fun U => gw_X X A U U.heap)) (vp_Si (fun r => r = gw_ch k i)) 0 0 (fun _ => False) := by
  refine Met.ofW (cc := cJ0_charAt) (maxL := 2) (ret := some .char) (by decide) rfl ?_
  intro p e s m args below meth c s₁ B hml hv
  obtain ⟨rfl, hX⟩ := hv
  have hx := B.exec
  have hb := B.bytes
  have hr := B.returns
  have hts := atoms_spec (ws := (ws_ yJ0_charAt cJ0_charAt 2 (some .char))) B.pre
  have hts : ∀ w ∈ lw_all, w.before _ s = true := fun w h => hts w (List.mem_cons_of_mem _ h)
  have hown : s.vm.findClass "java/lang/String" = some m.cls := findClass_of_methodNamed B.named
  have hlk := B.notSynchronized
  have hS : va_S A s.heap s.heap [] := va_S.rf
  have hl := lv_entry ([.ref (X.1 k), .int i]) (n := 2) (Nat.le_of_ble_eq_true rfl)
  rw [lg_entry_eq]
  generalize (lg_sl ([.ref (X.1 k), .int i]) ++ List.replicate (2 - (lg_sl ([.ref (X.1 k), .int i])).length) Slot.unset).toArray = ls at hl ⊢
  have hl : lv_has ls 2 [(0, .ref (X.1 k)), (1, .int i)] := hl
  refine lv_aload_n hx hb dJ0_charAt_0 rfl (lv_at hl 0 rfl) ?_
  refine vp_callSi (W.runV (As := []) (rest := []) ⟨hx, hb, hml, hown, hts⟩ (ms_J0_isLatin1 (l := l) (X := X) (A := A) hk) (cwV 0 hts (lw_V q509 q510 q511 q108 q512) rfl rfl rfl hdJ0_isLatin1 ⟨Nat.le_of_ble_eq_true rfl, Nat.le_of_ble_eq_true rfl⟩) ⟨fun a U g mk q => ⟨q.1, q.2.blind g mk a⟩, vk_recv hX.2.2.1 hk hS, fun U hU hW => ⟨rfl, hX.pass hS hU hW⟩⟩ rfl rfl hl.1 rfl (lv_room (Nat.le_of_ble_eq_true rfl)) dJ0_charAt_1 ⟨Nat.zero_le _, Nat.zero_le _⟩) (fun r hq => ?_)
  subst hq
  refine lv_if_eq (tgt := 16) hx hb dJ0_charAt_4 (by decide) (fun hc => absurd hc (by decide)) (fun hc => ?_)
  refine lv_aload_n hx hb dJ0_charAt_7 rfl (lv_at hl 0 rfl) ?_
  refine vk_getf hx hb (hX.2.2.1.1 k hk).2.2.1 hS hown (hts _ q1941) (fun _ h => h) dJ0_charAt_8 ?_
  refine lv_iload_n hx hb dJ0_charAt_11 rfl (lv_at hl 1 rfl) ?_
  refine vp_callSi (W.runS (As := [.ref (X.2.1 k), .int i]) (rest := []) ⟨hx, hb, hml, hown, hts⟩ (ms_J1_charAt (l := l) (X := X) (A := A) hk h0) (va_cwS 2 hts (lw_S q582 q583 q109 q584) rfl rfl rfl hdJ1_charAt ⟨Nat.le_of_ble_eq_true rfl, Nat.le_of_ble_eq_true rfl⟩) ⟨fun a U g mk q => ⟨q.1, q.2.blind g mk a⟩, fun U hU hW => ⟨rfl, hX.pass hS hU hW⟩⟩ rfl rfl hl.1 rfl (lv_room (Nat.le_of_ble_eq_true rfl)) dJ0_charAt_12 ⟨Nat.zero_le _, Nat.zero_le _⟩) (fun r hq => ?_)
  subst hq
  exact W.zret hx hb hr (pk_nc _) (fun t ht hW => ⟨_, rfl, rfl, ht⟩) (fun q h => by cases h) dJ0_charAt_15 hlk
