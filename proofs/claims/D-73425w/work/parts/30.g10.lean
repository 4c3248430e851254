theorem gl_y3 : ∀ sig, parseMethodDescriptor gl_n3.desc = some sig → 1 = sig.parameters.length := by
  intro sig h
  have h1 : (parseMethodDescriptor gl_n3.desc).map (fun d => d.parameters.length) = some 1 := by decide +kernel
  rw [h] at h1
  exact (Option.some.inj h1).symm
theorem gl_z4 : ∀ sig, parseMethodDescriptor yX1_lambda_stalls_4.desc = some sig → 1 = sig.parameters.length := by
  intro sig h
  have h1 : (parseMethodDescriptor yX1_lambda_stalls_4.desc).map (fun d => d.parameters.length) = some 1 := by decide +kernel
  rw [h] at h1
  exact (Option.some.inj h1).symm
section GwFw4
variable {p : Program} {l : Launch} {e : Env} {R : Room} {s : State} {m : MethodId} {args : Array Value} {below : List Frame} {meth : Method} {c : Code} {H : Heap} {locs : List Loc} {cells slots : Nat} {Q : State → Prop}
variable {cc : ByteArray} {pc : Nat} {ls : Array Slot} {rest : List Value} {K : GK} {h u : Hp} {H0 : Heap} {own : String}

set_option maxHeartbeats 4000000 in
theorem gw_fw4 {r index : Nat} {o : Nat} {p0 : Nat} {v : Int32} {mc ms : Nat} {F : Nat → Value} (C : gw_C K own p s m args c cc) (hP : gw_P K h H) (hS : va_S K.2.2.2.1 s.heap H locs) (hO : gw_ob h r 104 = some F) (hF0 : F 0 = .ref o) (hO2 : ∃ F2, gw_ob h o 0 = some F2) (hv : v = 0 ∨ v = 1) (he : fx_X1_lambda_stalls_4 o p0 h = some (v, u, mc, ms)) (hlink : Cond.methodLink own index gl_n3 ∈ lw_all) (hsize : ls.size = c.maxLocals) (hw : (rest.map fun v => v.category).sum ≤ 8) (hfr : 13 ≤ R.frames) (hlo : 3263 ≤ R.locals) (hcells : cells + mc ≤ R.cells) (hslots : slots + ms ≤ R.slots) (hdg : decode cc pc = .ok (.invokeinterface index 2, 5)) : va_Run5 p l e R s m args below meth c H locs cells slots mc ms (F0 m pc ls (.ref p0 :: .ref r :: rest)) rest (gw_Qi K v u (Value.ref r :: [.ref p0]).toArray) K.2.2.2.1 := by
  have hcell := (hP.1 r _ (gw_obE hO)).1
  unfold gw_at at hcell
  dsimp only at hcell
  rw [if_neg (by decide)] at hcell
  obtain ⟨cell, g1, g2, g3, g4⟩ := hcell
  have g50 : cell.slots[0]? = some (.ref o) := by rw [g4 0 (by decide), hF0]
  refine gl_call (xi := gl_n3) (y := yX1_lambda_stalls_4) (R' := { frames := 12, cells := mc, slots := ms, locals := 3242 }) (Qc := gw_Qi K v u) (mc := mc) (ms := ms) (free := K.2.2.2.1) (As := [.ref p0]) C.1 C.2.1 C.2.2.2.1 (C.2.2.1 _ hlink) (va_Nw.use (w := .declares gl_n3) rfl C.2.2.2.2.2.2.2.2.2.2.2.2.1) (va_Nw.use (w := .interfaceMethod gl_n3.cls gl_n3.cls gl_n3.name gl_n3.desc) rfl C.2.2.2.2.2.2.2.2.2.2.2.2.2) (by decide) C.2.2.2.2.2.2.2.2.1.2.2.2.2.1 rfl (C.2.2.1 _ q1943) (C.2.2.1 _ q129) rfl rfl gl_t4.2 gl_f4 rfl rfl gl_t4.1 gl_g4 gl_h4 gl_i4 gl_p4 gl_k4 gl_l4 rfl g1 g2 g3 gl_y3 rfl hsize rfl hdg hfr (by show 2 * 0 + _ + (2 + 11) + 3242 ≤ _; omega) hcells hslots ?_
  intro s' below' methk ck hH' hW' hbytes hmlK hlk hret hR hfld
  obtain ⟨fd0, hfd0, hfs0, hfl0⟩ := hfld 15 _ _ 0 0 "arg$1" _ gl_q4_0.1 gl_q4_0.2 rfl rfl
  rw [lg_entry_eq]
  have hl := lv_entry ([.ref r, .ref p0]) (n := 2) (Nat.le_of_ble_eq_true rfl)
  generalize (lg_sl ([.ref r, .ref p0]) ++ List.replicate (2 - (lg_sl ([.ref r, .ref p0])).length) Slot.unset).toArray = ls' at hl ⊢
  have hl : lv_has ls' 2 [(0, .ref r), (1, .ref p0)] := hl
  refine lv_aload_n C.1 hbytes gl_d4_0 rfl (lv_at hl 0 rfl) ?_
  refine gl_getf C.1 hbytes hfd0 hfs0 g1 (by rw [g3]; exact fun h => by cases h) (by rw [hfl0]; exact g50) gl_d4_1 ?_
  refine lv_aload_n C.1 hbytes gl_d4_4 rfl (lv_at hl 1 rfl) ?_
  have recv9 : ∃ cell : Cell, H[o]? = some cell ∧ cell.vm.isStatics = false ∧ s'.vm.findClass "LosslessFabric" = some cell.cls := by
    obtain ⟨c9, k1, k2, k3⟩ := gw_recv (ci := 0) (r := (RX1, TX1, 18)) C hP rfl hO2
    exact ⟨c9, k1, k2, by rw [hW'.alike.findClass]; exact k3⟩
  have here9 : ∀ U : State, U.heap = H → s'.WarmedH U.vm → va_Pc (.ref o :: [.ref p0]) (gw_W K h) ((.ref o :: [.ref p0]) : List Value).toArray U := fun U hU hW9 => gw_here C hS hP U hU (State.WarmedH.trans hW' hW9)
  have hS9 : va_S K.2.2.2.1 s'.heap H [] := by rw [hH']; exact va_S.rf
  refine va_calli (gl_runV (n := 0) (bytes := cX1_lambda_stalls_4) (maxL := 2) (ret := some .boolean) (As := [.ref p0]) (rest := []) C.1 hbytes (mx_X1_lambda_stalls_4 (l := l) (K := K) C.2.2.2.2.2.1 _ _ _ _ _ _ _ he) rfl rfl (Nat.le_of_ble_eq_true rfl) (Nat.le_of_ble_eq_true rfl) (fun w hw a' U hU => pay_in C.2.2.1 (lw_meth q1212) w hw a' U (State.WarmedH.trans hW' hU)) List.mem_cons_self (pay_in C.2.2.1 lw_self _ q1212 _ s' hW') (pay_in C.2.2.1 lw_self _ q101 _ s' hW') (pay_in C.2.2.1 lw_self _ q1211 _ s' hW') (pay_in C.2.2.1 lw_self _ qs35 _ s' hW') rfl gl_z4 hR ⟨gw_blind, recv9, here9⟩ rfl (by rw [hmlK]; exact hl.1) rfl (lv_room (Nat.le_of_ble_eq_true rfl)) gl_d4_5 ⟨Nat.le_of_eq (Nat.zero_add _), Nat.le_of_eq (Nat.zero_add _)⟩) hS9 (fun q _ h => h) (fun q h => h) (fun r9 u9 t9 H1 locs1 ht hvm hp hB hz hk hS1 => ?_)
  subst hp
  subst ht
  rw [Nat.zero_add, Nat.zero_add]
  exact W.zret C.1 hbytes hret (by rcases hv with rfl | rfl <;> rfl) (fun t2 ht2 hW2 => ⟨⟨_, (), rfl, rfl, by show gw_P K u t2.heap; rw [ht2]; exact hB⟩, hS1.F ht2⟩) hS1.2.2 gl_d4_8 hlk
end GwFw4

theorem gl_z5 : ∀ sig, parseMethodDescriptor yX1_lambda_quiet_5.desc = some sig → 1 = sig.parameters.length := by
  intro sig h
  have h1 : (parseMethodDescriptor yX1_lambda_quiet_5.desc).map (fun d => d.parameters.length) = some 1 := by decide +kernel
  rw [h] at h1
  exact (Option.some.inj h1).symm
section GwFw5
variable {p : Program} {l : Launch} {e : Env} {R : Room} {s : State} {m : MethodId} {args : Array Value} {below : List Frame} {meth : Method} {c : Code} {H : Heap} {locs : List Loc} {cells slots : Nat} {Q : State → Prop}
variable {cc : ByteArray} {pc : Nat} {ls : Array Slot} {rest : List Value} {K : GK} {h u : Hp} {H0 : Heap} {own : String}

set_option maxHeartbeats 4000000 in
theorem gw_fw5 {r index : Nat} {p0 : Nat} {v : Int32} {F : Nat → Value} (C : gw_C K own p s m args c cc) (hP : gw_P K h H) (hS : va_S K.2.2.2.1 s.heap H locs) (hO : gw_ob h r 105 = some F)  (hv : v = 0 ∨ v = 1) (he : fx_X1_lambda_quiet_5 p0 h = some (v, u)) (hlink : Cond.methodLink own index gl_n3 ∈ lw_all) (hsize : ls.size = c.maxLocals) (hw : (rest.map fun v => v.category).sum ≤ 8) (hfr : 6 ≤ R.frames) (hlo : 99 ≤ R.locals) (hcells : cells + 0 ≤ R.cells) (hslots : slots + 0 ≤ R.slots) (hdg : decode cc pc = .ok (.invokeinterface index 2, 5)) : va_Run5 p l e R s m args below meth c H locs cells slots 0 0 (F0 m pc ls (.ref p0 :: .ref r :: rest)) rest (gw_Qi K v u (Value.ref r :: [.ref p0]).toArray) K.2.2.2.1 := by
  have hcell := (hP.1 r _ (gw_obE hO)).1
  unfold gw_at at hcell
  dsimp only at hcell
  rw [if_neg (by decide)] at hcell
  obtain ⟨cell, g1, g2, g3, g4⟩ := hcell
  refine gl_call (xi := gl_n3) (y := yX1_lambda_quiet_5) (R' := { frames := 5, cells := 0, slots := 0, locals := 78 }) (Qc := gw_Qi K v u) (mc := 0) (ms := 0) (free := K.2.2.2.1) (As := [.ref p0]) C.1 C.2.1 C.2.2.2.1 (C.2.2.1 _ hlink) (va_Nw.use (w := .declares gl_n3) rfl C.2.2.2.2.2.2.2.2.2.2.2.2.1) (va_Nw.use (w := .interfaceMethod gl_n3.cls gl_n3.cls gl_n3.name gl_n3.desc) rfl C.2.2.2.2.2.2.2.2.2.2.2.2.2) (by decide) C.2.2.2.2.2.2.2.2.1.2.2.2.2.2 rfl (C.2.2.1 _ q1943) (C.2.2.1 _ q129) rfl rfl gl_t5.2 gl_f5 rfl rfl gl_t5.1 gl_g5 gl_h5 gl_i5 gl_p5 gl_k5 gl_l5 rfl g1 g2 g3 gl_y3 rfl hsize rfl hdg hfr (by show 2 * 0 + _ + (2 + 11) + 78 ≤ _; omega) hcells hslots ?_
  intro s' below' methk ck hH' hW' hbytes hmlK hlk hret hR hfld
  rw [lg_entry_eq]
  have hl := lv_entry ([.ref r, .ref p0]) (n := 2) (Nat.le_of_ble_eq_true rfl)
  generalize (lg_sl ([.ref r, .ref p0]) ++ List.replicate (2 - (lg_sl ([.ref r, .ref p0])).length) Slot.unset).toArray = ls' at hl ⊢
  have hl : lv_has ls' 2 [(0, .ref r), (1, .ref p0)] := hl
  refine lv_aload_n C.1 hbytes gl_d5_0 rfl (lv_at hl 1 rfl) ?_
  have here9 : ∀ U : State, U.heap = H → s'.WarmedH U.vm → va_Pc [.ref p0] (gw_W K h) ([.ref p0] : List Value).toArray U := fun U hU hW9 => gw_here C hS hP U hU (State.WarmedH.trans hW' hW9)
  have hS9 : va_S K.2.2.2.1 s'.heap H [] := by rw [hH']; exact va_S.rf
  refine va_calli (gl_runS (n := 0) (bytes := cX1_lambda_quiet_5) (maxL := 1) (ret := some .boolean) (As := [.ref p0]) (rest := []) C.1 hbytes (mx_X1_lambda_quiet_5 (l := l) (K := K) C.2.2.2.2.2.1 _ _ _ _ he) rfl rfl (Nat.le_of_ble_eq_true rfl) (Nat.le_of_ble_eq_true rfl) (fun w hw a' U hU => pay_in C.2.2.1 (lw_meth q1226) w hw a' U (State.WarmedH.trans hW' hU)) List.mem_cons_self (pay_in C.2.2.1 lw_self _ q1226 _ s' hW') (pay_in C.2.2.1 lw_self _ q101 _ s' hW') (pay_in C.2.2.1 lw_self _ q1225 _ s' hW') rfl gl_z5 hR ⟨gw_blind, here9⟩ rfl (by rw [hmlK]; exact hl.1) rfl (lv_room (Nat.le_of_ble_eq_true rfl)) gl_d5_1 ⟨Nat.le_of_eq (Nat.zero_add _), Nat.le_of_eq (Nat.zero_add _)⟩) hS9 (fun q _ h => h) (fun q h => h) (fun r9 u9 t9 H1 locs1 ht hvm hp hB hz hk hS1 => ?_)
  subst hp
  subst ht
  exact W.zret C.1 hbytes hret (by rcases hv with rfl | rfl <;> rfl) (fun t2 ht2 hW2 => ⟨⟨_, (), rfl, rfl, by show gw_P K u t2.heap; rw [ht2]; exact hB⟩, hS1.F ht2⟩) hS1.2.2 gl_d5_4 hlk
end GwFw5

def gw_up {α : Type} (f : HM α) : gM α := fun h => match f h with | none => none | some r => some (r.1, r.2, 0, 0)
def fj_3 (r : Nat) (p0 : Nat) : gM Int32 := fun h => match gw_ob h r 104 with
  | some F => (match F 0 with | .ref o => (gw_on 0 o (fx_X1_lambda_stalls_4 o p0)) h | _ => none)
  | none => (match gw_ob h r 105 with
  | some F => (gw_up (fx_X1_lambda_quiet_5 p0)) h
  | none => none)
def fi_3 (r : Nat) (p0 : Nat) : gM Int32 := gw_bc (fj_3 r p0) gw_rz
section GwIf3
variable {p : Program} {l : Launch} {e : Env} {R : Room} {s : State} {m : MethodId} {args : Array Value} {below : List Frame} {meth : Method} {c : Code} {H : Heap} {locs : List Loc} {cells slots : Nat} {Q : State → Prop}
variable {cc : ByteArray} {pc : Nat} {ls : Array Slot} {rest : List Value} {K : GK} {h u : Hp} {H0 : Heap} {own : String}

theorem gw_if3 {r index : Nat} {p0 : Nat} {v : Int32} {mc ms : Nat} (C : gw_C K own p s m args c cc) (hP : gw_P K h H) (hS : va_S K.2.2.2.1 s.heap H locs) (he : fi_3 r p0 h = some (v, u, mc, ms)) (hlink : Cond.methodLink own index gl_n3 ∈ lw_all) (hsize : ls.size = c.maxLocals) (hw : (rest.map fun v => v.category).sum ≤ 8) (hfr : 13 ≤ R.frames) (hlo : 3263 ≤ R.locals) (hcells : cells + mc ≤ R.cells) (hslots : slots + ms ≤ R.slots) (hdg : decode cc pc = .ok (.invokeinterface index 2, 5))
    (kk : ∀ (H1 : Heap) (locs1 : List Loc), gw_P K u H1 → va_S K.2.2.2.1 s.heap H1 locs1 → W p l e R s m args below meth c H1 locs1 (cells + mc) (slots + ms) Q (F0 m (pc + 5) ls (.int v :: rest))) : W p l e R s m args below meth c H locs cells slots Q (F0 m pc ls (.ref p0 :: .ref r :: rest)) := by
  unfold fi_3 at he
  obtain ⟨v1, u1, c1, s1, C1, S1, he1, e2, k1, k2⟩ := gw_bcE he (c := 0) (s := 0) (Nat.zero_add _) (Nat.zero_add _)
  clear he
  obtain ⟨hv, h1, h2, h3, h4⟩ := gw_rzE e2 k1 k2
  subst h1
  subst h2
  rw [Nat.zero_add] at h3 h4
  subst h3
  subst h4
  have he := he1
  unfold fj_3 at he
  split at he
  case h_1 F hO =>
    split at he
    case h_2 => cases he
    case h_1 o hF0 =>
    obtain ⟨hO2, he⟩ := gw_onE he
    refine va_callFi (gw_fw4 C hP hS hO hF0 hO2 hv he hlink hsize hw (Nat.le_trans (Nat.le_of_ble_eq_true rfl) hfr) (Nat.le_trans (Nat.le_of_ble_eq_true rfl) hlo) hcells hslots hdg) hS (fun q _ h => h) (fun q h => h) (fun r9 u9 t9 H1 locs1 ht hvm hp hB hz hk hS1 => ?_)
    subst hp
    subst ht
    exact kk _ locs1 hB hS1
  case h_2 =>
    split at he
    case h_1 F hO =>
      unfold gw_up at he
      split at he
      case h_1 => cases he
      case h_2 q9 he9 =>
      cases he
      have he := he9
      refine va_callFi (gw_fw5 C hP hS hO  hv he hlink hsize hw (Nat.le_trans (Nat.le_of_ble_eq_true rfl) hfr) (Nat.le_trans (Nat.le_of_ble_eq_true rfl) hlo) hcells hslots hdg) hS (fun q _ h => h) (fun q h => h) (fun r9 u9 t9 H1 locs1 ht hvm hp hB hz hk hS1 => ?_)
      subst hp
      subst ht
      exact kk _ locs1 hB hS1
    case h_2 =>
      cases he
end GwIf3

def fx_X1_until_J39 (sf2 : Int32 → gM Int32) (v2_2 : Int32)  : gM Int32 :=
  sf2 (v2_2 + (1 : Int32))
def fx_X1_until_L2 (a0 : Nat) (a1 : Nat) (sf2 : Int32 → gM Int32) (v2_2 : Int32) : gM Int32 :=
  if (300 : Int32) < v2_2 then (gw_rc (-2 : Int32))
  else (gw_b0 (gw_gr 0 13 a0) fun x2 =>
  gw_bc (fi_3 a1 x2) fun x5 =>
  if x5 = 0 then (if (300 : Int32) ≤ v2_2 then (fx_X1_until_J39 sf2 v2_2)
  else (gw_b0 (gw_gr 0 13 a0) fun x9 =>
  gw_bc (gw_on 0 a0 (fx_X1_ticks a0 x9)) fun _ =>
 
  fx_X1_until_J39 sf2 v2_2))
  else (gw_rc v2_2))
def fx_X1_until (a0 : Nat) (a1 : Nat) : gM Int32 :=
  tw_lp (fx_X1_until_L2 a0 a1) (fun _ _ => none) tw_fu (0 : Int32)
theorem hdX1_until : yX1_until.cls = "LosslessFabric" ∧ (yX1_until.cls ≠ "java/lang/invoke/MethodHandle" ∧ yX1_until.cls ≠ "java/lang/invoke/VarHandle" ∧ (parseMethodDescriptor yX1_until.desc).map (fun d => d.parameters.length) = some 1) := by decide +kernel
set_option maxHeartbeats 4000000 in
theorem mx_X1_until {l : Launch} {K : GK} (hA : gw_A K) (a0 : Nat) (a1 : Nat) (t0 tZ : Hp) (r : Int32) (C0 S0 : Nat) (hf : fx_X1_until a0 a1 t0 = some (r, tZ, C0, S0)) : Met l yX1_until (ws_ yX1_until cX1_until 3 (some (.int))) ({ frames := 13, cells := C0, slots := S0, locals := 3263 }) (va_Pc [.ref a0, .ref a1] (gw_W K t0)) (gw_Qi K r tZ) C0 S0 K.2.2.2.1 := by
  refine Met.ofW (cc := cX1_until) (maxL := 3) (ret := some (.int)) (by decide) rfl ?_
  intro p e s m args below meth c s₁ B hml hv
  obtain ⟨rfl, hP, hK, hX, hN, hL⟩ := hv
  have hx := B.exec
  have hb := B.bytes
  have hr := B.returns
  have hts := atoms_spec (ws := (ws_ yX1_until cX1_until 3 (some (.int)))) B.pre
  have hts : ∀ w ∈ lw_all, w.before _ s = true := fun w h => hts w (List.mem_cons_of_mem _ h)
  have hown : s.vm.findClass "LosslessFabric" = some m.cls := findClass_of_methodNamed B.named
  have hlk := B.notSynchronized
  have C : gw_C K "LosslessFabric" p s m _ c cX1_until := ⟨hx, hb, hts, hown, hK, hA, hX, hN, hL⟩
  have hk : 0 + C0 = C0 := Nat.zero_add _
  have hn : 0 + S0 = S0 := Nat.zero_add _
  have hS : va_S K.2.2.2.1 s.heap s.heap [] := va_S.rf
  have hl := lv_entry ([.ref a0, .ref a1]) (n := 3) (Nat.le_of_ble_eq_true rfl)
  rw [lg_entry_eq]
  generalize (lg_sl ([.ref a0, .ref a1]) ++ List.replicate (3 - (lg_sl ([.ref a0, .ref a1])).length) Slot.unset).toArray = ls at hl ⊢
  have hl : lv_has ls 3 [(0, .ref a0), (1, .ref a1)] := hl
  unfold fx_X1_until at hf
  refine lv_iconst (v := (0 : Int32)) hx hb dX1_until_0 (by decide) ?_
  refine lv_istore_n (lv' := [(2, .int (0 : Int32)), (0, .ref a0), (1, .ref a1)]) hx hb dX1_until_1 rfl hl (by decide) rfl (fun ls hl => ?_)
  have k2 : ∀ (n : Nat) (v2_2 : Int32) (t1 : Hp) (k1 n1 C1 S1 : Nat) (H : Heap) (locs : List Loc) (ls : Array Slot), gw_P K t1 H → va_S K.2.2.2.1 s.heap H locs → k1 + C1 = C0 → n1 + S1 = S0 → lv_has ls 3 [(0, .ref a0), (1, .ref a1), (2, .int v2_2)] → tw_lp (fx_X1_until_L2 a0 a1) (fun _ _ => none) n v2_2 t1 = some (r, tZ, C1, S1) → W p l e (headSpec (ws_ yX1_until cX1_until 3 (some (.int))) ({ frames := 13, cells := C0, slots := S0, locals := 3263 })).room s m ([.ref a0, .ref a1] : List Value).toArray below meth c H locs k1 n1 (MQ below (gw_Qi K r tZ) ([.ref a0, .ref a1] : List Value).toArray s C0 S0 K.2.2.2.1) (F0 m 2 ls []) := by
    intro n
    induction n with
    | zero => intro v2_2 t1 k1 n1 C1 S1 H locs ls hP hS hk hn hl hf; exact (tw_no hf).elim
    | succ n ih2 =>
      intro v2_2 t1 k1 n1 C1 S1 H locs ls hP hS hk hn hl hf
      obtain ⟨sf2, hs2⟩ : ∃ f, f = tw_lp (fx_X1_until_L2 a0 a1) (fun _ _ => none) n := ⟨_, rfl⟩
      rw [← hs2] at ih2
      have hf : fx_X1_until_L2 a0 a1 sf2 v2_2 t1 = some (r, tZ, C1, S1) := by rw [hs2]; exact hf
      clear hs2
      unfold fx_X1_until_L2 at hf
      refine lv_iload_n hx hb dX1_until_2 rfl (lv_at hl 2 rfl) ?_
      refine lv_sipush (v := (300 : Int32)) hx hb dX1_until_3 (by decide) ?_
      refine lv_icmp_gt (tgt := 45) hx hb dX1_until_6 (by decide) (fun hc => ?_) (fun hc => ?_)
      · have hf := tw_ifT hc hf
        refine lv_bipush (v := (-2 : Int32)) hx hb dX1_until_45 (by decide) ?_
        obtain ⟨h1, h2, h3, h4⟩ := gw_rcE hf hk hn
        exact gw_ireti h1 h2 h3 h4 C hr hP hS hlk dX1_until_47
      · have hf := tw_ifF hc hf
        refine lv_aload_n hx hb dX1_until_9 rfl (lv_at hl 1 rfl) ?_
        refine lv_aload_n hx hb dX1_until_10 rfl (lv_at hl 0 rfl) ?_
        obtain ⟨x2, t3, e4, hf⟩ := gw_b0E hf
        refine gw_rget (ci := 0) (k := 13) (T := TX1) C hP rfl in_X1 (by decide) e4 q406 rfl dX1_until_11 (fun hP => ?_)
        obtain ⟨x5, t6, c6, s6, C6, S6, e7, hf, hk, hn⟩ := gw_bcE hf hk hn
        refine gw_if3 (rest := []) C hP hS e7 q1218 (hl.1.trans hml.symm) (Nat.le_of_ble_eq_true rfl) (Nat.le_of_ble_eq_true rfl) (Nat.le_of_ble_eq_true rfl) (Nat.le.intro hk) (Nat.le.intro hn) dX1_until_14 (fun H locs hP hS => ?_)
        refine lv_if_eq (tgt := 24) hx hb dX1_until_19 (by decide) (fun hc => ?_) (fun hc => ?_)
        · have hf := tw_ifT hc hf
          refine lv_iload_n hx hb dX1_until_24 rfl (lv_at hl 2 rfl) ?_
          refine lv_sipush (v := (300 : Int32)) hx hb dX1_until_25 (by decide) ?_
          have k39 : ∀  (t8 : Hp) (k8 n8 C8 S8 : Nat) (H : Heap) (locs : List Loc) (ls : Array Slot), gw_P K t8 H → va_S K.2.2.2.1 s.heap H locs → k8 + C8 = C0 → n8 + S8 = S0 → lv_has ls 3 [(0, .ref a0), (1, .ref a1), (2, .int v2_2)] → fx_X1_until_J39 sf2 v2_2  t8 = some (r, tZ, C8, S8) → W p l e (headSpec (ws_ yX1_until cX1_until 3 (some (.int))) ({ frames := 13, cells := C0, slots := S0, locals := 3263 })).room s m ([.ref a0, .ref a1] : List Value).toArray below meth c H locs k8 n8 (MQ below (gw_Qi K r tZ) ([.ref a0, .ref a1] : List Value).toArray s C0 S0 K.2.2.2.1) (F0 m 39 ls []) := by
            intro t8 k8 n8 C8 S8 H locs ls hP hS hk hn hl hf
            unfold fx_X1_until_J39 at hf
            refine lv_iinc (v := (v2_2 + (1 : Int32))) (lv' := [(2, .int (v2_2 + (1 : Int32))), (0, .ref a0), (1, .ref a1)]) hx hb dX1_until_39 hl (k := 2) rfl rfl (by decide) rfl (fun ls hl => ?_)
            refine lv_goto (tgt := 2) hx hb dX1_until_42 (by decide) ?_
            exact ih2 _ _ _ _ _ _ _ _ _ hP hS hk hn (lv_sub hl [1, 2, 0] rfl) hf
          refine lv_icmp_ge (tgt := 39) hx hb dX1_until_28 (by decide) (fun hc => ?_) (fun hc => ?_)
          · have hf := tw_ifT hc hf
            exact k39 _ _ _ _ _ _ _ _ hP hS hk hn (lv_sub hl [0, 1, 2] rfl) hf
          · have hf := tw_ifF hc hf
            refine lv_aload_n hx hb dX1_until_31 rfl (lv_at hl 0 rfl) ?_
            refine lv_aload_n hx hb dX1_until_32 rfl (lv_at hl 0 rfl) ?_
            obtain ⟨x9, t10, e11, hf⟩ := gw_b0E hf
            refine gw_rget (ci := 0) (k := 13) (T := TX1) C hP rfl in_X1 (by decide) e11 q406 rfl dX1_until_33 (fun hP => ?_)
            obtain ⟨x12, t13, c13, s13, C13, S13, e14, hf, hk, hn⟩ := gw_bcE hf hk hn
            refine gw_cVv (As := [.ref x9]) (rest := []) (ci := 0) (T := TX1) (N := 18) C hml hP hS rfl (gw_onE e14).1 (mx_X1_ticks (l := l) (K := K) hA _ _ _ _ _ _ _ (gw_onE e14).2) (cwV 1 hts (lw_V q852 q854 qs16 q101 q855) rfl rfl rfl hdX1_ticks ⟨Nat.le_of_ble_eq_true rfl, Nat.le_of_ble_eq_true rfl⟩) rfl hl.1 rfl (Nat.le_of_ble_eq_true rfl) (Nat.le.intro hk) (Nat.le.intro hn) dX1_until_36 (fun H locs hP hS => ?_)
            exact k39 _ _ _ _ _ _ _ _ hP hS hk hn (lv_sub hl [0, 1, 2] rfl) hf
        · have hf := tw_ifF hc hf
          refine lv_iload_n hx hb dX1_until_22 rfl (lv_at hl 2 rfl) ?_
          obtain ⟨h1, h2, h3, h4⟩ := gw_rcE hf hk hn
          exact gw_ireti h1 h2 h3 h4 C hr hP hS hlk dX1_until_23
  exact k2 _ _ _ _ _ _ _ _ _ _ hP hS hk hn (lv_sub hl [1, 2, 0] rfl) hf
def fx_X1_quiet_L8 (a0 : Nat) (q5 : Nat) (sf8 : Int32 → gM Int32) (v8_1 : Int32) : gM Int32 :=
  gw_b0 (gw_gr 0 4 a0) fun x5 =>
  gw_b0 (gw_gi 1 3 x5) fun x8 =>
  if x8 ≤ v8_1 then ( gw_bc (gw_on 0 a0 (fx_X1_until a0 q5)) fun x11 =>
  gw_rc x11)
  else (gw_b0 (gw_gr 0 13 a0) fun x14 =>
  gw_b0 (gw_gr 2 3 x14) fun x17 =>
  gw_b0 (gw_lr 7 x17 v8_1) fun x20 =>
  gw_b0 (gw_pz 4 11 x20 (0 : Int32)) fun _ =>
 
  sf8 (v8_1 + (1 : Int32)))
def fx_X1_quiet (a0 : Nat) (q5 : Nat) : gM Int32 :=
  gw_bc (gw_on 0 a0 (fx_X1_tried a0 (0 : Int32))) fun x1 =>
 
  tw_lp (fx_X1_quiet_L8 a0 q5) (fun _ _ => none) tw_fu (0 : Int32)
theorem hdX1_quiet : yX1_quiet.cls = "LosslessFabric" ∧ (yX1_quiet.cls ≠ "java/lang/invoke/MethodHandle" ∧ yX1_quiet.cls ≠ "java/lang/invoke/VarHandle" ∧ (parseMethodDescriptor yX1_quiet.desc).map (fun d => d.parameters.length) = some 0) := by decide +kernel
set_option maxHeartbeats 4000000 in
theorem mx_X1_quiet {l : Launch} {K : GK} (hA : gw_A K) (a0 : Nat) (q5 : Nat) (hq5 : q5 = K.2.2.2.2.2 6) (t0 tZ : Hp) (r : Int32) (C0 S0 : Nat) (hf : fx_X1_quiet a0 q5 t0 = some (r, tZ, C0, S0)) : Met l yX1_quiet (ws_ yX1_quiet cX1_quiet 2 (some (.int))) ({ frames := 14, cells := C0, slots := S0, locals := 3285 }) (va_Pc [.ref a0] (gw_W K t0)) (gw_Qi K r tZ) C0 S0 K.2.2.2.1 := by
  refine Met.ofW (cc := cX1_quiet) (maxL := 2) (ret := some (.int)) (by decide) rfl ?_
  intro p e s m args below meth c s₁ B hml hv
  obtain ⟨rfl, hP, hK, hX, hN, hL⟩ := hv
  have hx := B.exec
  have hb := B.bytes
  have hr := B.returns
  have hts := atoms_spec (ws := (ws_ yX1_quiet cX1_quiet 2 (some (.int)))) B.pre
  have hts : ∀ w ∈ lw_all, w.before _ s = true := fun w h => hts w (List.mem_cons_of_mem _ h)
  have hown : s.vm.findClass "LosslessFabric" = some m.cls := findClass_of_methodNamed B.named
  have hlk := B.notSynchronized
  have C : gw_C K "LosslessFabric" p s m _ c cX1_quiet := ⟨hx, hb, hts, hown, hK, hA, hX, hN, hL⟩
  have hk : 0 + C0 = C0 := Nat.zero_add _
  have hn : 0 + S0 = S0 := Nat.zero_add _
  have hS : va_S K.2.2.2.1 s.heap s.heap [] := va_S.rf
  have hl := lv_entry ([.ref a0]) (n := 2) (Nat.le_of_ble_eq_true rfl)
  rw [lg_entry_eq]
  generalize (lg_sl ([.ref a0]) ++ List.replicate (2 - (lg_sl ([.ref a0])).length) Slot.unset).toArray = ls at hl ⊢
  have hl : lv_has ls 2 [(0, .ref a0)] := hl
  unfold fx_X1_quiet at hf
  refine lv_aload_n hx hb dX1_quiet_0 rfl (lv_at hl 0 rfl) ?_
  refine lv_iconst (v := (0 : Int32)) hx hb dX1_quiet_1 (by decide) ?_
  obtain ⟨x1, t2, c2, s2, C2, S2, e3, hf, hk, hn⟩ := gw_bcE hf hk hn
  refine gw_cVr (As := [.int (0 : Int32)]) (rest := []) (ci := 0) (T := TX1) (N := 18) C hml hP hS rfl (gw_onE e3).1 (mx_X1_tried (l := l) (K := K) hA _ _ _ _ _ _ _ (gw_onE e3).2) (cwV 1 hts (lw_V q1202 q1204 qs34 q101 q1205) rfl rfl rfl hdX1_tried ⟨Nat.le_of_ble_eq_true rfl, Nat.le_of_ble_eq_true rfl⟩) rfl hl.1 rfl (Nat.le_of_ble_eq_true rfl) (Nat.le.intro hk) (Nat.le.intro hn) dX1_quiet_2 (fun H locs hP hS => ?_)
  refine lv_pop hx hb dX1_quiet_5 rfl ?_
  refine lv_iconst (v := (0 : Int32)) hx hb dX1_quiet_6 (by decide) ?_
  refine lv_istore_n (lv' := [(1, .int (0 : Int32)), (0, .ref a0)]) hx hb dX1_quiet_7 rfl hl (by decide) rfl (fun ls hl => ?_)
  have k8 : ∀ (n : Nat) (v8_1 : Int32) (t4 : Hp) (k4 n4 C4 S4 : Nat) (H : Heap) (locs : List Loc) (ls : Array Slot), gw_P K t4 H → va_S K.2.2.2.1 s.heap H locs → k4 + C4 = C0 → n4 + S4 = S0 → lv_has ls 2 [(0, .ref a0), (1, .int v8_1)] → tw_lp (fx_X1_quiet_L8 a0 q5) (fun _ _ => none) n v8_1 t4 = some (r, tZ, C4, S4) → W p l e (headSpec (ws_ yX1_quiet cX1_quiet 2 (some (.int))) ({ frames := 14, cells := C0, slots := S0, locals := 3285 })).room s m ([.ref a0] : List Value).toArray below meth c H locs k4 n4 (MQ below (gw_Qi K r tZ) ([.ref a0] : List Value).toArray s C0 S0 K.2.2.2.1) (F0 m 8 ls []) := by
    intro n
    induction n with
    | zero => intro v8_1 t4 k4 n4 C4 S4 H locs ls hP hS hk hn hl hf; exact (tw_no hf).elim
    | succ n ih8 =>
      intro v8_1 t4 k4 n4 C4 S4 H locs ls hP hS hk hn hl hf
      obtain ⟨sf8, hs8⟩ : ∃ f, f = tw_lp (fx_X1_quiet_L8 a0 q5) (fun _ _ => none) n := ⟨_, rfl⟩
      rw [← hs8] at ih8
      have hf : fx_X1_quiet_L8 a0 q5 sf8 v8_1 t4 = some (r, tZ, C4, S4) := by rw [hs8]; exact hf
      clear hs8
      unfold fx_X1_quiet_L8 at hf
      refine lv_iload_n hx hb dX1_quiet_8 rfl (lv_at hl 1 rfl) ?_
      refine lv_aload_n hx hb dX1_quiet_9 rfl (lv_at hl 0 rfl) ?_
      obtain ⟨x5, t6, e7, hf⟩ := gw_b0E hf
      refine gw_rget (ci := 0) (k := 4) (T := TX1) C hP rfl in_X1 (by decide) e7 q394 rfl dX1_quiet_10 (fun hP => ?_)
      obtain ⟨x8, t9, e10, hf⟩ := gw_b0E hf
      refine gw_igetN (ci := 1) (k := 3) (T := TX2) C hP rfl in_X2 (by decide) e10 q165 rfl dX1_quiet_13 (fun hP => ?_)
      refine lv_icmp_ge (tgt := 38) hx hb dX1_quiet_16 (by decide) (fun hc => ?_) (fun hc => ?_)
      · have hf := tw_ifT hc hf
        refine lv_aload_n hx hb dX1_quiet_38 rfl (lv_at hl 0 rfl) ?_
        refine gw_mk5 (rest := [.ref a0]) hq5 C (hml.trans hl.1.symm) B.named (show 1 + 3072 ≤ _ from Nat.le_of_ble_eq_true rfl) dX1_quiet_39 ?_
        obtain ⟨x11, t12, c12, s12, C12, S12, e13, hf, hk, hn⟩ := gw_bcE hf hk hn
        refine gw_cVi (As := [.ref q5]) (rest := []) (ci := 0) (T := TX1) (N := 18) C hml hP hS rfl (gw_onE e13).1 (mx_X1_until (l := l) (K := K) hA _ _ _ _ _ _ _ (gw_onE e13).2) (cwV 1 hts (lw_V q1213 q1215 qs36 q101 q1216) rfl rfl rfl hdX1_until ⟨Nat.le_of_ble_eq_true rfl, Nat.le_of_ble_eq_true rfl⟩) rfl hl.1 rfl (Nat.le_of_ble_eq_true rfl) (Nat.le.intro hk) (Nat.le.intro hn) dX1_quiet_44 (fun H locs hP hS => ?_)
        obtain ⟨h1, h2, h3, h4⟩ := gw_rcE hf hk hn
        exact gw_ireti h1 h2 h3 h4 C hr hP hS hlk dX1_quiet_47
      · have hf := tw_ifF hc hf
        refine lv_aload_n hx hb dX1_quiet_19 rfl (lv_at hl 0 rfl) ?_
        obtain ⟨x14, t15, e16, hf⟩ := gw_b0E hf
        refine gw_rget (ci := 0) (k := 13) (T := TX1) C hP rfl in_X1 (by decide) e16 q406 rfl dX1_quiet_20 (fun hP => ?_)
        obtain ⟨x17, t18, e19, hf⟩ := gw_b0E hf
        refine gw_rgetN (ci := 2) (k := 3) (T := TX3) C hP rfl in_X3 (by decide) e19 q358 rfl dX1_quiet_23 (fun hP => ?_)
        refine lv_iload_n hx hb dX1_quiet_26 rfl (lv_at hl 1 rfl) ?_
        obtain ⟨x20, t21, e22, hf⟩ := gw_b0E hf
        refine gw_aald C hP rfl e22 dX1_quiet_27 (fun hP => ?_)
        refine lv_iconst (v := (0 : Int32)) hx hb dX1_quiet_28 (by decide) ?_
        obtain ⟨x23, t24, e25, hf⟩ := gw_b0E hf
        refine gw_vputN (ci := 4) (k := 11) (T := TX5) C hP hS rfl in_X5 tyX5 tyX5_ok nmX5 (by decide) (gw_pzE e25).2 q325 rfl rfl (gw_zn (gw_pzE e25).1) (gw_zf (gw_pzE e25).1) dX1_quiet_29 (fun H locs hP hS => ?_)
        refine lv_iinc (v := (v8_1 + (1 : Int32))) (lv' := [(1, .int (v8_1 + (1 : Int32))), (0, .ref a0)]) hx hb dX1_quiet_32 hl (k := 1) rfl rfl (by decide) rfl (fun ls hl => ?_)
        refine lv_goto (tgt := 8) hx hb dX1_quiet_35 (by decide) ?_
        exact ih8 _ _ _ _ _ _ _ _ _ hP hS hk hn (lv_sub hl [1, 0] rfl) hf
  exact k8 _ _ _ _ _ _ _ _ _ _ hP hS hk hn (lv_sub hl [1, 0] rfl) hf
def fx_X1_rate_J20   : gM Int32 :=
  gw_rc (-1 : Int32)
def fx_X1_rate (a0 : Nat) (a1 : Int32) (a2 : Int32) : gM Int32 :=
  gw_bc (gw_on 0 a0 (fx_X1_isFlow a0 a1)) fun x1 =>
  if x1 = 0 then (fx_X1_rate_J20)
  else (gw_b0 (fx_X1_isIn (a2.toInt64) (1 : Int64) (1024 : Int64)) fun x5 =>
  if x5 = 0 then (fx_X1_rate_J20)
  else (gw_bc (gw_on 0 a0 (fx_X1_canUndo a0)) fun _ =>
  gw_b0 (gw_gr 0 11 a0) fun x11 =>
  gw_b0 (gw_gr 2 3 x11) fun x14 =>
  gw_b0 (gw_lr 7 x14 a1) fun x17 =>
  gw_b0 (gw_gi 4 0 x17) fun x20 =>
  gw_b0 (gw_pi 4 0 x17 a2) fun _ =>
  gw_b0 (gw_pi 4 1 x17 a2) fun _ =>
  gw_rc x20))
theorem hdX1_rate : yX1_rate.cls = "LosslessFabric" ∧ (yX1_rate.cls ≠ "java/lang/invoke/MethodHandle" ∧ yX1_rate.cls ≠ "java/lang/invoke/VarHandle" ∧ (parseMethodDescriptor yX1_rate.desc).map (fun d => d.parameters.length) = some 2) := by decide +kernel
set_option maxHeartbeats 4000000 in
theorem mx_X1_rate {l : Launch} {K : GK} (hA : gw_A K) (a0 : Nat) (a1 : Int32) (a2 : Int32) (t0 tZ : Hp) (r : Int32) (C0 S0 : Nat) (hf : fx_X1_rate a0 a1 a2 t0 = some (r, tZ, C0, S0)) : Met l yX1_rate (ws_ yX1_rate cX1_rate 5 (some (.int))) ({ frames := 5, cells := C0, slots := S0, locals := 124 }) (va_Pc [.ref a0, .int a1, .int a2] (gw_W K t0)) (gw_Qi K r tZ) C0 S0 K.2.2.2.1 := by
  refine Met.ofW (cc := cX1_rate) (maxL := 5) (ret := some (.int)) (by decide) rfl ?_
  intro p e s m args below meth c s₁ B hml hv
  obtain ⟨rfl, hP, hK, hX, hN, hL⟩ := hv
  have hx := B.exec
  have hb := B.bytes
  have hr := B.returns
  have hts := atoms_spec (ws := (ws_ yX1_rate cX1_rate 5 (some (.int)))) B.pre
  have hts : ∀ w ∈ lw_all, w.before _ s = true := fun w h => hts w (List.mem_cons_of_mem _ h)
  have hown : s.vm.findClass "LosslessFabric" = some m.cls := findClass_of_methodNamed B.named
  have hlk := B.notSynchronized
  have C : gw_C K "LosslessFabric" p s m _ c cX1_rate := ⟨hx, hb, hts, hown, hK, hA, hX, hN, hL⟩
  have hk : 0 + C0 = C0 := Nat.zero_add _
  have hn : 0 + S0 = S0 := Nat.zero_add _
  have hS : va_S K.2.2.2.1 s.heap s.heap [] := va_S.rf
  have hl := lv_entry ([.ref a0, .int a1, .int a2]) (n := 5) (Nat.le_of_ble_eq_true rfl)
  rw [lg_entry_eq]
  generalize (lg_sl ([.ref a0, .int a1, .int a2]) ++ List.replicate (5 - (lg_sl ([.ref a0, .int a1, .int a2])).length) Slot.unset).toArray = ls at hl ⊢
  have hl : lv_has ls 5 [(0, .ref a0), (1, .int a1), (2, .int a2)] := hl
  unfold fx_X1_rate at hf
  refine lv_aload_n hx hb dX1_rate_0 rfl (lv_at hl 0 rfl) ?_
  refine lv_iload_n hx hb dX1_rate_1 rfl (lv_at hl 1 rfl) ?_
  obtain ⟨x1, t2, c2, s2, C2, S2, e3, hf, hk, hn⟩ := gw_bcE hf hk hn
  refine gw_cVi (As := [.int a1]) (rest := []) (ci := 0) (T := TX1) (N := 18) C hml hP hS rfl (gw_onE e3).1 (mx_X1_isFlow (l := l) (K := K) hA _ _ _ _ _ _ _ (gw_onE e3).2) (cwV 1 hts (lw_V q952 q954 qs21 q101 q955) rfl rfl rfl hdX1_isFlow ⟨Nat.le_of_ble_eq_true rfl, Nat.le_of_ble_eq_true rfl⟩) rfl hl.1 rfl (Nat.le_of_ble_eq_true rfl) (Nat.le.intro hk) (Nat.le.intro hn) dX1_rate_2 (fun H locs hP hS => ?_)
  have k20 : ∀  (t4 : Hp) (k4 n4 C4 S4 : Nat) (H : Heap) (locs : List Loc) (ls : Array Slot), gw_P K t4 H → va_S K.2.2.2.1 s.heap H locs → k4 + C4 = C0 → n4 + S4 = S0 → lv_has ls 5 [] → fx_X1_rate_J20  t4 = some (r, tZ, C4, S4) → W p l e (headSpec (ws_ yX1_rate cX1_rate 5 (some (.int))) ({ frames := 5, cells := C0, slots := S0, locals := 124 })).room s m ([.ref a0, .int a1, .int a2] : List Value).toArray below meth c H locs k4 n4 (MQ below (gw_Qi K r tZ) ([.ref a0, .int a1, .int a2] : List Value).toArray s C0 S0 K.2.2.2.1) (F0 m 20 ls []) := by
    intro t4 k4 n4 C4 S4 H locs ls hP hS hk hn hl hf
    unfold fx_X1_rate_J20 at hf
    refine lv_iconst (v := (-1 : Int32)) hx hb dX1_rate_20 (by decide) ?_
    obtain ⟨h1, h2, h3, h4⟩ := gw_rcE hf hk hn
    exact gw_ireti h1 h2 h3 h4 C hr hP hS hlk dX1_rate_21
  refine lv_if_eq (tgt := 20) hx hb dX1_rate_5 (by decide) (fun hc => ?_) (fun hc => ?_)
  · have hf := tw_ifT hc hf
    exact k20 _ _ _ _ _ _ _ _ hP hS hk hn (lv_sub hl [] rfl) hf
  · have hf := tw_ifF hc hf
    refine lv_iload_n hx hb dX1_rate_8 rfl (lv_at hl 2 rfl) ?_
    refine lv_i2l hx hb dX1_rate_9 rfl ?_
    refine lv_lconst (v := (1 : Int64)) hx hb dX1_rate_10 (by decide) ?_
    refine lv_ldc2 hx hb hown (hts _ q959) dX1_rate_11 ?_
    obtain ⟨x5, t6, e7, hf⟩ := gw_b0E hf
    refine gw_cSi (As := [.long (a2.toInt64), .long (1 : Int64), .long (1024 : Int64)]) (rest := []) C hml hP hS (mx_X1_isIn (l := l) (K := K) hA _ _ _ _ _ _ e7) (va_cwS 3 hts (lw_S q457 q458 q101 q459) rfl rfl rfl hdX1_isIn ⟨Nat.le_of_ble_eq_true rfl, Nat.le_of_ble_eq_true rfl⟩) rfl hl.1 rfl (Nat.le_of_ble_eq_true rfl) (Nat.le.intro hk) (Nat.le.intro hn) dX1_rate_14 (fun H locs hP hS => ?_)
    refine lv_if_ne (tgt := 22) hx hb dX1_rate_17 (by decide) (fun hc => ?_) (fun hc => ?_)
    · have hf := tw_ifF hc hf
      refine lv_aload_n hx hb dX1_rate_22 rfl (lv_at hl 0 rfl) ?_
      obtain ⟨x8, t9, c9, s9, C9, S9, e10, hf, hk, hn⟩ := gw_bcE hf hk hn
      refine gw_cVv (As := []) (rest := []) (ci := 0) (T := TX1) (N := 18) C hml hP hS rfl (gw_onE e10).1 (mx_X1_canUndo (l := l) (K := K) hA _ _ _ _ _ _ (gw_onE e10).2) (cwV 0 hts (lw_V q847 q849 qs15 q101 q850) rfl rfl rfl hdX1_canUndo ⟨Nat.le_of_ble_eq_true rfl, Nat.le_of_ble_eq_true rfl⟩) rfl hl.1 rfl (Nat.le_of_ble_eq_true rfl) (Nat.le.intro hk) (Nat.le.intro hn) dX1_rate_23 (fun H locs hP hS => ?_)
      refine lv_aload_n hx hb dX1_rate_26 rfl (lv_at hl 0 rfl) ?_
      obtain ⟨x11, t12, e13, hf⟩ := gw_b0E hf
      refine gw_rget (ci := 0) (k := 11) (T := TX1) C hP rfl in_X1 (by decide) e13 q404 rfl dX1_rate_27 (fun hP => ?_)
      obtain ⟨x14, t15, e16, hf⟩ := gw_b0E hf
      refine gw_rgetN (ci := 2) (k := 3) (T := TX3) C hP rfl in_X3 (by decide) e16 q358 rfl dX1_rate_30 (fun hP => ?_)
      refine lv_iload_n hx hb dX1_rate_33 rfl (lv_at hl 1 rfl) ?_
      obtain ⟨x17, t18, e19, hf⟩ := gw_b0E hf
      refine gw_aald C hP rfl e19 dX1_rate_34 (fun hP => ?_)
      refine lv_astore_n (lv' := [(3, .ref x17), (0, .ref a0), (1, .int a1), (2, .int a2)]) hx hb dX1_rate_35 rfl hl (by decide) rfl (fun ls hl => ?_)
      refine lv_aload_n hx hb dX1_rate_36 rfl (lv_at hl 0 rfl) ?_
      obtain ⟨x20, t21, e22, hf⟩ := gw_b0E hf
      refine gw_igetN (ci := 4) (k := 0) (T := TX5) C hP rfl in_X5 (by decide) e22 q297 rfl dX1_rate_37 (fun hP => ?_)
      refine lv_istore (lv' := [(4, .int x20), (3, .ref x17), (0, .ref a0), (1, .int a1), (2, .int a2)]) hx hb dX1_rate_40 hl (by decide) rfl (fun ls hl => ?_)
      refine lv_aload_n hx hb dX1_rate_42 rfl (lv_at hl 1 rfl) ?_
      refine lv_iload_n hx hb dX1_rate_43 rfl (lv_at hl 4 rfl) ?_
      obtain ⟨x23, t24, e25, hf⟩ := gw_b0E hf
      refine gw_vputN (ci := 4) (k := 0) (T := TX5) C hP hS rfl in_X5 tyX5 tyX5_ok nmX5 (by decide) e25 q297 rfl rfl (vp_nar_int _) rfl dX1_rate_44 (fun H locs hP hS => ?_)
      refine lv_aload_n hx hb dX1_rate_47 rfl (lv_at hl 1 rfl) ?_
      refine lv_iload_n hx hb dX1_rate_48 rfl (lv_at hl 4 rfl) ?_
      obtain ⟨x26, t27, e28, hf⟩ := gw_b0E hf
      refine gw_vputN (ci := 4) (k := 1) (T := TX5) C hP hS rfl in_X5 tyX5 tyX5_ok nmX5 (by decide) e28 q299 rfl rfl (vp_nar_int _) rfl dX1_rate_49 (fun H locs hP hS => ?_)
      refine lv_iload hx hb dX1_rate_52 (lv_at hl 0 rfl) ?_
      obtain ⟨h1, h2, h3, h4⟩ := gw_rcE hf hk hn
      exact gw_ireti h1 h2 h3 h4 C hr hP hS hlk dX1_rate_54
    · have hf := tw_ifT hc hf
      exact k20 _ _ _ _ _ _ _ _ hP hS hk hn (lv_sub hl [] rfl) hf
def fx_X1_safe_J43 (sf4 : Int32 → Int32 → HM Int32) (v4_2 : Int32) (v43_1 : Int32) : HM Int32 :=
  sf4 v43_1 (v4_2 + (1 : Int32))
def fx_X1_safe_L4 (a0 : Nat) (sf4 : Int32 → Int32 → HM Int32) (v4_1 : Int32) (v4_2 : Int32) : HM Int32 :=
  tw_bd (gw_gr 0 4 a0) fun x2 =>
  tw_bd (gw_gi 1 2 x2) fun x5 =>
  if x5 ≤ v4_2 then (tw_rt v4_1)
  else (tw_bd (gw_on 0 a0 (fx_X1_headroomOf a0 v4_2)) fun x8 =>
  tw_bd (gw_gr 0 11 a0) fun x11 =>
  tw_bd (gw_gr 2 2 x11) fun x14 =>
  tw_bd (gw_lr 6 x14 v4_2) fun x17 =>
  tw_bd (gw_gi 3 3 x17) fun x20 =>
  if x20 < x8 then (fx_X1_safe_J43 sf4 v4_2 v4_1)
  else ( tw_bd (gw_bt v4_2) fun x24 =>
 
  fx_X1_safe_J43 sf4 v4_2 (v4_1 ||| x24)))
def fx_X1_safe (a0 : Nat) : HM Int32 :=
  tw_lp (fx_X1_safe_L4 a0) (fun _ _ _ => none) tw_fu (0 : Int32) (0 : Int32)
theorem hdX1_safe : yX1_safe.cls = "LosslessFabric" ∧ (yX1_safe.cls ≠ "java/lang/invoke/MethodHandle" ∧ yX1_safe.cls ≠ "java/lang/invoke/VarHandle" ∧ (parseMethodDescriptor yX1_safe.desc).map (fun d => d.parameters.length) = some 0) := by decide +kernel
set_option maxHeartbeats 4000000 in
theorem mx_X1_safe {l : Launch} {K : GK} (hA : gw_A K) (a0 : Nat) (t0 tZ : Hp) (r : Int32) (hf : fx_X1_safe a0 t0 = some (r, tZ)) : Met l yX1_safe (ws_ yX1_safe cX1_safe 3 (some (.int))) ({ frames := 3, cells := 0, slots := 0, locals := 33 }) (va_Pc [.ref a0] (gw_W K t0)) (gw_Qi K r tZ) 0 0 K.2.2.2.1 := by
  refine Met.ofW (cc := cX1_safe) (maxL := 3) (ret := some (.int)) (by decide) rfl ?_
  intro p e s m args below meth c s₁ B hml hv
  obtain ⟨rfl, hP, hK, hX, hN, hL⟩ := hv
  have hx := B.exec
  have hb := B.bytes
  have hr := B.returns
  have hts := atoms_spec (ws := (ws_ yX1_safe cX1_safe 3 (some (.int)))) B.pre
  have hts : ∀ w ∈ lw_all, w.before _ s = true := fun w h => hts w (List.mem_cons_of_mem _ h)
  have hown : s.vm.findClass "LosslessFabric" = some m.cls := findClass_of_methodNamed B.named
  have hlk := B.notSynchronized
  have C : gw_C K "LosslessFabric" p s m _ c cX1_safe := ⟨hx, hb, hts, hown, hK, hA, hX, hN, hL⟩
  have hS : va_S K.2.2.2.1 s.heap s.heap [] := va_S.rf
  have hl := lv_entry ([.ref a0]) (n := 3) (Nat.le_of_ble_eq_true rfl)
  rw [lg_entry_eq]
  generalize (lg_sl ([.ref a0]) ++ List.replicate (3 - (lg_sl ([.ref a0])).length) Slot.unset).toArray = ls at hl ⊢
  have hl : lv_has ls 3 [(0, .ref a0)] := hl
  unfold fx_X1_safe at hf
  refine lv_iconst (v := (0 : Int32)) hx hb dX1_safe_0 (by decide) ?_
  refine lv_istore_n (lv' := [(1, .int (0 : Int32)), (0, .ref a0)]) hx hb dX1_safe_1 rfl hl (by decide) rfl (fun ls hl => ?_)
  refine lv_iconst (v := (0 : Int32)) hx hb dX1_safe_2 (by decide) ?_
  refine lv_istore_n (lv' := [(2, .int (0 : Int32)), (1, .int (0 : Int32)), (0, .ref a0)]) hx hb dX1_safe_3 rfl hl (by decide) rfl (fun ls hl => ?_)
  have k4 : ∀ (n : Nat) (v4_1 : Int32) (v4_2 : Int32) (t1 : Hp) (H : Heap) (locs : List Loc) (ls : Array Slot), gw_P K t1 H → va_S K.2.2.2.1 s.heap H locs → lv_has ls 3 [(0, .ref a0), (1, .int v4_1), (2, .int v4_2)] → tw_lp (fx_X1_safe_L4 a0) (fun _ _ _ => none) n v4_1 v4_2 t1 = some (r, tZ) → W p l e (headSpec (ws_ yX1_safe cX1_safe 3 (some (.int))) ({ frames := 3, cells := 0, slots := 0, locals := 33 })).room s m ([.ref a0] : List Value).toArray below meth c H locs 0 0 (MQ below (gw_Qi K r tZ) ([.ref a0] : List Value).toArray s 0 0 K.2.2.2.1) (F0 m 4 ls []) := by
    intro n
    induction n with
    | zero => intro v4_1 v4_2 t1 H locs ls hP hS hl hf; exact (tw_no hf).elim
    | succ n ih4 =>
      intro v4_1 v4_2 t1 H locs ls hP hS hl hf
      obtain ⟨sf4, hs4⟩ : ∃ f, f = tw_lp (fx_X1_safe_L4 a0) (fun _ _ _ => none) n := ⟨_, rfl⟩
      rw [← hs4] at ih4
      have hf : fx_X1_safe_L4 a0 sf4 v4_1 v4_2 t1 = some (r, tZ) := by rw [hs4]; exact hf
      clear hs4
      unfold fx_X1_safe_L4 at hf
      refine lv_iload_n hx hb dX1_safe_4 rfl (lv_at hl 2 rfl) ?_
      refine lv_aload_n hx hb dX1_safe_5 rfl (lv_at hl 0 rfl) ?_
      obtain ⟨x2, t3, e4, hf⟩ := tw_bdE hf
      refine gw_rget (ci := 0) (k := 4) (T := TX1) C hP rfl in_X1 (by decide) e4 q394 rfl dX1_safe_6 (fun hP => ?_)
      obtain ⟨x5, t6, e7, hf⟩ := tw_bdE hf
      refine gw_igetN (ci := 1) (k := 2) (T := TX2) C hP rfl in_X2 (by decide) e7 q160 rfl dX1_safe_9 (fun hP => ?_)
      refine lv_icmp_ge (tgt := 49) hx hb dX1_safe_12 (by decide) (fun hc => ?_) (fun hc => ?_)
      · have hf := tw_ifT hc hf
        refine lv_iload_n hx hb dX1_safe_49 rfl (lv_at hl 1 rfl) ?_
        exact gw_ireti (tw_rtE hf).1 (tw_rtE hf).2 rfl rfl C hr hP hS hlk dX1_safe_50
      · have hf := tw_ifF hc hf
        refine lv_aload_n hx hb dX1_safe_15 rfl (lv_at hl 0 rfl) ?_
        refine lv_iload_n hx hb dX1_safe_16 rfl (lv_at hl 2 rfl) ?_
        obtain ⟨x8, t9, e10, hf⟩ := tw_bdE hf
        refine gw_cVi (As := [.int v4_2]) (rest := []) (ci := 0) (T := TX1) (N := 18) C hml hP hS rfl (gw_onE e10).1 (mx_X1_headroomOf (l := l) (K := K) hA _ _ _ _ _ (gw_onE e10).2) (cwV 1 hts (lw_V q1007 q1009 qs23 q101 q1010) rfl rfl rfl hdX1_headroomOf ⟨Nat.le_of_ble_eq_true rfl, Nat.le_of_ble_eq_true rfl⟩) rfl hl.1 rfl (Nat.le_of_ble_eq_true rfl) (Nat.zero_le _) (Nat.zero_le _) dX1_safe_17 (fun H locs hP hS => ?_)
        refine lv_aload_n hx hb dX1_safe_20 rfl (lv_at hl 0 rfl) ?_
        obtain ⟨x11, t12, e13, hf⟩ := tw_bdE hf
        refine gw_rget (ci := 0) (k := 11) (T := TX1) C hP rfl in_X1 (by decide) e13 q404 rfl dX1_safe_21 (fun hP => ?_)
        obtain ⟨x14, t15, e16, hf⟩ := tw_bdE hf
        refine gw_rgetN (ci := 2) (k := 2) (T := TX3) C hP rfl in_X3 (by decide) e16 q355 rfl dX1_safe_24 (fun hP => ?_)
        refine lv_iload_n hx hb dX1_safe_27 rfl (lv_at hl 2 rfl) ?_
        obtain ⟨x17, t18, e19, hf⟩ := tw_bdE hf
        refine gw_aald C hP rfl e19 dX1_safe_28 (fun hP => ?_)
        obtain ⟨x20, t21, e22, hf⟩ := tw_bdE hf
        refine gw_igetN (ci := 3) (k := 3) (T := TX4) C hP rfl in_X4 (by decide) e22 q246 rfl dX1_safe_29 (fun hP => ?_)
        have k43 : ∀ (v43_1 : Int32) (t23 : Hp) (H : Heap) (locs : List Loc) (ls : Array Slot), gw_P K t23 H → va_S K.2.2.2.1 s.heap H locs → lv_has ls 3 [(0, .ref a0), (1, .int v43_1), (2, .int v4_2)] → fx_X1_safe_J43 sf4 v4_2 v43_1 t23 = some (r, tZ) → W p l e (headSpec (ws_ yX1_safe cX1_safe 3 (some (.int))) ({ frames := 3, cells := 0, slots := 0, locals := 33 })).room s m ([.ref a0] : List Value).toArray below meth c H locs 0 0 (MQ below (gw_Qi K r tZ) ([.ref a0] : List Value).toArray s 0 0 K.2.2.2.1) (F0 m 43 ls []) := by
          intro v43_1 t23 H locs ls hP hS hl hf
          unfold fx_X1_safe_J43 at hf
          refine lv_iinc (v := (v4_2 + (1 : Int32))) (lv' := [(2, .int (v4_2 + (1 : Int32))), (0, .ref a0), (1, .int v43_1)]) hx hb dX1_safe_43 hl (k := 2) rfl rfl (by decide) rfl (fun ls hl => ?_)
          refine lv_goto (tgt := 4) hx hb dX1_safe_46 (by decide) ?_
          exact ih4 _ _ _ _ _ _ hP hS (lv_sub hl [1, 2, 0] rfl) hf
        refine lv_icmp_gt (tgt := 43) hx hb dX1_safe_32 (by decide) (fun hc => ?_) (fun hc => ?_)
        · have hf := tw_ifT hc hf
          exact k43 _ _ _ _ _ hP hS (lv_sub hl [0, 1, 2] rfl) hf
        · have hf := tw_ifF hc hf
          refine lv_iload_n hx hb dX1_safe_35 rfl (lv_at hl 1 rfl) ?_
          refine va_gets hx hb hX.2.2.2.2.2.1 hS hown (hts _ q1015) (fun _ h => h) dX1_safe_36 ?_
          refine lv_iload_n hx hb dX1_safe_39 rfl (lv_at hl 2 rfl) ?_
          obtain ⟨x24, t25, e26, hf⟩ := tw_bdE hf
          refine gw_bits C hS e26 dX1_safe_40 (fun ht => ?_)
          rw [ht] at hP
          refine lv_ior hx hb dX1_safe_41 ?_
          refine lv_istore_n (lv' := [(1, .int (v4_1 ||| x24)), (0, .ref a0), (2, .int v4_2)]) hx hb dX1_safe_42 rfl hl (by decide) rfl (fun ls hl => ?_)
          exact k43 _ _ _ _ _ hP hS (lv_sub hl [1, 0, 2] rfl) hf
  exact k4 _ _ _ _ _ _ _ hP hS (lv_sub hl [2, 1, 0] rfl) hf
def fx_X1_size_J20   : gM Int32 :=
  gw_rc (-1 : Int32)
def fx_X1_size (a0 : Nat) (a1 : Int32) (a2 : Int32) : gM Int32 :=
  gw_bc (gw_on 0 a0 (fx_X1_isLink a0 a1)) fun x1 =>
  if x1 = 0 then (fx_X1_size_J20)
  else (gw_b0 (fx_X1_isIn (a2.toInt64) (1 : Int64) (1999 : Int64)) fun x5 =>
  if x5 = 0 then (fx_X1_size_J20)
  else (gw_bc (gw_on 0 a0 (fx_X1_canUndo a0)) fun _ =>
  gw_b0 (gw_gr 0 11 a0) fun x11 =>
  gw_b0 (gw_gr 2 2 x11) fun x14 =>
  gw_b0 (gw_lr 6 x14 a1) fun x17 =>
  gw_b0 (gw_gi 3 3 x17) fun x20 =>
  gw_b0 (gw_gr 0 11 a0) fun x23 =>
  gw_b0 (gw_gr 2 2 x23) fun x26 =>
  gw_b0 (gw_lr 6 x26 a1) fun x29 =>
  gw_b0 (gw_pi 3 3 x29 a2) fun _ =>
  gw_rc x20))
theorem hdX1_size : yX1_size.cls = "LosslessFabric" ∧ (yX1_size.cls ≠ "java/lang/invoke/MethodHandle" ∧ yX1_size.cls ≠ "java/lang/invoke/VarHandle" ∧ (parseMethodDescriptor yX1_size.desc).map (fun d => d.parameters.length) = some 2) := by decide +kernel
set_option maxHeartbeats 4000000 in
theorem mx_X1_size {l : Launch} {K : GK} (hA : gw_A K) (a0 : Nat) (a1 : Int32) (a2 : Int32) (t0 tZ : Hp) (r : Int32) (C0 S0 : Nat) (hf : fx_X1_size a0 a1 a2 t0 = some (r, tZ, C0, S0)) : Met l yX1_size (ws_ yX1_size cX1_size 4 (some (.int))) ({ frames := 5, cells := C0, slots := S0, locals := 124 }) (va_Pc [.ref a0, .int a1, .int a2] (gw_W K t0)) (gw_Qi K r tZ) C0 S0 K.2.2.2.1 := by
  refine Met.ofW (cc := cX1_size) (maxL := 4) (ret := some (.int)) (by decide) rfl ?_
  intro p e s m args below meth c s₁ B hml hv
  obtain ⟨rfl, hP, hK, hX, hN, hL⟩ := hv
  have hx := B.exec
  have hb := B.bytes
  have hr := B.returns
  have hts := atoms_spec (ws := (ws_ yX1_size cX1_size 4 (some (.int)))) B.pre
  have hts : ∀ w ∈ lw_all, w.before _ s = true := fun w h => hts w (List.mem_cons_of_mem _ h)
  have hown : s.vm.findClass "LosslessFabric" = some m.cls := findClass_of_methodNamed B.named
  have hlk := B.notSynchronized
  have C : gw_C K "LosslessFabric" p s m _ c cX1_size := ⟨hx, hb, hts, hown, hK, hA, hX, hN, hL⟩
  have hk : 0 + C0 = C0 := Nat.zero_add _
  have hn : 0 + S0 = S0 := Nat.zero_add _
  have hS : va_S K.2.2.2.1 s.heap s.heap [] := va_S.rf
  have hl := lv_entry ([.ref a0, .int a1, .int a2]) (n := 4) (Nat.le_of_ble_eq_true rfl)
  rw [lg_entry_eq]
  generalize (lg_sl ([.ref a0, .int a1, .int a2]) ++ List.replicate (4 - (lg_sl ([.ref a0, .int a1, .int a2])).length) Slot.unset).toArray = ls at hl ⊢
  have hl : lv_has ls 4 [(0, .ref a0), (1, .int a1), (2, .int a2)] := hl
  unfold fx_X1_size at hf
  refine lv_aload_n hx hb dX1_size_0 rfl (lv_at hl 0 rfl) ?_
  refine lv_iload_n hx hb dX1_size_1 rfl (lv_at hl 1 rfl) ?_
  obtain ⟨x1, t2, c2, s2, C2, S2, e3, hf, hk, hn⟩ := gw_bcE hf hk hn
  refine gw_cVi (As := [.int a1]) (rest := []) (ci := 0) (T := TX1) (N := 18) C hml hP hS rfl (gw_onE e3).1 (mx_X1_isLink (l := l) (K := K) hA _ _ _ _ _ _ _ (gw_onE e3).2) (cwV 1 hts (lw_V q968 q970 qs22 q101 q971) rfl rfl rfl hdX1_isLink ⟨Nat.le_of_ble_eq_true rfl, Nat.le_of_ble_eq_true rfl⟩) rfl hl.1 rfl (Nat.le_of_ble_eq_true rfl) (Nat.le.intro hk) (Nat.le.intro hn) dX1_size_2 (fun H locs hP hS => ?_)
  have k20 : ∀  (t4 : Hp) (k4 n4 C4 S4 : Nat) (H : Heap) (locs : List Loc) (ls : Array Slot), gw_P K t4 H → va_S K.2.2.2.1 s.heap H locs → k4 + C4 = C0 → n4 + S4 = S0 → lv_has ls 4 [] → fx_X1_size_J20  t4 = some (r, tZ, C4, S4) → W p l e (headSpec (ws_ yX1_size cX1_size 4 (some (.int))) ({ frames := 5, cells := C0, slots := S0, locals := 124 })).room s m ([.ref a0, .int a1, .int a2] : List Value).toArray below meth c H locs k4 n4 (MQ below (gw_Qi K r tZ) ([.ref a0, .int a1, .int a2] : List Value).toArray s C0 S0 K.2.2.2.1) (F0 m 20 ls []) := by
    intro t4 k4 n4 C4 S4 H locs ls hP hS hk hn hl hf
    unfold fx_X1_size_J20 at hf
    refine lv_iconst (v := (-1 : Int32)) hx hb dX1_size_20 (by decide) ?_
    obtain ⟨h1, h2, h3, h4⟩ := gw_rcE hf hk hn
    exact gw_ireti h1 h2 h3 h4 C hr hP hS hlk dX1_size_21
  refine lv_if_eq (tgt := 20) hx hb dX1_size_5 (by decide) (fun hc => ?_) (fun hc => ?_)
  · have hf := tw_ifT hc hf
    exact k20 _ _ _ _ _ _ _ _ hP hS hk hn (lv_sub hl [] rfl) hf
  · have hf := tw_ifF hc hf
    refine lv_iload_n hx hb dX1_size_8 rfl (lv_at hl 2 rfl) ?_
    refine lv_i2l hx hb dX1_size_9 rfl ?_
    refine lv_lconst (v := (1 : Int64)) hx hb dX1_size_10 (by decide) ?_
    refine lv_ldc2 hx hb hown (hts _ q977) dX1_size_11 ?_
    obtain ⟨x5, t6, e7, hf⟩ := gw_b0E hf
    refine gw_cSi (As := [.long (a2.toInt64), .long (1 : Int64), .long (1999 : Int64)]) (rest := []) C hml hP hS (mx_X1_isIn (l := l) (K := K) hA _ _ _ _ _ _ e7) (va_cwS 3 hts (lw_S q457 q458 q101 q459) rfl rfl rfl hdX1_isIn ⟨Nat.le_of_ble_eq_true rfl, Nat.le_of_ble_eq_true rfl⟩) rfl hl.1 rfl (Nat.le_of_ble_eq_true rfl) (Nat.le.intro hk) (Nat.le.intro hn) dX1_size_14 (fun H locs hP hS => ?_)
    refine lv_if_ne (tgt := 22) hx hb dX1_size_17 (by decide) (fun hc => ?_) (fun hc => ?_)
    · have hf := tw_ifF hc hf
      refine lv_aload_n hx hb dX1_size_22 rfl (lv_at hl 0 rfl) ?_
      obtain ⟨x8, t9, c9, s9, C9, S9, e10, hf, hk, hn⟩ := gw_bcE hf hk hn
      refine gw_cVv (As := []) (rest := []) (ci := 0) (T := TX1) (N := 18) C hml hP hS rfl (gw_onE e10).1 (mx_X1_canUndo (l := l) (K := K) hA _ _ _ _ _ _ (gw_onE e10).2) (cwV 0 hts (lw_V q847 q849 qs15 q101 q850) rfl rfl rfl hdX1_canUndo ⟨Nat.le_of_ble_eq_true rfl, Nat.le_of_ble_eq_true rfl⟩) rfl hl.1 rfl (Nat.le_of_ble_eq_true rfl) (Nat.le.intro hk) (Nat.le.intro hn) dX1_size_23 (fun H locs hP hS => ?_)
      refine lv_aload_n hx hb dX1_size_26 rfl (lv_at hl 0 rfl) ?_
      obtain ⟨x11, t12, e13, hf⟩ := gw_b0E hf
      refine gw_rget (ci := 0) (k := 11) (T := TX1) C hP rfl in_X1 (by decide) e13 q404 rfl dX1_size_27 (fun hP => ?_)
      obtain ⟨x14, t15, e16, hf⟩ := gw_b0E hf
      refine gw_rgetN (ci := 2) (k := 2) (T := TX3) C hP rfl in_X3 (by decide) e16 q355 rfl dX1_size_30 (fun hP => ?_)
      refine lv_iload_n hx hb dX1_size_33 rfl (lv_at hl 1 rfl) ?_
      obtain ⟨x17, t18, e19, hf⟩ := gw_b0E hf
      refine gw_aald C hP rfl e19 dX1_size_34 (fun hP => ?_)
      obtain ⟨x20, t21, e22, hf⟩ := gw_b0E hf
      refine gw_igetN (ci := 3) (k := 3) (T := TX4) C hP rfl in_X4 (by decide) e22 q246 rfl dX1_size_35 (fun hP => ?_)
      refine lv_istore_n (lv' := [(3, .int x20), (0, .ref a0), (1, .int a1), (2, .int a2)]) hx hb dX1_size_38 rfl hl (by decide) rfl (fun ls hl => ?_)
      refine lv_aload_n hx hb dX1_size_39 rfl (lv_at hl 1 rfl) ?_
      obtain ⟨x23, t24, e25, hf⟩ := gw_b0E hf
      refine gw_rget (ci := 0) (k := 11) (T := TX1) C hP rfl in_X1 (by decide) e25 q404 rfl dX1_size_40 (fun hP => ?_)
      obtain ⟨x26, t27, e28, hf⟩ := gw_b0E hf
      refine gw_rgetN (ci := 2) (k := 2) (T := TX3) C hP rfl in_X3 (by decide) e28 q355 rfl dX1_size_43 (fun hP => ?_)
      refine lv_iload_n hx hb dX1_size_46 rfl (lv_at hl 2 rfl) ?_
      obtain ⟨x29, t30, e31, hf⟩ := gw_b0E hf
      refine gw_aald C hP rfl e31 dX1_size_47 (fun hP => ?_)
      refine lv_iload_n hx hb dX1_size_48 rfl (lv_at hl 3 rfl) ?_
      obtain ⟨x32, t33, e34, hf⟩ := gw_b0E hf
      refine gw_vputN (ci := 3) (k := 3) (T := TX4) C hP hS rfl in_X4 tyX4 tyX4_ok nmX4 (by decide) e34 q246 rfl rfl (vp_nar_int _) rfl dX1_size_49 (fun H locs hP hS => ?_)
      refine lv_iload_n hx hb dX1_size_52 rfl (lv_at hl 0 rfl) ?_
      obtain ⟨h1, h2, h3, h4⟩ := gw_rcE hf hk hn
      exact gw_ireti h1 h2 h3 h4 C hr hP hS hlk dX1_size_53
    · have hf := tw_ifT hc hf
      exact k20 _ _ _ _ _ _ _ _ hP hS hk hn (lv_sub hl [] rfl) hf
def fx_X1_stalls (a0 : Nat) : gM Int32 :=
  gw_bc (gw_on 0 a0 (fx_X1_tried a0 (0 : Int32))) fun x1 =>
  gw_bc (gw_n1 4 a0) fun x4 =>
  gw_bc (gw_on 0 a0 (fx_X1_until a0 x4)) fun x7 =>
  gw_rc x7
theorem hdX1_stalls : yX1_stalls.cls = "LosslessFabric" ∧ (yX1_stalls.cls ≠ "java/lang/invoke/MethodHandle" ∧ yX1_stalls.cls ≠ "java/lang/invoke/VarHandle" ∧ (parseMethodDescriptor yX1_stalls.desc).map (fun d => d.parameters.length) = some 0) := by decide +kernel
set_option maxHeartbeats 4000000 in
theorem mx_X1_stalls {l : Launch} {K : GK} (hA : gw_A K) (a0 : Nat) (t0 tZ : Hp) (r : Int32) (C0 S0 : Nat) (hf : fx_X1_stalls a0 t0 = some (r, tZ, C0, S0)) : Met l yX1_stalls (ws_ yX1_stalls cX1_stalls 1 (some (.int))) ({ frames := 14, cells := C0, slots := S0, locals := 3285 }) (va_Pc [.ref a0] (gw_W K t0)) (gw_Qi K r tZ) C0 S0 K.2.2.2.1 := by
  refine Met.ofW (cc := cX1_stalls) (maxL := 1) (ret := some (.int)) (by decide) rfl ?_
  intro p e s m args below meth c s₁ B hml hv
  obtain ⟨rfl, hP, hK, hX, hN, hL⟩ := hv
  have hx := B.exec
  have hb := B.bytes
  have hr := B.returns
  have hts := atoms_spec (ws := (ws_ yX1_stalls cX1_stalls 1 (some (.int)))) B.pre
  have hts : ∀ w ∈ lw_all, w.before _ s = true := fun w h => hts w (List.mem_cons_of_mem _ h)
  have hown : s.vm.findClass "LosslessFabric" = some m.cls := findClass_of_methodNamed B.named
  have hlk := B.notSynchronized
  have C : gw_C K "LosslessFabric" p s m _ c cX1_stalls := ⟨hx, hb, hts, hown, hK, hA, hX, hN, hL⟩
  have hk : 0 + C0 = C0 := Nat.zero_add _
  have hn : 0 + S0 = S0 := Nat.zero_add _
  have hS : va_S K.2.2.2.1 s.heap s.heap [] := va_S.rf
  have hl := lv_entry ([.ref a0]) (n := 1) (Nat.le_of_ble_eq_true rfl)
  rw [lg_entry_eq]
  generalize (lg_sl ([.ref a0]) ++ List.replicate (1 - (lg_sl ([.ref a0])).length) Slot.unset).toArray = ls at hl ⊢
  have hl : lv_has ls 1 [(0, .ref a0)] := hl
  unfold fx_X1_stalls at hf
  refine lv_aload_n hx hb dX1_stalls_0 rfl (lv_at hl 0 rfl) ?_
  refine lv_iconst (v := (0 : Int32)) hx hb dX1_stalls_1 (by decide) ?_
  obtain ⟨x1, t2, c2, s2, C2, S2, e3, hf, hk, hn⟩ := gw_bcE hf hk hn
  refine gw_cVr (As := [.int (0 : Int32)]) (rest := []) (ci := 0) (T := TX1) (N := 18) C hml hP hS rfl (gw_onE e3).1 (mx_X1_tried (l := l) (K := K) hA _ _ _ _ _ _ _ (gw_onE e3).2) (cwV 1 hts (lw_V q1202 q1204 qs34 q101 q1205) rfl rfl rfl hdX1_tried ⟨Nat.le_of_ble_eq_true rfl, Nat.le_of_ble_eq_true rfl⟩) rfl hl.1 rfl (Nat.le_of_ble_eq_true rfl) (Nat.le.intro hk) (Nat.le.intro hn) dX1_stalls_2 (fun H locs hP hS => ?_)
  refine lv_pop hx hb dX1_stalls_5 rfl ?_
  refine lv_aload_n hx hb dX1_stalls_6 rfl (lv_at hl 0 rfl) ?_
  refine lv_aload_n hx hb dX1_stalls_7 rfl (lv_at hl 0 rfl) ?_
  obtain ⟨x4, t5, c5, s5, C5, S5, e6, hf, hk, hn⟩ := gw_bcE hf hk hn
  refine gw_mk4 (rest := [.ref a0]) C (hml.trans hl.1.symm) B.named hP hS e6 (show 2 + 3072 ≤ _ from Nat.le_of_ble_eq_true rfl) (Nat.le.intro hk) (Nat.le.intro hn) dX1_stalls_8 (fun H hP hS => ?_)
  obtain ⟨x7, t8, c8, s8, C8, S8, e9, hf, hk, hn⟩ := gw_bcE hf hk hn
  refine gw_cVi (As := [.ref x4]) (rest := []) (ci := 0) (T := TX1) (N := 18) C hml hP hS rfl (gw_onE e9).1 (mx_X1_until (l := l) (K := K) hA _ _ _ _ _ _ _ (gw_onE e9).2) (cwV 1 hts (lw_V q1213 q1215 qs36 q101 q1216) rfl rfl rfl hdX1_until ⟨Nat.le_of_ble_eq_true rfl, Nat.le_of_ble_eq_true rfl⟩) rfl hl.1 rfl (Nat.le_of_ble_eq_true rfl) (Nat.le.intro hk) (Nat.le.intro hn) dX1_stalls_13 (fun H locs hP hS => ?_)
  obtain ⟨h1, h2, h3, h4⟩ := gw_rcE hf hk hn
  exact gw_ireti h1 h2 h3 h4 C hr hP hS hlk dX1_stalls_16
def fx_X7_see_J25  (w25_0 : Int32) : HM Int32 :=
  tw_rt w25_0
def fx_X7_see (a0 : Nat) (a1 : Int32) : HM Int32 :=
  tw_bd (gw_gi 6 0 a0) fun x1 =>
  if x1 ≤ a1 then (fx_X7_see_J25 (-1 : Int32))
  else (tw_bd (gw_gr 6 6 a0) fun x5 =>
  tw_bd (gw_gr 0 0 x5) fun x8 =>
  tw_bd (gw_ld 3 x8 a1) fun x11 =>
 
  fx_X7_see_J25 (x11 &&& (255 : Int32)))
theorem hdX7_see : yX7_see.cls = "LosslessFabric$Reader" ∧ (yX7_see.cls ≠ "java/lang/invoke/MethodHandle" ∧ yX7_see.cls ≠ "java/lang/invoke/VarHandle" ∧ (parseMethodDescriptor yX7_see.desc).map (fun d => d.parameters.length) = some 1) := by decide +kernel
set_option maxHeartbeats 4000000 in
theorem mx_X7_see {l : Launch} {K : GK} (hA : gw_A K) (a0 : Nat) (a1 : Int32) (t0 tZ : Hp) (r : Int32) (hf : fx_X7_see a0 a1 t0 = some (r, tZ)) : Met l yX7_see (ws_ yX7_see cX7_see 2 (some (.int))) ({ frames := 2, cells := 0, slots := 0, locals := 12 }) (va_Pc [.ref a0, .int a1] (gw_W K t0)) (gw_Qi K r tZ) 0 0 K.2.2.2.1 := by
  refine Met.ofW (cc := cX7_see) (maxL := 2) (ret := some (.int)) (by decide) rfl ?_
  intro p e s m args below meth c s₁ B hml hv
  obtain ⟨rfl, hP, hK, hX, hN, hL⟩ := hv
  have hx := B.exec
  have hb := B.bytes
  have hr := B.returns
  have hts := atoms_spec (ws := (ws_ yX7_see cX7_see 2 (some (.int)))) B.pre
  have hts : ∀ w ∈ lw_all, w.before _ s = true := fun w h => hts w (List.mem_cons_of_mem _ h)
  have hown : s.vm.findClass "LosslessFabric$Reader" = some m.cls := findClass_of_methodNamed B.named
  have hlk := B.notSynchronized
  have C : gw_C K "LosslessFabric$Reader" p s m _ c cX7_see := ⟨hx, hb, hts, hown, hK, hA, hX, hN, hL⟩
  have hS : va_S K.2.2.2.1 s.heap s.heap [] := va_S.rf
  have hl := lv_entry ([.ref a0, .int a1]) (n := 2) (Nat.le_of_ble_eq_true rfl)
  rw [lg_entry_eq]
  generalize (lg_sl ([.ref a0, .int a1]) ++ List.replicate (2 - (lg_sl ([.ref a0, .int a1])).length) Slot.unset).toArray = ls at hl ⊢
  have hl : lv_has ls 2 [(0, .ref a0), (1, .int a1)] := hl
  unfold fx_X7_see at hf
  refine lv_iload_n hx hb dX7_see_0 rfl (lv_at hl 1 rfl) ?_
  refine lv_aload_n hx hb dX7_see_1 rfl (lv_at hl 0 rfl) ?_
  obtain ⟨x1, t2, e3, hf⟩ := tw_bdE hf
  refine gw_iget (ci := 6) (k := 0) (T := TX7) C hP rfl in_X7 (by decide) e3 q606 rfl dX7_see_2 (fun hP => ?_)
  have k25 : ∀ (w25_0 : Int32) (t4 : Hp) (H : Heap) (locs : List Loc) (ls : Array Slot), gw_P K t4 H → va_S K.2.2.2.1 s.heap H locs → lv_has ls 2 [] → fx_X7_see_J25 w25_0 t4 = some (r, tZ) → W p l e (headSpec (ws_ yX7_see cX7_see 2 (some (.int))) ({ frames := 2, cells := 0, slots := 0, locals := 12 })).room s m ([.ref a0, .int a1] : List Value).toArray below meth c H locs 0 0 (MQ below (gw_Qi K r tZ) ([.ref a0, .int a1] : List Value).toArray s 0 0 K.2.2.2.1) (F0 m 25 ls [.int w25_0]) := by
    intro w25_0 t4 H locs ls hP hS hl hf
    unfold fx_X7_see_J25 at hf
    exact gw_ireti (tw_rtE hf).1 (tw_rtE hf).2 rfl rfl C hr hP hS hlk dX7_see_25
  refine lv_icmp_ge (tgt := 24) hx hb dX7_see_5 (by decide) (fun hc => ?_) (fun hc => ?_)
  · have hf := tw_ifT hc hf
    refine lv_iconst (v := (-1 : Int32)) hx hb dX7_see_24 (by decide) ?_
    exact k25 _ _ _ _ _ hP hS (lv_sub hl [] rfl) hf
  · have hf := tw_ifF hc hf
    refine lv_aload_n hx hb dX7_see_8 rfl (lv_at hl 0 rfl) ?_
    obtain ⟨x5, t6, e7, hf⟩ := tw_bdE hf
    refine gw_rget (ci := 6) (k := 6) (T := TX7) C hP rfl in_X7 (by decide) e7 q612 rfl dX7_see_9 (fun hP => ?_)
    obtain ⟨x8, t9, e10, hf⟩ := tw_bdE hf
    refine gw_rgetN (ci := 0) (k := 0) (T := TX1) C hP rfl in_X1 (by decide) e10 q390 rfl dX7_see_12 (fun hP => ?_)
    refine lv_iload_n hx hb dX7_see_15 rfl (lv_at hl 1 rfl) ?_
    obtain ⟨x11, t12, e13, hf⟩ := tw_bdE hf
    refine gw_bald C hP e13 dX7_see_16 (fun hP => ?_)
    refine lv_sipush (v := (255 : Int32)) hx hb dX7_see_17 (by decide) ?_
    refine lv_iand hx hb dX7_see_20 ?_
    refine lv_goto (tgt := 25) hx hb dX7_see_21 (by decide) ?_
    exact k25 _ _ _ _ _ hP hS (lv_sub hl [] rfl) hf
def fx_X7_isDigit (a0 : Nat) (a1 : Int32) : HM Int32 :=
  tw_bd (gw_on 6 a0 (fx_X7_see a0 a1)) fun x1 =>
  tw_bd (fx_X1_isIn (x1.toInt64) (48 : Int64) (57 : Int64)) fun x4 =>
  tw_rz x4
theorem hdX7_isDigit : yX7_isDigit.cls = "LosslessFabric$Reader" ∧ (yX7_isDigit.cls ≠ "java/lang/invoke/MethodHandle" ∧ yX7_isDigit.cls ≠ "java/lang/invoke/VarHandle" ∧ (parseMethodDescriptor yX7_isDigit.desc).map (fun d => d.parameters.length) = some 1) := by decide +kernel
set_option maxHeartbeats 4000000 in
theorem mx_X7_isDigit {l : Launch} {K : GK} (hA : gw_A K) (a0 : Nat) (a1 : Int32) (t0 tZ : Hp) (r : Int32) (hf : fx_X7_isDigit a0 a1 t0 = some (r, tZ)) : Met l yX7_isDigit (ws_ yX7_isDigit cX7_isDigit 2 (some (.boolean))) ({ frames := 3, cells := 0, slots := 0, locals := 37 }) (va_Pc [.ref a0, .int a1] (gw_W K t0)) (gw_Qi K r tZ) 0 0 K.2.2.2.1 := by
  refine Met.ofW (cc := cX7_isDigit) (maxL := 2) (ret := some (.boolean)) (by decide) rfl ?_
  intro p e s m args below meth c s₁ B hml hv
  obtain ⟨rfl, hP, hK, hX, hN, hL⟩ := hv
  have hx := B.exec
  have hb := B.bytes
  have hr := B.returns
  have hts := atoms_spec (ws := (ws_ yX7_isDigit cX7_isDigit 2 (some (.boolean)))) B.pre
  have hts : ∀ w ∈ lw_all, w.before _ s = true := fun w h => hts w (List.mem_cons_of_mem _ h)
  have hown : s.vm.findClass "LosslessFabric$Reader" = some m.cls := findClass_of_methodNamed B.named
  have hlk := B.notSynchronized
  have C : gw_C K "LosslessFabric$Reader" p s m _ c cX7_isDigit := ⟨hx, hb, hts, hown, hK, hA, hX, hN, hL⟩
  have hS : va_S K.2.2.2.1 s.heap s.heap [] := va_S.rf
  have hl := lv_entry ([.ref a0, .int a1]) (n := 2) (Nat.le_of_ble_eq_true rfl)
  rw [lg_entry_eq]
  generalize (lg_sl ([.ref a0, .int a1]) ++ List.replicate (2 - (lg_sl ([.ref a0, .int a1])).length) Slot.unset).toArray = ls at hl ⊢
  have hl : lv_has ls 2 [(0, .ref a0), (1, .int a1)] := hl
  unfold fx_X7_isDigit at hf
  refine lv_aload_n hx hb dX7_isDigit_0 rfl (lv_at hl 0 rfl) ?_
  refine lv_iload_n hx hb dX7_isDigit_1 rfl (lv_at hl 1 rfl) ?_
  obtain ⟨x1, t2, e3, hf⟩ := tw_bdE hf
  refine gw_cVi (As := [.int a1]) (rest := []) (ci := 6) (T := TX7) (N := 7) C hml hP hS rfl (gw_onE e3).1 (mx_X7_see (l := l) (K := K) hA _ _ _ _ _ (gw_onE e3).2) (cwV 1 hts (lw_V q475 q477 qs3 q107 q478) rfl rfl rfl hdX7_see ⟨Nat.le_of_ble_eq_true rfl, Nat.le_of_ble_eq_true rfl⟩) rfl hl.1 rfl (Nat.le_of_ble_eq_true rfl) (Nat.zero_le _) (Nat.zero_le _) dX7_isDigit_2 (fun H locs hP hS => ?_)
  refine lv_i2l hx hb dX7_isDigit_5 rfl ?_
  refine lv_ldc2 hx hb hown (hts _ q602) dX7_isDigit_6 ?_
  refine lv_ldc2 hx hb hown (hts _ q603) dX7_isDigit_9 ?_
  obtain ⟨x4, t5, e6, hf⟩ := tw_bdE hf
  refine gw_cKi (As := [.long (x1.toInt64), .long (48 : Int64), .long (57 : Int64)]) (rest := []) C hml hP hS (mx_X1_isIn (l := l) (K := K) hA _ _ _ _ _ _ e6) ⟨va_cnB 3 hts (lw_meth q459) rfl rfl rfl (hN _ q485 rfl) (hts _ q101) hdX1_isIn ⟨Nat.le_of_ble_eq_true rfl, Nat.le_of_ble_eq_true rfl⟩, hts _ q458, trivial⟩ rfl hl.1 rfl (Nat.le_of_ble_eq_true rfl) (Nat.zero_le _) (Nat.zero_le _) dX7_isDigit_12 (fun H locs hP hS => ?_)
  obtain ⟨h0, h1, h2⟩ := tw_rzE hf
  exact gw_iretz h0 h1 h2 rfl rfl C hr hP hS hlk dX7_isDigit_15
def fx_X7_isSmall (a0 : Nat) (a1 : Int32) : HM Int32 :=
  tw_bd (gw_on 6 a0 (fx_X7_see a0 a1)) fun x1 =>
  tw_bd (fx_X1_isIn (x1.toInt64) (97 : Int64) (122 : Int64)) fun x4 =>
  tw_rz x4
theorem hdX7_isSmall : yX7_isSmall.cls = "LosslessFabric$Reader" ∧ (yX7_isSmall.cls ≠ "java/lang/invoke/MethodHandle" ∧ yX7_isSmall.cls ≠ "java/lang/invoke/VarHandle" ∧ (parseMethodDescriptor yX7_isSmall.desc).map (fun d => d.parameters.length) = some 1) := by decide +kernel
set_option maxHeartbeats 4000000 in
theorem mx_X7_isSmall {l : Launch} {K : GK} (hA : gw_A K) (a0 : Nat) (a1 : Int32) (t0 tZ : Hp) (r : Int32) (hf : fx_X7_isSmall a0 a1 t0 = some (r, tZ)) : Met l yX7_isSmall (ws_ yX7_isSmall cX7_isSmall 2 (some (.boolean))) ({ frames := 3, cells := 0, slots := 0, locals := 37 }) (va_Pc [.ref a0, .int a1] (gw_W K t0)) (gw_Qi K r tZ) 0 0 K.2.2.2.1 := by
  refine Met.ofW (cc := cX7_isSmall) (maxL := 2) (ret := some (.boolean)) (by decide) rfl ?_
  intro p e s m args below meth c s₁ B hml hv
  obtain ⟨rfl, hP, hK, hX, hN, hL⟩ := hv
  have hx := B.exec
  have hb := B.bytes
  have hr := B.returns
  have hts := atoms_spec (ws := (ws_ yX7_isSmall cX7_isSmall 2 (some (.boolean)))) B.pre
  have hts : ∀ w ∈ lw_all, w.before _ s = true := fun w h => hts w (List.mem_cons_of_mem _ h)
  have hown : s.vm.findClass "LosslessFabric$Reader" = some m.cls := findClass_of_methodNamed B.named
  have hlk := B.notSynchronized
  have C : gw_C K "LosslessFabric$Reader" p s m _ c cX7_isSmall := ⟨hx, hb, hts, hown, hK, hA, hX, hN, hL⟩
  have hS : va_S K.2.2.2.1 s.heap s.heap [] := va_S.rf
  have hl := lv_entry ([.ref a0, .int a1]) (n := 2) (Nat.le_of_ble_eq_true rfl)
  rw [lg_entry_eq]
  generalize (lg_sl ([.ref a0, .int a1]) ++ List.replicate (2 - (lg_sl ([.ref a0, .int a1])).length) Slot.unset).toArray = ls at hl ⊢
  have hl : lv_has ls 2 [(0, .ref a0), (1, .int a1)] := hl
  unfold fx_X7_isSmall at hf
  refine lv_aload_n hx hb dX7_isSmall_0 rfl (lv_at hl 0 rfl) ?_
  refine lv_iload_n hx hb dX7_isSmall_1 rfl (lv_at hl 1 rfl) ?_
  obtain ⟨x1, t2, e3, hf⟩ := tw_bdE hf
  refine gw_cVi (As := [.int a1]) (rest := []) (ci := 6) (T := TX7) (N := 7) C hml hP hS rfl (gw_onE e3).1 (mx_X7_see (l := l) (K := K) hA _ _ _ _ _ (gw_onE e3).2) (cwV 1 hts (lw_V q475 q477 qs3 q107 q478) rfl rfl rfl hdX7_see ⟨Nat.le_of_ble_eq_true rfl, Nat.le_of_ble_eq_true rfl⟩) rfl hl.1 rfl (Nat.le_of_ble_eq_true rfl) (Nat.zero_le _) (Nat.zero_le _) dX7_isSmall_2 (fun H locs hP hS => ?_)
  refine lv_i2l hx hb dX7_isSmall_5 rfl ?_
  refine lv_ldc2 hx hb hown (hts _ q483) dX7_isSmall_6 ?_
  refine lv_ldc2 hx hb hown (hts _ q484) dX7_isSmall_9 ?_
  obtain ⟨x4, t5, e6, hf⟩ := tw_bdE hf
  refine gw_cKi (As := [.long (x1.toInt64), .long (97 : Int64), .long (122 : Int64)]) (rest := []) C hml hP hS (mx_X1_isIn (l := l) (K := K) hA _ _ _ _ _ _ e6) ⟨va_cnB 3 hts (lw_meth q459) rfl rfl rfl (hN _ q485 rfl) (hts _ q101) hdX1_isIn ⟨Nat.le_of_ble_eq_true rfl, Nat.le_of_ble_eq_true rfl⟩, hts _ q458, trivial⟩ rfl hl.1 rfl (Nat.le_of_ble_eq_true rfl) (Nat.zero_le _) (Nat.zero_le _) dX7_isSmall_12 (fun H locs hP hS => ?_)
  obtain ⟨h0, h1, h2⟩ := tw_rzE hf
  exact gw_iretz h0 h1 h2 rfl rfl C hr hP hS hlk dX7_isSmall_15
def fx_X7_key_J106 (v57_4 : Int32) (sf4 : Int32 → Int32 → HM Int32) (v32_3 : Int32) (v4_2 : Int32)  : HM Int32 :=
  if v57_4 = 0 then (sf4 (v32_3 + (1 : Int32)) (v4_2 + (1 : Int32)))
  else (tw_rt v4_2)
def fx_X7_key_J98 (sf57 : Int32 → Int32 → HM Int32) (v57_5 : Int32) (w98_0 : Int32) : HM Int32 :=
  sf57 w98_0 (v57_5 + (1 : Int32))
def fx_X7_key_L57 (v32_3 : Int32) (v4_1 : Int32) (sf4 : Int32 → Int32 → HM Int32) (v4_2 : Int32) (a0 : Nat) (sf57 : Int32 → Int32 → HM Int32) (v57_4 : Int32) (v57_5 : Int32) : HM Int32 :=
  if (v32_3 - v4_1) ≤ v57_5 then (fx_X7_key_J106 v57_4 sf4 v32_3 v4_2)
  else (if v57_4 = 0 then (fx_X7_key_J106 v57_4 sf4 v32_3 v4_2)
  else ( tw_bd (tw_ch 1 (v4_1 + v57_5)) fun x15 =>
  tw_bd (gw_gi 6 5 a0) fun x18 =>
  tw_bd (gw_on 6 a0 (fx_X7_see a0 (x18 + v57_5))) fun x21 =>
  if x15 = x21 then (fx_X7_key_J98 sf57 v57_5 (1 : Int32))
  else (fx_X7_key_J98 sf57 v57_5 (0 : Int32))))
def fx_X7_key_J52 (v32_3 : Int32) (v4_1 : Int32) (sf4 : Int32 → Int32 → HM Int32) (v4_2 : Int32) (a0 : Nat) (w52_0 : Int32) : HM Int32 :=
  tw_lp (fx_X7_key_L57 v32_3 v4_1 sf4 v4_2 a0) (fun _ _ _ => none) tw_fu w52_0 (0 : Int32)
def fx_X7_key_J32 (a0 : Nat) (v4_1 : Int32) (sf4 : Int32 → Int32 → HM Int32) (v4_2 : Int32) (v32_3 : Int32) : HM Int32 :=
  tw_bd (gw_gi 6 2 a0) fun x6 =>
  tw_bd (gw_gi 6 5 a0) fun x9 =>
  if (v32_3 - v4_1) = (x6 - x9) then (fx_X7_key_J52 v32_3 v4_1 sf4 v4_2 a0 (1 : Int32))
  else (fx_X7_key_J52 v32_3 v4_1 sf4 v4_2 a0 (0 : Int32))
def fx_X7_key_L4 (a0 : Nat) (sf4 : Int32 → Int32 → HM Int32) (v4_1 : Int32) (v4_2 : Int32) : HM Int32 :=
    if (gw_len 1) ≤ v4_1 then (tw_rt (-1 : Int32))
  else ( tw_bd (tw_ix v4_1) fun x2 =>
  if 0 ≤ x2 then (fx_X7_key_J32 a0 v4_1 sf4 v4_2 x2)
  else ( 
  fx_X7_key_J32 a0 v4_1 sf4 v4_2 (gw_len 1)))
def fx_X7_key (a0 : Nat) : HM Int32 :=
  tw_lp (fx_X7_key_L4 a0) (fun _ _ _ => none) tw_fu (0 : Int32) (0 : Int32)
theorem hdX7_key : yX7_key.cls = "LosslessFabric$Reader" ∧ (yX7_key.cls ≠ "java/lang/invoke/MethodHandle" ∧ yX7_key.cls ≠ "java/lang/invoke/VarHandle" ∧ (parseMethodDescriptor yX7_key.desc).map (fun d => d.parameters.length) = some 0) := by decide +kernel
set_option maxHeartbeats 4000000 in
theorem mx_X7_key {l : Launch} {K : GK} (hA : gw_A K) (a0 : Nat) (t0 tZ : Hp) (r : Int32) (hf : fx_X7_key a0 t0 = some (r, tZ)) : Met l yX7_key (ws_ yX7_key cX7_key 6 (some (.int))) ({ frames := 5, cells := 0, slots := 0, locals := 125 }) (va_Pc [.ref a0] (gw_W K t0)) (gw_Qi K r tZ) 0 0 K.2.2.2.1 := by
  refine Met.ofW (cc := cX7_key) (maxL := 6) (ret := some (.int)) (by decide) rfl ?_
  intro p e s m args below meth c s₁ B hml hv
  obtain ⟨rfl, hP, hK, hX, hN, hL⟩ := hv
  have hx := B.exec
  have hb := B.bytes
  have hr := B.returns
  have hts := atoms_spec (ws := (ws_ yX7_key cX7_key 6 (some (.int)))) B.pre
  have hts : ∀ w ∈ lw_all, w.before _ s = true := fun w h => hts w (List.mem_cons_of_mem _ h)
  have hown : s.vm.findClass "LosslessFabric$Reader" = some m.cls := findClass_of_methodNamed B.named
  have hlk := B.notSynchronized
  have C : gw_C K "LosslessFabric$Reader" p s m _ c cX7_key := ⟨hx, hb, hts, hown, hK, hA, hX, hN, hL⟩
  have hS : va_S K.2.2.2.1 s.heap s.heap [] := va_S.rf
  have hl := lv_entry ([.ref a0]) (n := 6) (Nat.le_of_ble_eq_true rfl)
  rw [lg_entry_eq]
  generalize (lg_sl ([.ref a0]) ++ List.replicate (6 - (lg_sl ([.ref a0])).length) Slot.unset).toArray = ls at hl ⊢
  have hl : lv_has ls 6 [(0, .ref a0)] := hl
  unfold fx_X7_key at hf
  refine lv_iconst (v := (0 : Int32)) hx hb dX7_key_0 (by decide) ?_
  refine lv_istore_n (lv' := [(1, .int (0 : Int32)), (0, .ref a0)]) hx hb dX7_key_1 rfl hl (by decide) rfl (fun ls hl => ?_)
  refine lv_iconst (v := (0 : Int32)) hx hb dX7_key_2 (by decide) ?_
  refine lv_istore_n (lv' := [(2, .int (0 : Int32)), (1, .int (0 : Int32)), (0, .ref a0)]) hx hb dX7_key_3 rfl hl (by decide) rfl (fun ls hl => ?_)
  have k4 : ∀ (n : Nat) (v4_1 : Int32) (v4_2 : Int32) (t1 : Hp) (H : Heap) (locs : List Loc) (ls : Array Slot), gw_P K t1 H → va_S K.2.2.2.1 s.heap H locs → lv_has ls 6 [(0, .ref a0), (1, .int v4_1), (2, .int v4_2)] → tw_lp (fx_X7_key_L4 a0) (fun _ _ _ => none) n v4_1 v4_2 t1 = some (r, tZ) → W p l e (headSpec (ws_ yX7_key cX7_key 6 (some (.int))) ({ frames := 5, cells := 0, slots := 0, locals := 125 })).room s m ([.ref a0] : List Value).toArray below meth c H locs 0 0 (MQ below (gw_Qi K r tZ) ([.ref a0] : List Value).toArray s 0 0 K.2.2.2.1) (F0 m 4 ls []) := by
    intro n
    induction n with
    | zero => intro v4_1 v4_2 t1 H locs ls hP hS hl hf; exact (tw_no hf).elim
    | succ n ih4 =>
      intro v4_1 v4_2 t1 H locs ls hP hS hl hf
      obtain ⟨sf4, hs4⟩ : ∃ f, f = tw_lp (fx_X7_key_L4 a0) (fun _ _ _ => none) n := ⟨_, rfl⟩
      rw [← hs4] at ih4
      have hf : fx_X7_key_L4 a0 sf4 v4_1 v4_2 t1 = some (r, tZ) := by rw [hs4]; exact hf
      clear hs4
      unfold fx_X7_key_L4 at hf
      refine lv_iload_n hx hb dX7_key_4 rfl (lv_at hl 1 rfl) ?_
      refine va_ldcS hx hb hown hX.2.1 dX7_key_5 ?_
      refine gx_len (k := 1) (rest := [.int v4_1]) hx hb hml hown hts hX hS (by decide) (cwV 0 hts (lw_V q495 q496 q497 q108 q498) rfl rfl rfl hdJ0_length ⟨Nat.le_of_ble_eq_true rfl, Nat.le_of_ble_eq_true rfl⟩) hl.1 (Nat.le_of_ble_eq_true rfl) ⟨(Nat.zero_le _), (Nat.zero_le _)⟩ dX7_key_7 ?_
      refine lv_icmp_ge (tgt := 123) hx hb dX7_key_10 (by decide) (fun hc => ?_) (fun hc => ?_)
      · have hf := tw_ifT hc hf
        refine lv_iconst (v := (-1 : Int32)) hx hb dX7_key_123 (by decide) ?_
        exact gw_ireti (tw_rtE hf).1 (tw_rtE hf).2 rfl rfl C hr hP hS hlk dX7_key_124
      · have hf := tw_ifF hc hf
        refine va_ldcS hx hb hown hX.2.1 dX7_key_13 ?_
        refine lv_bipush (v := (32 : Int32)) hx hb dX7_key_15 (by decide) ?_
        refine lv_iload_n hx hb dX7_key_17 rfl (lv_at hl 1 rfl) ?_
        obtain ⟨x2, t3, e4, hf⟩ := tw_bdE hf
        refine gx_ix (rest := []) hx hb hml hown hts hX hS e4 (cwV 2 hts (lw_V q505 q506 q507 q108 q508) rfl rfl rfl hdJ0_indexOf ⟨Nat.le_of_ble_eq_true rfl, Nat.le_of_ble_eq_true rfl⟩) hl.1 (Nat.le_of_ble_eq_true rfl) ⟨(Nat.zero_le _), (Nat.zero_le _)⟩ dX7_key_18 (fun ht => ?_)
        rw [ht] at hP
        refine lv_istore_n (lv' := [(3, .int x2), (0, .ref a0), (1, .int v4_1), (2, .int v4_2)]) hx hb dX7_key_21 rfl hl (by decide) rfl (fun ls hl => ?_)
        refine lv_iload_n hx hb dX7_key_22 rfl (lv_at hl 0 rfl) ?_
        have k32 : ∀ (v32_3 : Int32) (t5 : Hp) (H : Heap) (locs : List Loc) (ls : Array Slot), gw_P K t5 H → va_S K.2.2.2.1 s.heap H locs → lv_has ls 6 [(0, .ref a0), (1, .int v4_1), (2, .int v4_2), (3, .int v32_3)] → fx_X7_key_J32 a0 v4_1 sf4 v4_2 v32_3 t5 = some (r, tZ) → W p l e (headSpec (ws_ yX7_key cX7_key 6 (some (.int))) ({ frames := 5, cells := 0, slots := 0, locals := 125 })).room s m ([.ref a0] : List Value).toArray below meth c H locs 0 0 (MQ below (gw_Qi K r tZ) ([.ref a0] : List Value).toArray s 0 0 K.2.2.2.1) (F0 m 32 ls []) := by
          intro v32_3 t5 H locs ls hP hS hl hf
          unfold fx_X7_key_J32 at hf
          refine lv_iload_n hx hb dX7_key_32 rfl (lv_at hl 3 rfl) ?_
          refine lv_iload_n hx hb dX7_key_33 rfl (lv_at hl 1 rfl) ?_
          refine lv_isub hx hb dX7_key_34 ?_
          refine lv_aload_n hx hb dX7_key_35 rfl (lv_at hl 0 rfl) ?_
          obtain ⟨x6, t7, e8, hf⟩ := tw_bdE hf
          refine gw_iget (ci := 6) (k := 2) (T := TX7) C hP rfl in_X7 (by decide) e8 q608 rfl dX7_key_36 (fun hP => ?_)
          refine lv_aload_n hx hb dX7_key_39 rfl (lv_at hl 0 rfl) ?_
          obtain ⟨x9, t10, e11, hf⟩ := tw_bdE hf
          refine gw_iget (ci := 6) (k := 5) (T := TX7) C hP rfl in_X7 (by decide) e11 q611 rfl dX7_key_40 (fun hP => ?_)
          refine lv_isub hx hb dX7_key_43 ?_
          have k52 : ∀ (w52_0 : Int32) (t12 : Hp) (H : Heap) (locs : List Loc) (ls : Array Slot), gw_P K t12 H → va_S K.2.2.2.1 s.heap H locs → lv_has ls 6 [(0, .ref a0), (1, .int v4_1), (2, .int v4_2), (3, .int v32_3)] → fx_X7_key_J52 v32_3 v4_1 sf4 v4_2 a0 w52_0 t12 = some (r, tZ) → W p l e (headSpec (ws_ yX7_key cX7_key 6 (some (.int))) ({ frames := 5, cells := 0, slots := 0, locals := 125 })).room s m ([.ref a0] : List Value).toArray below meth c H locs 0 0 (MQ below (gw_Qi K r tZ) ([.ref a0] : List Value).toArray s 0 0 K.2.2.2.1) (F0 m 52 ls [.int w52_0]) := by
            intro w52_0 t12 H locs ls hP hS hl hf
            unfold fx_X7_key_J52 at hf
            refine lv_istore (lv' := [(4, .int w52_0), (0, .ref a0), (1, .int v4_1), (2, .int v4_2), (3, .int v32_3)]) hx hb dX7_key_52 hl (by decide) rfl (fun ls hl => ?_)
            refine lv_iconst (v := (0 : Int32)) hx hb dX7_key_54 (by decide) ?_
            refine lv_istore (lv' := [(5, .int (0 : Int32)), (4, .int w52_0), (0, .ref a0), (1, .int v4_1), (2, .int v4_2), (3, .int v32_3)]) hx hb dX7_key_55 hl (by decide) rfl (fun ls hl => ?_)
            have k57 : ∀ (n : Nat) (v57_4 : Int32) (v57_5 : Int32) (t13 : Hp) (H : Heap) (locs : List Loc) (ls : Array Slot), gw_P K t13 H → va_S K.2.2.2.1 s.heap H locs → lv_has ls 6 [(0, .ref a0), (1, .int v4_1), (2, .int v4_2), (3, .int v32_3), (4, .int v57_4), (5, .int v57_5)] → tw_lp (fx_X7_key_L57 v32_3 v4_1 sf4 v4_2 a0) (fun _ _ _ => none) n v57_4 v57_5 t13 = some (r, tZ) → W p l e (headSpec (ws_ yX7_key cX7_key 6 (some (.int))) ({ frames := 5, cells := 0, slots := 0, locals := 125 })).room s m ([.ref a0] : List Value).toArray below meth c H locs 0 0 (MQ below (gw_Qi K r tZ) ([.ref a0] : List Value).toArray s 0 0 K.2.2.2.1) (F0 m 57 ls []) := by
              intro n
              induction n with
              | zero => intro v57_4 v57_5 t13 H locs ls hP hS hl hf; exact (tw_no hf).elim
              | succ n ih57 =>
                intro v57_4 v57_5 t13 H locs ls hP hS hl hf
                obtain ⟨sf57, hs57⟩ : ∃ f, f = tw_lp (fx_X7_key_L57 v32_3 v4_1 sf4 v4_2 a0) (fun _ _ _ => none) n := ⟨_, rfl⟩
                rw [← hs57] at ih57
                have hf : fx_X7_key_L57 v32_3 v4_1 sf4 v4_2 a0 sf57 v57_4 v57_5 t13 = some (r, tZ) := by rw [hs57]; exact hf
                clear hs57
                unfold fx_X7_key_L57 at hf
                refine lv_iload hx hb dX7_key_57 (lv_at hl 5 rfl) ?_
                refine lv_iload_n hx hb dX7_key_59 rfl (lv_at hl 3 rfl) ?_
                refine lv_iload_n hx hb dX7_key_60 rfl (lv_at hl 1 rfl) ?_
                refine lv_isub hx hb dX7_key_61 ?_
                have k106 : ∀  (t14 : Hp) (H : Heap) (locs : List Loc) (ls : Array Slot), gw_P K t14 H → va_S K.2.2.2.1 s.heap H locs → lv_has ls 6 [(0, .ref a0), (2, .int v4_2), (3, .int v32_3), (4, .int v57_4)] → fx_X7_key_J106 v57_4 sf4 v32_3 v4_2  t14 = some (r, tZ) → W p l e (headSpec (ws_ yX7_key cX7_key 6 (some (.int))) ({ frames := 5, cells := 0, slots := 0, locals := 125 })).room s m ([.ref a0] : List Value).toArray below meth c H locs 0 0 (MQ below (gw_Qi K r tZ) ([.ref a0] : List Value).toArray s 0 0 K.2.2.2.1) (F0 m 106 ls []) := by
                  intro t14 H locs ls hP hS hl hf
                  unfold fx_X7_key_J106 at hf
                  refine lv_iload hx hb dX7_key_106 (lv_at hl 3 rfl) ?_
                  refine lv_if_eq (tgt := 113) hx hb dX7_key_108 (by decide) (fun hc => ?_) (fun hc => ?_)
                  · have hf := tw_ifT hc hf
                    refine lv_iload_n hx hb dX7_key_113 rfl (lv_at hl 2 rfl) ?_
                    refine lv_iconst (v := (1 : Int32)) hx hb dX7_key_114 (by decide) ?_
                    refine lv_iadd hx hb dX7_key_115 ?_
                    refine lv_istore_n (lv' := [(1, .int (v32_3 + (1 : Int32))), (0, .ref a0), (2, .int v4_2), (3, .int v32_3), (4, .int v57_4)]) hx hb dX7_key_116 rfl hl (by decide) rfl (fun ls hl => ?_)
                    refine lv_iinc (v := (v4_2 + (1 : Int32))) (lv' := [(2, .int (v4_2 + (1 : Int32))), (1, .int (v32_3 + (1 : Int32))), (0, .ref a0), (3, .int v32_3), (4, .int v57_4)]) hx hb dX7_key_117 hl (k := 2) rfl rfl (by decide) rfl (fun ls hl => ?_)
                    refine lv_goto (tgt := 4) hx hb dX7_key_120 (by decide) ?_
                    exact ih4 _ _ _ _ _ _ hP hS (lv_sub hl [2, 1, 0] rfl) hf
                  · have hf := tw_ifF hc hf
                    refine lv_iload_n hx hb dX7_key_111 rfl (lv_at hl 1 rfl) ?_
                    exact gw_ireti (tw_rtE hf).1 (tw_rtE hf).2 rfl rfl C hr hP hS hlk dX7_key_112
                refine lv_icmp_ge (tgt := 106) hx hb dX7_key_62 (by decide) (fun hc => ?_) (fun hc => ?_)
                · have hf := tw_ifT hc hf
                  exact k106 _ _ _ _ hP hS (lv_sub hl [0, 2, 3, 4] rfl) hf
                · have hf := tw_ifF hc hf
                  refine lv_iload hx hb dX7_key_65 (lv_at hl 4 rfl) ?_
                  refine lv_if_eq (tgt := 106) hx hb dX7_key_67 (by decide) (fun hc => ?_) (fun hc => ?_)
                  · have hf := tw_ifT hc hf
                    exact k106 _ _ _ _ hP hS (lv_sub hl [0, 2, 3, 4] rfl) hf
                  · have hf := tw_ifF hc hf
                    refine va_ldcS hx hb hown hX.2.1 dX7_key_70 ?_
                    refine lv_iload_n hx hb dX7_key_72 rfl (lv_at hl 1 rfl) ?_
                    refine lv_iload hx hb dX7_key_73 (lv_at hl 5 rfl) ?_
                    refine lv_iadd hx hb dX7_key_75 ?_
                    obtain ⟨x15, t16, e17, hf⟩ := tw_bdE hf
                    refine gx_ch (k := 1) (rest := []) hx hb hml hown hts hX hS (by decide) e17 (cwV 1 hts (lw_V q578 q579 q580 q108 q581) rfl rfl rfl hdJ0_charAt ⟨Nat.le_of_ble_eq_true rfl, Nat.le_of_ble_eq_true rfl⟩) hl.1 (Nat.le_of_ble_eq_true rfl) ⟨(Nat.zero_le _), (Nat.zero_le _)⟩ dX7_key_76 (fun ht => ?_)
                    rw [ht] at hP
                    refine lv_aload_n hx hb dX7_key_79 rfl (lv_at hl 0 rfl) ?_
                    refine lv_aload_n hx hb dX7_key_80 rfl (lv_at hl 0 rfl) ?_
                    obtain ⟨x18, t19, e20, hf⟩ := tw_bdE hf
                    refine gw_iget (ci := 6) (k := 5) (T := TX7) C hP rfl in_X7 (by decide) e20 q611 rfl dX7_key_81 (fun hP => ?_)
                    refine lv_iload hx hb dX7_key_84 (lv_at hl 5 rfl) ?_
                    refine lv_iadd hx hb dX7_key_86 ?_
                    obtain ⟨x21, t22, e23, hf⟩ := tw_bdE hf
                    refine gw_cVi (As := [.int (x18 + v57_5)]) (rest := [.int x15]) (ci := 6) (T := TX7) (N := 7) C hml hP hS rfl (gw_onE e23).1 (mx_X7_see (l := l) (K := K) hA _ _ _ _ _ (gw_onE e23).2) (cwV 1 hts (lw_V q475 q477 qs3 q107 q478) rfl rfl rfl hdX7_see ⟨Nat.le_of_ble_eq_true rfl, Nat.le_of_ble_eq_true rfl⟩) rfl hl.1 rfl (Nat.le_of_ble_eq_true rfl) (Nat.zero_le _) (Nat.zero_le _) dX7_key_87 (fun H locs hP hS => ?_)
                    have k98 : ∀ (w98_0 : Int32) (t24 : Hp) (H : Heap) (locs : List Loc) (ls : Array Slot), gw_P K t24 H → va_S K.2.2.2.1 s.heap H locs → lv_has ls 6 [(0, .ref a0), (1, .int v4_1), (2, .int v4_2), (3, .int v32_3), (5, .int v57_5)] → fx_X7_key_J98 sf57 v57_5 w98_0 t24 = some (r, tZ) → W p l e (headSpec (ws_ yX7_key cX7_key 6 (some (.int))) ({ frames := 5, cells := 0, slots := 0, locals := 125 })).room s m ([.ref a0] : List Value).toArray below meth c H locs 0 0 (MQ below (gw_Qi K r tZ) ([.ref a0] : List Value).toArray s 0 0 K.2.2.2.1) (F0 m 98 ls [.int w98_0]) := by
                      intro w98_0 t24 H locs ls hP hS hl hf
                      unfold fx_X7_key_J98 at hf
                      refine lv_istore (lv' := [(4, .int w98_0), (0, .ref a0), (1, .int v4_1), (2, .int v4_2), (3, .int v32_3), (5, .int v57_5)]) hx hb dX7_key_98 hl (by decide) rfl (fun ls hl => ?_)
                      refine lv_iinc (v := (v57_5 + (1 : Int32))) (lv' := [(5, .int (v57_5 + (1 : Int32))), (4, .int w98_0), (0, .ref a0), (1, .int v4_1), (2, .int v4_2), (3, .int v32_3)]) hx hb dX7_key_100 hl (k := 5) rfl rfl (by decide) rfl (fun ls hl => ?_)
                      refine lv_goto (tgt := 57) hx hb dX7_key_103 (by decide) ?_
                      exact ih57 _ _ _ _ _ _ hP hS (lv_sub hl [2, 3, 4, 5, 1, 0] rfl) hf
                    refine lv_icmp_ne (tgt := 97) hx hb dX7_key_90 (by decide) (fun hc => ?_) (fun hc => ?_)
                    · have hf := tw_ifF hc hf
                      refine lv_iconst (v := (0 : Int32)) hx hb dX7_key_97 (by decide) ?_
                      exact k98 _ _ _ _ _ hP hS (lv_sub hl [0, 1, 2, 3, 5] rfl) hf
                    · have hf := tw_ifT hc hf
                      refine lv_iconst (v := (1 : Int32)) hx hb dX7_key_93 (by decide) ?_
                      refine lv_goto (tgt := 98) hx hb dX7_key_94 (by decide) ?_
                      exact k98 _ _ _ _ _ hP hS (lv_sub hl [0, 1, 2, 3, 5] rfl) hf
            exact k57 _ _ _ _ _ _ _ hP hS (lv_sub hl [2, 3, 4, 5, 1, 0] rfl) hf
          refine lv_icmp_ne (tgt := 51) hx hb dX7_key_44 (by decide) (fun hc => ?_) (fun hc => ?_)
          · have hf := tw_ifF hc hf
            refine lv_iconst (v := (0 : Int32)) hx hb dX7_key_51 (by decide) ?_
            exact k52 _ _ _ _ _ hP hS (lv_sub hl [0, 1, 2, 3] rfl) hf
          · have hf := tw_ifT hc hf
            refine lv_iconst (v := (1 : Int32)) hx hb dX7_key_47 (by decide) ?_
            refine lv_goto (tgt := 52) hx hb dX7_key_48 (by decide) ?_
            exact k52 _ _ _ _ _ hP hS (lv_sub hl [0, 1, 2, 3] rfl) hf
        refine lv_if_ge (tgt := 32) hx hb dX7_key_23 (by decide) (fun hc => ?_) (fun hc => ?_)
        · have hf := tw_ifT hc hf
          exact k32 _ _ _ _ _ hP hS (lv_sub hl [1, 2, 3, 0] rfl) hf
        · have hf := tw_ifF hc hf
          refine va_ldcS hx hb hown hX.2.1 dX7_key_26 ?_
          refine gx_len (k := 1) (rest := []) hx hb hml hown hts hX hS (by decide) (cwV 0 hts (lw_V q495 q496 q497 q108 q498) rfl rfl rfl hdJ0_length ⟨Nat.le_of_ble_eq_true rfl, Nat.le_of_ble_eq_true rfl⟩) hl.1 (Nat.le_of_ble_eq_true rfl) ⟨(Nat.zero_le _), (Nat.zero_le _)⟩ dX7_key_28 ?_
          refine lv_istore_n (lv' := [(3, .int (gw_len 1)), (0, .ref a0), (1, .int v4_1), (2, .int v4_2)]) hx hb dX7_key_31 rfl hl (by decide) rfl (fun ls hl => ?_)
          exact k32 _ _ _ _ _ hP hS (lv_sub hl [1, 2, 3, 0] rfl) hf
  exact k4 _ _ _ _ _ _ _ hP hS (lv_sub hl [2, 1, 0] rfl) hf