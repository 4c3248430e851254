/-! arraycopy on cells: after the kit's va_copyi, va_copyq, with the other cells told to be as they were -/
section HzCopy
variable {p : Program} {l : Launch} {e : Env} {R : Room} {s : State} {m : MethodId} {args : Array Value} {below : List Frame} {meth : Method} {c : Code} {H : Heap} {locs : List Loc} {cells slots : Nat} {Q : State → Prop}
variable {cc : ByteArray} {pc : Nat} {ls : Array Slot} {rest : List Value} {A : Nat → Prop} {a a0 : Nat} {H0 : Heap}
theorem hz_nn (z : Int32) (hz : ¬ z < 0) : z.toInt = (z.toNatClampNeg : Int) := by
  have hz0 : (0 : Int) ≤ z.toInt := by
    have := Int32.not_lt.mp hz
    simpa using Int32.le_iff_toInt_le.mp this
  show z.toInt = ((z.toInt.toNat : Nat) : Int)
  omega
theorem hz_copyi (hexec : p.tables.exec = Jvm.exec) (hb : c.code = cc) (hml : c.maxLocals = ls.size) {own : String} {index : Nat} (hown : s.vm.findClass own = some m.cls) (hlink : (Cond.methodLink own index arraycopyName).before args s = true) (hnat : (Cond.native arraycopyName).before args s = true) (hstat : (Cond.static arraycopyName).before args s = true) (hini : (Cond.initialized "java/lang/System").before args s = true)
    {c0 c1 : ClassId} {n0 n1 : Nat} {f g : Nat → Int32} (ht0 : ArrOfT s c0 .int) (ht1 : ArrOfT s c1 .int) (hc0 : H[a0]? = some (vp_cell c0 (n0, .inl f))) (hc1 : H[a]? = some (vp_cell c1 (n1, .inl g))) (hS : va_S A H0 H locs) (hAa : A a)
    {sp dp n : Int32} (h1 : ¬ sp < 0) (h2 : ¬ dp < 0) (h3 : ¬ n < 0) (h4 : sp.toNatClampNeg + n.toNatClampNeg ≤ n0) (h5 : dp.toNatClampNeg + n.toNatClampNeg ≤ n1) 
    (hframes : 1 ≤ R.frames) (hlocals : (rest.map fun v => v.category).sum + (nativeFrameWords "java/lang/System" "arraycopy" 5 + 11) ≤ R.locals) (hdg : decode cc pc = .ok (.invokestatic index, 3))
    (kk : ∀ (H1 : Heap) (locs1 : List Loc), H1[a]? = some (vp_cell c1 (n1, .inl (va_cpy f g sp.toNatClampNeg dp.toNatClampNeg n.toNatClampNeg))) → (∀ q : Nat, q ≠ a → H1[q]? = H[q]?) → H1.size = H.size → va_S A H0 H1 locs1 → W p l e R s m args below meth c H1 locs1 cells slots Q (F0 m (pc + 3) ls rest)) : W p l e R s m args below meth c H locs cells slots Q (F0 m pc ls (.int n :: .int dp :: .ref a :: .int sp :: .ref a0 :: rest)) := by
  intro T hT X
  obtain ⟨-, k0, hk0, cm0, hkk0⟩ := ht0 n0 (fun j => .int (f j))
  obtain ⟨-, k1, hk1, cm1, hkk1⟩ := ht1 n1 (fun j => .int (g j))
  obtain ⟨vm', X', step⟩ := X.arraycopy hexec hown hlink hnat hstat hini (src := a0) (dst := a) (cs := vp_cell c0 (n0, .inl f)) (cd := vp_cell c1 (n1, .inl g)) (srcPos := sp) (destPos := dp) (n := n) (by rw [hT]; exact hc0) (by rw [hT]; exact hc1)
    (fun _ h => by cases h) (fun _ h => by cases h) (fun h => by cases h) (fun h => by cases h) hk0 hk1 hkk0 hkk1 rfl h1 h2 h3
    (by rw [hz_nn sp h1, hz_nn n h3]; show ¬ _ > ((arrV c0 n0 (fun j => .int (f j))).slots.size : Int); rw [arrV_size]; omega)
    (by rw [hz_nn dp h2, hz_nn n h3]; show ¬ _ > ((arrV c1 n1 (fun j => .int (g j))).slots.size : Int); rw [arrV_size]; omega)
    (fun vm₁ hal i hi => by
      have e : (vp_cell c0 (n0, .inl f)).slots.getD (sp.toNatClampNeg + i) .null = .int (f (sp.toNatClampNeg + i)) := by
        show (arrV c0 n0 (fun j => .int (f j))).slots.getD _ _ = _
        rw [Array.getD_eq_getD_getElem?, arrV_read _ _ (by omega)]
        rfl
      rw [e]
      exact ⟨rfl, trivial⟩)
    (g := F0 m pc ls (.int n :: .int dp :: .ref a :: .int sp :: .ref a0 :: rest)) rfl (by rw [hml]) (rest := rest) rfl (by rw [hb]; exact hdg) hframes (by show 2 * 0 + _ + _ ≤ _; omega)
  have e1 : copied (vp_cell c0 (n0, .inl f)) (vp_cell c1 (n1, .inl g)) sp dp n = vp_cell c1 (n1, .inl (va_cpy f g sp.toNatClampNeg dp.toNatClampNeg n.toNatClampNeg)) := by
    exact va_copied (fun z => .int z) c0 c1 f g h4
  rw [e1] at X' step
  have hl : a < H.size := (Array.getElem?_eq_some_iff.mp hc1).1
  generalize hcp : vp_cell c1 (n1, .inl (va_cpy f g sp.toNatClampNeg dp.toNatClampNeg n.toNatClampNeg)) = cp at X' step kk e1
  have hheap : ((T.setVm vm').setCell a cp).heap = H.setIfInBounds a cp := by rw [← hT]; rfl
  have oq : ∀ q : Nat, q ≠ a → (H.setIfInBounds a cp)[q]? = H[q]? := fun q hq => by simp [Array.getElem?_setIfInBounds, Ne.symm hq]
  obtain ⟨t, a1, b1⟩ := kk _ _ (by simp [Array.getElem?_setIfInBounds, hl]) oq (by simp) ⟨by simp; exact hS.1, fun q g1 g2 => by
      rw [oq q (fun e => g2 (by rw [e]; exact hAa))]
      exact hS.2.1 q g1 g2, fun q hq => by
      rcases List.mem_append.mp hq with h | h
      · exact hS.2.2 q h
      · obtain ⟨z, -, hz⟩ := List.mem_map.mp h
        rw [← hz]
        exact hAa⟩ _ hheap X'
  exact ⟨t, step t a1, b1⟩
theorem hz_copyq (hexec : p.tables.exec = Jvm.exec) (hb : c.code = cc) (hml : c.maxLocals = ls.size) {own : String} {index : Nat} (hown : s.vm.findClass own = some m.cls) (hlink : (Cond.methodLink own index arraycopyName).before args s = true) (hnat : (Cond.native arraycopyName).before args s = true) (hstat : (Cond.static arraycopyName).before args s = true) (hini : (Cond.initialized "java/lang/System").before args s = true)
    {c0 c1 : ClassId} {n0 n1 : Nat} {f g : Nat → Option Nat} {E0 : String} (ht0 : ArrOfT s c0 (.object E0)) (ht1 : ArrOfT s c1 (.object E0)) (hRA : va_RA s c1 (.object E0)) (hc0 : H[a0]? = some (vp_cell c0 (n0, .inr (.inr (.inr (.inr f)))))) (hc1 : H[a]? = some (vp_cell c1 (n1, .inr (.inr (.inr (.inr g)))))) (hS : va_S A H0 H locs) (hAa : A a)
    {sp dp n : Int32} (h1 : ¬ sp < 0) (h2 : ¬ dp < 0) (h3 : ¬ n < 0) (h4 : sp.toNatClampNeg + n.toNatClampNeg ≤ n0) (h5 : dp.toNatClampNeg + n.toNatClampNeg ≤ n1) (hel : ∀ i : Nat, i < n.toNatClampNeg → ∀ y : Nat, f (sp.toNatClampNeg + i) = some y → ∃ cellV : Cell, H[y]? = some cellV ∧ cellV.vm.isStatics = false ∧ s.vm.findClass E0 = some cellV.cls) (hasg : ∀ c0 : ClassId, s.vm.findClass E0 = some c0 → s.vm.assignable c0 c0 = true)
    (hframes : 1 ≤ R.frames) (hlocals : (rest.map fun v => v.category).sum + (nativeFrameWords "java/lang/System" "arraycopy" 5 + 11) ≤ R.locals) (hdg : decode cc pc = .ok (.invokestatic index, 3))
    (kk : ∀ (H1 : Heap) (locs1 : List Loc), H1[a]? = some (vp_cell c1 (n1, .inr (.inr (.inr (.inr (va_cpy f g sp.toNatClampNeg dp.toNatClampNeg n.toNatClampNeg)))))) → (∀ q : Nat, q ≠ a → H1[q]? = H[q]?) → H1.size = H.size → va_S A H0 H1 locs1 → W p l e R s m args below meth c H1 locs1 cells slots Q (F0 m (pc + 3) ls rest)) : W p l e R s m args below meth c H locs cells slots Q (F0 m pc ls (.int n :: .int dp :: .ref a :: .int sp :: .ref a0 :: rest)) := by
  intro T hT X
  obtain ⟨-, k0, hk0, cm0, hkk0⟩ := ht0 n0 (fun j => va_rf (f j))
  obtain ⟨-, k1, hk1, cm1, hkk1⟩ := ht1 n1 (fun j => va_rf (g j))
  obtain ⟨vm', X', step⟩ := X.arraycopy hexec hown hlink hnat hstat hini (src := a0) (dst := a) (cs := vp_cell c0 (n0, .inr (.inr (.inr (.inr f))))) (cd := vp_cell c1 (n1, .inr (.inr (.inr (.inr g))))) (srcPos := sp) (destPos := dp) (n := n) (by rw [hT]; exact hc0) (by rw [hT]; exact hc1)
    (fun _ h => by cases h) (fun _ h => by cases h) (fun h => by cases h) (fun h => by cases h) hk0 hk1 hkk0 hkk1 rfl h1 h2 h3
    (by rw [hz_nn sp h1, hz_nn n h3]; show ¬ _ > ((arrV c0 n0 (fun j => va_rf (f j))).slots.size : Int); rw [arrV_size]; omega)
    (by rw [hz_nn dp h2, hz_nn n h3]; show ¬ _ > ((arrV c1 n1 (fun j => va_rf (g j))).slots.size : Int); rw [arrV_size]; omega)
    (fun vm₁ hal i hi => by
      have e : (vp_cell c0 (n0, .inr (.inr (.inr (.inr f))))).slots.getD (sp.toNatClampNeg + i) .null = va_rf (f (sp.toNatClampNeg + i)) := by
        show (arrV c0 n0 (fun j => va_rf (f j))).slots.getD _ _ = _
        rw [Array.getD_eq_getD_getElem?, arrV_read _ _ (by omega)]
        rfl
      rw [e]
      cases hy : f (sp.toNatClampNeg + i) with
      | none => exact ⟨rfl, trivial⟩
      | some y =>
        obtain ⟨cellV, g1, g2, g3⟩ := hel i hi y hy
        obtain ⟨kA, comp, r1, r2, r3, -⟩ := hRA
        cases hk1.symm.trans r1
        cases hkk1.symm.trans r2
        obtain ⟨kC, hkC, -⟩ := Vm.findClass_spec g3
        obtain ⟨kE, hkE, -⟩ := Vm.findClass_spec r3
        obtain ⟨kC', hkC', -⟩ := hal.2.2 _ _ hkC
        obtain ⟨kE', hkE', -⟩ := hal.2.2 _ _ hkE
        have hce := Option.some.inj (g3.symm.trans r3)
        refine ⟨rfl, cellV, (show T.heap[y]? = some cellV by rw [hT]; exact g1), (fun q h => by rw [h] at g2; cases g2), ⟨kC', hkC'⟩, ?_, ?_⟩
        · exact ⟨kE', hkE'⟩
        · show vm₁.assignable _ _ = true
          rw [hal.assignable, hce]
          exact hasg _ r3)
    (g := F0 m pc ls (.int n :: .int dp :: .ref a :: .int sp :: .ref a0 :: rest)) rfl (by rw [hml]) (rest := rest) rfl (by rw [hb]; exact hdg) hframes (by show 2 * 0 + _ + _ ≤ _; omega)
  have e1 : copied (vp_cell c0 (n0, .inr (.inr (.inr (.inr f))))) (vp_cell c1 (n1, .inr (.inr (.inr (.inr g))))) sp dp n = vp_cell c1 (n1, .inr (.inr (.inr (.inr (va_cpy f g sp.toNatClampNeg dp.toNatClampNeg n.toNatClampNeg))))) := by
    rw [vp_cell_q, vp_cell_q, vp_cell_q]
    exact va_copied (fun z => va_rf z) c0 c1 f g h4
  rw [e1] at X' step
  have hl : a < H.size := (Array.getElem?_eq_some_iff.mp hc1).1
  generalize hcp : vp_cell c1 (n1, .inr (.inr (.inr (.inr (va_cpy f g sp.toNatClampNeg dp.toNatClampNeg n.toNatClampNeg))))) = cp at X' step kk e1
  have hheap : ((T.setVm vm').setCell a cp).heap = H.setIfInBounds a cp := by rw [← hT]; rfl
  have oq : ∀ q : Nat, q ≠ a → (H.setIfInBounds a cp)[q]? = H[q]? := fun q hq => by simp [Array.getElem?_setIfInBounds, Ne.symm hq]
  obtain ⟨t, a1, b1⟩ := kk _ _ (by simp [Array.getElem?_setIfInBounds, hl]) oq (by simp) ⟨by simp; exact hS.1, fun q g1 g2 => by
      rw [oq q (fun e => g2 (by rw [e]; exact hAa))]
      exact hS.2.1 q g1 g2, fun q hq => by
      rcases List.mem_append.mp hq with h | h
      · exact hS.2.2 q h
      · obtain ⟨z, -, hz⟩ := List.mem_map.mp h
        rw [← hz]
        exact hAa⟩ _ hheap X'
  exact ⟨t, step t a1, b1⟩
end HzCopy
def gw_ci (a0 : Nat) (sp : Int32) (a : Nat) (dp n : Int32) : HM Unit := fun h => match gw_ar h a0 0, gw_ar h a 0 with
  | some (n0, .inl f), some (n1, .inl g) => if (sp < 0 ∨ dp < 0 ∨ n < 0) ∨ n0 < sp.toNatClampNeg + n.toNatClampNeg ∨ n1 < dp.toNatClampNeg + n.toNatClampNeg then none else some ((), gw_set h a (.inl (0, n1, .inl (va_cpy f g sp.toNatClampNeg dp.toNatClampNeg n.toNatClampNeg))))
  | _, _ => none
/-- references of kind q, to objects of the class ci, all of them there -/
def gw_cq (q ci a0 : Nat) (sp : Int32) (a : Nat) (dp n : Int32) : HM Unit := fun h => match gw_ar h a0 q, gw_ar h a q with
  | some (n0, .inr (.inr (.inr (.inr f)))), some (n1, .inr (.inr (.inr (.inr g)))) => if ((sp < 0 ∨ dp < 0 ∨ n < 0) ∨ n0 < sp.toNatClampNeg + n.toNatClampNeg ∨ n1 < dp.toNatClampNeg + n.toNatClampNeg) ∨ (List.range n.toNatClampNeg).any (fun i => match f (sp.toNatClampNeg + i) with | none => false | some y => (gw_ob h y ci).isNone) = true then none else some ((), gw_set h a (.inl (q, n1, .inr (.inr (.inr (.inr (va_cpy f g sp.toNatClampNeg dp.toNatClampNeg n.toNatClampNeg)))))))
  | _, _ => none
section GwCopy
variable {p : Program} {l : Launch} {e : Env} {R : Room} {s : State} {m : MethodId} {args : Array Value} {below : List Frame} {meth : Method} {c : Code} {H : Heap} {locs : List Loc} {cells slots : Nat} {Q : State → Prop}
variable {cc : ByteArray} {pc : Nat} {ls : Array Slot} {rest : List Value} {K : GK} {h u : Hp} {H0 : Heap} {own : String}
theorem gw_copyi {a0 a idx : Nat} {sp dp n : Int32} {w : Unit} (C : gw_C K own p s m args c cc) (hml : c.maxLocals = ls.size) (hP : gw_P K h H) (hS : va_S K.2.2.2.1 H0 H locs) (he : gw_ci a0 sp a dp n h = some (w, u)) (hlink : Cond.methodLink own idx arraycopyName ∈ lw_all) (hnat : Cond.native arraycopyName ∈ lw_all) (hstat : Cond.static arraycopyName ∈ lw_all) (hini : Cond.initialized "java/lang/System" ∈ lw_all) (hframes : 1 ≤ R.frames) (hlocals : (rest.map fun v => v.category).sum + (nativeFrameWords "java/lang/System" "arraycopy" 5 + 11) ≤ R.locals) (hdg : decode cc pc = .ok (.invokestatic idx, 3))
    (kk : ∀ (H1 : Heap) (locs1 : List Loc), gw_P K u H1 → va_S K.2.2.2.1 H0 H1 locs1 → W p l e R s m args below meth c H1 locs1 cells slots Q (F0 m (pc + 3) ls rest)) : W p l e R s m args below meth c H locs cells slots Q (F0 m pc ls (.int n :: .int dp :: .ref a :: .int sp :: .ref a0 :: rest)) := by
  unfold gw_ci at he
  split at he
  case h_2 => cases he
  case h_1 n0 f n1 g hF hG =>
  split at he
  case isTrue => cases he
  case isFalse hb =>
  obtain ⟨-, rfl⟩ := Prod.mk.inj (Option.some.inj he)
  have hT := (C.2.2.2.2.1.2 0 _ rfl).1
  exact hz_copyi C.1 C.2.1 hml C.2.2.2.1 (C.2.2.1 _ hlink) (C.2.2.1 _ hnat) (C.2.2.1 _ hstat) (C.2.2.1 _ hini) hT hT (hP.ar hF) (hP.ar hG) hS (hP.aA hG) (fun h => hb (Or.inl (Or.inl h))) (fun h => hb (Or.inl (Or.inr (Or.inl h)))) (fun h => hb (Or.inl (Or.inr (Or.inr h)))) (Nat.not_lt.mp fun h => hb (Or.inr (Or.inl h))) (Nat.not_lt.mp fun h => hb (Or.inr (Or.inr h))) hframes hlocals hdg fun H1 locs1 h1 h2 h3 h4 => kk H1 locs1 (hP.set (hP.aA hG) h1 h2 h3) h4
theorem gw_copyq {q ci a0 a idx : Nat} {sp dp n : Int32} {w : Unit} {r : vw_C} (C : gw_C K own p s m args c cc) (hml : c.maxLocals = ls.size) (hP : gw_P K h H) (hS : va_S K.2.2.2.1 H0 H locs) (hc : gw_cl[ci]? = some r) (hq : (gw_ty K.2.1)[q]? = some (K.2.1 q, .object r.1)) (he : gw_cq q ci a0 sp a dp n h = some (w, u)) (hlink : Cond.methodLink own idx arraycopyName ∈ lw_all) (hnat : Cond.native arraycopyName ∈ lw_all) (hstat : Cond.static arraycopyName ∈ lw_all) (hini : Cond.initialized "java/lang/System" ∈ lw_all) (hframes : 1 ≤ R.frames) (hlocals : (rest.map fun v => v.category).sum + (nativeFrameWords "java/lang/System" "arraycopy" 5 + 11) ≤ R.locals) (hdg : decode cc pc = .ok (.invokestatic idx, 3))
    (kk : ∀ (H1 : Heap) (locs1 : List Loc), gw_P K u H1 → va_S K.2.2.2.1 H0 H1 locs1 → W p l e R s m args below meth c H1 locs1 cells slots Q (F0 m (pc + 3) ls rest)) : W p l e R s m args below meth c H locs cells slots Q (F0 m pc ls (.int n :: .int dp :: .ref a :: .int sp :: .ref a0 :: rest)) := by
  unfold gw_cq at he
  split at he
  case h_2 => cases he
  case h_1 n0 f n1 g hF hG =>
  split at he
  case isTrue => cases he
  case isFalse hb =>
  obtain ⟨-, rfl⟩ := Prod.mk.inj (Option.some.inj he)
  have hT := C.2.2.2.2.1.2 q _ hq
  have hcl := (C.2.2.2.2.1.1 ci r hc).2
  refine hz_copyq C.1 C.2.1 hml C.2.2.2.1 (C.2.2.1 _ hlink) (C.2.2.1 _ hnat) (C.2.2.1 _ hstat) (C.2.2.1 _ hini) hT.1 hT.1 hT.2 (hP.ar hF) (hP.ar hG) hS (hP.aA hG) (fun h => hb (Or.inl (Or.inl (Or.inl h)))) (fun h => hb (Or.inl (Or.inl (Or.inr (Or.inl h))))) (fun h => hb (Or.inl (Or.inl (Or.inr (Or.inr h))))) (Nat.not_lt.mp fun h => hb (Or.inl (Or.inr (Or.inl h)))) (Nat.not_lt.mp fun h => hb (Or.inl (Or.inr (Or.inr h)))) (fun i hi y hy => ?_) (fun c0 h0 => ?_) hframes hlocals hdg fun H1 locs1 h1 h2 h3 h4 => kk H1 locs1 (hP.set (hP.aA hG) h1 h2 h3) h4
  · have h9 : ∃ F, gw_ob h y ci = some F := by
      cases ho : gw_ob h y ci with
      | some F => exact ⟨F, rfl⟩
      | none =>
        refine absurd (Or.inr (List.any_eq_true.mpr ⟨i, List.mem_range.mpr hi, ?_⟩)) hb
        rw [hy]
        simp [ho]
    exact gw_recv C hP hc h9
  · have : c0 = K.1.1 ci := Option.some.inj (h0.symm.trans hcl.1)
    subst this
    exact va_assign hcl
end GwCopy
