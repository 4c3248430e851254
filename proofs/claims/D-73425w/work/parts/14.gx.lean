/-! the String members as rows, from any world -/
def tw_ch {σ : Type} (k : Nat) (i : Int32) : σ → Option (Int32 × σ) := fun t => if i < 0 ∨ [32, 31].getD k 0 ≤ i.toNatClampNeg then none else some (gw_ch k i, t)
section GxRows
variable {p : Program} {l : Launch} {e : Env} {R : Room} {s : State} {m : MethodId} {args : Array Value} {below : List Frame} {meth : Method} {c : Code} {H : Heap} {locs : List Loc} {cells slots : Nat} {Q : State → Prop}
variable {cc : ByteArray} {pc : Nat} {ls : Array Slot} {rest : List Value} {A : Nat → Prop} {X : (Nat → Nat) × (Nat → Nat) × Nat} {own : String} {nL index : Nat}
theorem gx_len (hx : p.tables.exec = Jvm.exec) (hb : c.code = cc) (hml : c.maxLocals = nL) (hown : s.vm.findClass own = some m.cls) (hts : ∀ w ∈ lw_all, w.before args s = true) (hX : gw_X X A s s.heap) (hS : va_S A s.heap H locs) {k : Nat} (hk : k < 2) (cw : CallW R s args own "java/lang/String" index yJ0_length cJ0_length 1 (some .int) (ws_ yJ0_length cJ0_length 1 (some .int)) { frames := 2, cells := 0, slots := 0, locals := 60 } 0 0 0) (hsize : ls.size = nL) (hw : (rest.map fun v => v.category).sum ≤ 8) (hcs : cells ≤ R.cells ∧ slots ≤ R.slots) (hdg : decode cc pc = .ok (.invokevirtual index, 3))
    (kk : W p l e R s m args below meth c H locs cells slots Q (F0 m (pc + 3) ls (.int (gw_len k) :: rest))) : W p l e R s m args below meth c H locs cells slots Q (F0 m pc ls (.ref (X.1 k) :: rest)) :=
  vp_callSi (W.runV (As := []) (rest := rest) ⟨hx, hb, hml, hown, hts⟩ (ms_J0_length (l := l) (X := X) (A := A) hk) cw ⟨fun a U g mk q => ⟨q.1, q.2.blind g mk a⟩, vk_recv hX.2.2.1 hk hS, fun U hU hW => ⟨rfl, hX.pass hS hU hW⟩⟩ rfl rfl hsize rfl (lv_room hw) hdg hcs) (fun r hq => by subst hq; exact kk)
theorem gx_ch (hx : p.tables.exec = Jvm.exec) (hb : c.code = cc) (hml : c.maxLocals = nL) (hown : s.vm.findClass own = some m.cls) (hts : ∀ w ∈ lw_all, w.before args s = true) (hX : gw_X X A s s.heap) (hS : va_S A s.heap H locs) {k : Nat} (hk : k < 2) {i r : Int32} {σ : Type} {t u : σ} (he : tw_ch k i t = some (r, u)) (cw : CallW R s args own "java/lang/String" index yJ0_charAt cJ0_charAt 2 (some .char) (ws_ yJ0_charAt cJ0_charAt 2 (some .char)) { frames := 4, cells := 0, slots := 0, locals := 104 } 0 0 1) (hsize : ls.size = nL) (hw : (rest.map fun v => v.category).sum ≤ 8) (hcs : cells ≤ R.cells ∧ slots ≤ R.slots) (hdg : decode cc pc = .ok (.invokevirtual index, 3))
    (kk : t = u → W p l e R s m args below meth c H locs cells slots Q (F0 m (pc + 3) ls (.int r :: rest))) : W p l e R s m args below meth c H locs cells slots Q (F0 m pc ls (.int i :: .ref (X.1 k) :: rest)) := by
  unfold tw_ch at he
  split at he
  case isTrue => cases he
  case isFalse h0 =>
  obtain ⟨rfl, rfl⟩ := Prod.mk.inj (Option.some.inj he)
  exact vp_callSi (W.runV (As := [.int i]) (rest := rest) ⟨hx, hb, hml, hown, hts⟩ (ms_J0_charAt (l := l) (X := X) (A := A) hk h0) cw ⟨fun a U g mk q => ⟨q.1, q.2.blind g mk a⟩, vk_recv hX.2.2.1 hk hS, fun U hU hW => ⟨rfl, hX.pass hS hU hW⟩⟩ rfl rfl hsize rfl (lv_room hw) hdg hcs) (fun r hq => by subst hq; exact kk rfl)
end GxRows
