/-- the next gap of the reader's text, from i on -/
def tw_ix {σ : Type} (i : Int32) : σ → Option (Int32 × σ) := fun t => if i < 0 ∨ 31 ≤ i.toNatClampNeg then none else some (gw_ixf (31 - i.toNatClampNeg) i.toNatClampNeg, t)
section GxIx
variable {p : Program} {l : Launch} {e : Env} {R : Room} {s : State} {m : MethodId} {args : Array Value} {below : List Frame} {meth : Method} {c : Code} {H : Heap} {locs : List Loc} {cells slots : Nat} {Q : State → Prop}
variable {cc : ByteArray} {pc : Nat} {ls : Array Slot} {rest : List Value} {A : Nat → Prop} {X : (Nat → Nat) × (Nat → Nat) × Nat} {own : String} {nL index : Nat}
theorem gx_ix (hx : p.tables.exec = Jvm.exec) (hb : c.code = cc) (hml : c.maxLocals = nL) (hown : s.vm.findClass own = some m.cls) (hts : ∀ w ∈ lw_all, w.before args s = true) (hX : gw_X X A s s.heap) (hS : va_S A s.heap H locs) {i r : Int32} {σ : Type} {t u : σ} (he : tw_ix i t = some (r, u)) (cw : CallW R s args own "java/lang/String" index yJ0_indexOf cJ0_indexOf 3 (some .int) (ws_ yJ0_indexOf cJ0_indexOf 3 (some .int)) { frames := 3, cells := 0, slots := 0, locals := 88 } 0 0 2) (hsize : ls.size = nL) (hw : (rest.map fun v => v.category).sum ≤ 8) (hcs : cells ≤ R.cells ∧ slots ≤ R.slots) (hdg : decode cc pc = .ok (.invokevirtual index, 3))
    (kk : t = u → W p l e R s m args below meth c H locs cells slots Q (F0 m (pc + 3) ls (.int r :: rest))) : W p l e R s m args below meth c H locs cells slots Q (F0 m pc ls (.int i :: .int 32 :: .ref (X.1 1) :: rest)) := by
  unfold tw_ix at he
  split at he
  case isTrue => cases he
  case isFalse h0 =>
  obtain ⟨rfl, rfl⟩ := Prod.mk.inj (Option.some.inj he)
  obtain ⟨j, hj, rfl⟩ := nI_of (x := i) (fun h => h0 (Or.inl h))
  rw [nI_clamp hj] at h0 kk
  have hj2 : j < 31 := Nat.not_le.mp fun h => h0 (Or.inr h)
  exact vp_callSi (W.runV (As := [.int 32, .int (nI j)]) (rest := rest) ⟨hx, hb, hml, hown, hts⟩ (ms_J0_indexOf (l := l) (X := X) (A := A) hj2) cw ⟨fun a U g mk q => ⟨q.1, q.2.blind g mk a⟩, vk_recv hX.2.2.1 (by decide) hS, fun U hU hW => ⟨rfl, hX.pass hS hU hW⟩⟩ rfl rfl hsize rfl (lv_room hw) hdg hcs) (fun r hq => by subst hq; exact kk rfl)
end GxIx
