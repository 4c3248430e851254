/-! the interfaces' own words -/
def gl_n0 : MethodName := ⟨"LosslessFabric$Climb", "more", "(II)I"⟩
def gl_n1 : MethodName := ⟨"LosslessFabric$Deed", "does", "(LLosslessFabric$State;)V"⟩
def gl_n2 : MethodName := ⟨"LosslessFabric$Edge", "is", "(II)Z"⟩
def gl_n3 : MethodName := ⟨"LosslessFabric$Goal", "is", "(LLosslessFabric$State;)Z"⟩
def gl_Fi (x : MethodName) (U : State) : Prop := (Cond.declares x).before #[] U = true ∧ (Cond.interfaceMethod x.cls x.cls x.name x.desc).before #[] U = true
theorem gl_Fi.moved {x : MethodName} (hx : x.cls ≠ "java/lang/invoke/MethodHandle" ∧ x.cls ≠ "java/lang/invoke/VarHandle") {u U : State} (hvm : u.vm.Alike U.vm) (h : gl_Fi x u) : gl_Fi x U := by
  obtain ⟨h1, h2⟩ := h
  obtain ⟨r, meth, hn, -⟩ := Cond.declares_spec h1
  have tr : ∀ {c : Cond}, c.onTables = true → c.before #[] (u.setVm U.vm) = true → c.before #[] U = true := by
    intro c hc h
    have e := Cond.onTables_vm (A := #[]) (A' := #[]) (U := u) (U' := U) U.vm c hc
    have hU : U.setVm U.vm = U := rfl
    rw [hU] at e
    rw [← e]
    exact h
  exact ⟨tr rfl (by rw [Cond.declares_setVm hvm]; exact h1), tr rfl (by rw [Cond.interfaceMethod_setVm hvm (r := r) hn hx]; exact h2)⟩
/-- all six sites, the four interfaces. q: the lambdas' classes; q 6: where the constant one lies -/
def gl_L (q : Nat → ClassId) (U : State) : Prop :=
  (gl_F gl_x0 64 40 gl_s0 (.makes (q 0)) (q 0) U ∧ gl_F gl_x1 162 259 gl_s1 (.makes (q 1)) (q 1) U ∧ gl_F gl_x2 6 351 gl_s2 (.makes (q 2)) (q 2) U ∧ gl_F gl_x3 33 377 gl_s3 (.makes (q 3)) (q 3) U ∧ gl_F gl_x4 8 420 gl_s4 (.makes (q 4)) (q 4) U ∧ gl_F gl_x5 39 427 gl_s5 (.constant (q 6)) (q 5) U) ∧ gl_Fi gl_n0 U ∧ gl_Fi gl_n1 U ∧ gl_Fi gl_n2 U ∧ gl_Fi gl_n3 U
theorem gl_L.warm {q : Nat → ClassId} {s U : State} (hW : s.WarmedH U.vm) (h : gl_L q s) : gl_L q U := by
  obtain ⟨⟨h0, h1, h2, h3, h4, h5⟩, h6, h7, h8, h9⟩ := h
  exact ⟨⟨h0.warm hW, h1.warm hW, h2.warm hW, h3.warm hW, h4.warm hW, h5.warm hW⟩, h6.moved (by decide) hW.alike, h7.moved (by decide) hW.alike, h8.moved (by decide) hW.alike, h9.moved (by decide) hW.alike⟩
theorem gl_L.same {q : Nat → ClassId} {u U : State} (hv : U.vm = u.vm) (h : gl_L q u) : gl_L q U := by
  have hW : u.WarmedH U.vm := by rw [hv]; exact State.WarmedH.refl u
  exact h.warm hW
