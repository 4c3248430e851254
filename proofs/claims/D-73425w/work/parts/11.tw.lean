/-! THE CLASSES, and THE TWIN's WORLD: one object and its arrays; a state is (ints, longs, arrays of ints, arrays of longs), by the field's number -/
abbrev gw_cl : List vw_C := [(RX1, TX1, 18), (RX2, TX2, 13), (RX3, TX3, 4), (RX4, TX4, 12), (RX5, TX5, 12), (RX6, TX6, 49), (RX7, TX7, 7), (RX8, TX8, 8), (RX9, TX9, 6), (RX10, TX10, 5), (RX11, TX11, 1), (RX12, TX12, 5), (RX13, TX13, 7)]
abbrev gw_ty (dA : Nat → ClassId) : List (ClassId × FieldType) := [(dA 0, .int), (dA 1, .long), (dA 2, .boolean), (dA 3, .byte), (dA 4, .object "LosslessFabric$Link"), (dA 5, .object "LosslessFabric$Flow"), (dA 6, .object "LosslessFabric$End"), (dA 7, .object "LosslessFabric$Sender"), (dA 8, .object "LosslessFabric$State"), (dA 9, .object "LosslessFabric$Notice")]
def gw_txt : List Int32 := [108, 105, 110, 107, 32, 102, 108, 111, 119, 32, 115, 97, 109, 112, 108, 101, 32, 115, 116, 97, 103, 101, 32, 111, 102, 102, 32, 115, 101, 101, 100, 32]
abbrev TS : Type := (Nat → Int32) × (Nat → Int64) × (Nat → Nat → Int32) × (Nat → Nat → Int64)
/-- the kind of a field: 0 ints, 1 longs, 2 booleans (arrays), 3 int, 4 long, 5 boolean -/
def tw_fk : Nat → Nat := fun k => [3, 0, 3, 0, 2, 0, 0, 0, 0, 0, 0, 0, 0, 2, 0, 0, 3, 3, 3, 3, 3, 3, 3, 3, 3, 3, 0, 0, 0, 0, 0, 3, 5, 0, 0, 0, 0, 0, 3, 0, 0, 0, 3, 1, 1, 2, 4, 4, 3].getD k 9
def tw_n : Nat → Nat := fun k => [0, 700, 0, 18, 6, 20, 20, 20, 20, 20, 20, 16, 16, 16, 16, 80, 0, 0, 0, 0, 0, 0, 0, 0, 0, 0, 337, 337, 337, 337, 6740, 0, 0, 80, 80, 80, 80, 80, 0, 10, 10, 10, 0, 8, 8, 8, 0, 0, 0].getD k 0
def tw_F (ad : Nat → Nat) (t : TS) (k : Nat) : Value := if tw_fk k = 3 ∨ tw_fk k = 5 then .int (t.1 k) else if tw_fk k = 4 then .long (t.2.1 k) else .ref (ad k)
def tw_P (D : va_G) (dA : Nat → ClassId) (o : Nat) (ad : Nat → Nat) (t : TS) (H : Heap) : Prop :=
  t_OB o (D.1 5) 49 (D.2 5) H (tw_F ad t) ∧ (∀ k, tw_fk k = 0 → H[ad k]? = some (vp_cell (dA 0) (tw_n k, .inl (t.2.2.1 k)))) ∧ (∀ k, tw_fk k = 2 → H[ad k]? = some (vp_cell (dA 2) (tw_n k, .inl (t.2.2.1 k)))) ∧ ∀ k, tw_fk k = 1 → H[ad k]? = some (vp_cell (dA 1) (tw_n k, .inr (.inl (t.2.2.2 k))))
def tw_D (o : Nat) (ad : Nat → Nat) (A : Nat → Prop) : Prop := A o ∧ (∀ k, tw_fk k < 3 → A (ad k) ∧ ad k ≠ o) ∧ ∀ j k, tw_fk j < 3 → tw_fk k < 3 → ad j = ad k → j = k
/-- what is there from the start and stays: the two texts, statics of the JDK, the bits -/
def gw_X (X : (Nat → Nat) × (Nat → Nat) × Nat) (A : Nat → Prop) (U : State) (H : Heap) : Prop :=
  vk_R "LosslessFabricModel" 154 "link flow sample stage off seed " (X.1 0) U ∧ vk_R "LosslessFabric$Reader" 85 "link flow sample stage off seed" (X.1 1) U ∧
  vk_S 2 [32, 31] [gw_txt, gw_txt.take 31] X.1 X.2.1 A U H ∧ va_Z "java/lang/String" "COMPACT_STRINGS" "Z" (.int 1) A U H ∧ va_Zq "jdk/internal/util/Preconditions" "SIOOBE_FORMATTER" "Ljava/util/function/BiFunction;" A U H ∧
  va_Z "LosslessFabric" "BITS" "[I" (.ref X.2.2) A U H ∧ va_T .int X.2.2 10 (fun j => .int (nI (2 ^ j))) A U H ∧
  va_Zq "java/lang/Throwable" "UNASSIGNED_STACK" "[Ljava/lang/StackTraceElement;" A U H ∧ va_Zq "java/lang/Throwable" "SUPPRESSED_SENTINEL" "Ljava/util/List;" A U H
theorem gw_X.blind {X : (Nat → Nat) × (Nat → Nat) × Nat} {A : Nat → Prop} {U : State} {H : Heap} (h : gw_X X A U H) (g : JFrame) (mk : MethodId) (a : Array Value) : gw_X X A (U.calling g mk a) H := by
  obtain ⟨h1, h2, h3, h4, h5, h6, h7, h8, h9⟩ := h
  have hv : U.vm.Alike (U.calling g mk a).vm := Vm.Alike.refl U.vm
  exact ⟨h1.same rfl, h2.same rfl, h3.moved hv, h4.moved hv, h5.moved hv, h6.moved hv, h7.moved hv, h8.moved hv, h9.moved hv⟩
theorem gw_X.pass {X : (Nat → Nat) × (Nat → Nat) × Nat} {A : Nat → Prop} {s U : State} {H : Heap} {locs : List Loc} (h : gw_X X A s s.heap) (hS : va_S A s.heap H locs) (hU : U.heap = H) (hW : s.WarmedH U.vm) : gw_X X A U U.heap := by
  obtain ⟨h1, h2, h3, h4, h5, h6, h7, h8, h9⟩ := h
  have hv := hW.alike
  rw [hU]
  exact ⟨h1.warm hW, h2.warm hW, (h3.moved hv).kept hS.2.1, (h4.moved hv).kept hS.2.1, (h5.moved hv).kept hS.2.1, (h6.moved hv).kept hS.2.1, (h7.moved hv).kept hS.2.1, (h8.moved hv).kept hS.2.1, (h9.moved hv).kept hS.2.1⟩
def tw_W (X : (Nat → Nat) × (Nat → Nat) × Nat) (A : Nat → Prop) (D : va_G) (dA : Nat → ClassId) (o : Nat) (ad : Nat → Nat) (t : TS) (U : State) : Prop := tw_P D dA o ad t U.heap ∧ va_K D gw_cl (gw_ty dA) U ∧ gw_X X A U U.heap
abbrev tw_Qi (D : va_G) (dA : Nat → ClassId) (o : Nat) (ad : Nat → Nat) (A : Nat → Prop) (r : Int32) (t : TS) : Array Value → State → Outcome → State → Prop := va_Qi (fun (r' : Int32) (u : Unit) => r' = r) (fun _ U => tw_P D dA o ad t U.heap) A
abbrev tw_Ql (D : va_G) (dA : Nat → ClassId) (o : Nat) (ad : Nat → Nat) (A : Nat → Prop) (r : Int64) (t : TS) : Array Value → State → Outcome → State → Prop := va_Ql (fun (r' : Int64) (u : Unit) => r' = r) (fun _ U => tw_P D dA o ad t U.heap) A
abbrev tw_Qv (D : va_G) (dA : Nat → ClassId) (o : Nat) (ad : Nat → Nat) (A : Nat → Prop) (t : TS) : Array Value → State → Outcome → State → Prop := va_Qv (fun (u : Unit) => True) (fun _ U => tw_P D dA o ad t U.heap) A
theorem tw_T1 (k : Nat) : (TX6 k).1 = "LosslessFabricModel" := by unfold TX6; split <;> rfl
theorem tw_f3 : ∀ k, k < 49 → tw_fk k = 3 → (TX6 k).2.2.2 = false ∧ parseFieldDescriptor (TX6 k).2.2.1 = some .int := by decide +kernel
theorem tw_f4 : ∀ k, k < 49 → tw_fk k = 4 → (TX6 k).2.2.2 = false ∧ parseFieldDescriptor (TX6 k).2.2.1 = some .long := by decide +kernel
theorem tw_f5 : ∀ k, k < 49 → tw_fk k = 5 → (TX6 k).2.2.2 = false ∧ parseFieldDescriptor (TX6 k).2.2.1 = some .boolean := by decide +kernel
/-! the twin's programs: a state gives an answer and a state, or stops -/
abbrev TM (α : Type) : Type := TS → Option (α × TS)
def tw_bd {σ α β : Type} (f : σ → Option (α × σ)) (k : α → σ → Option (β × σ)) : σ → Option (β × σ) := fun t => match f t with | none => none | some r => k r.1 r.2
def tw_rt {σ α : Type} (a : α) : σ → Option (α × σ) := fun t => some (a, t)
def tw_gi (k : Nat) : TM Int32 := fun t => some (t.1 k, t)
def tw_gl (k : Nat) : TM Int64 := fun t => some (t.2.1 k, t)
def tw_pi (k : Nat) (x : Int32) : TM Unit := fun t => some ((), (upd t.1 k x, t.2))
def tw_pz (k : Nat) (x : Int32) : TM Unit := fun t => if x = 0 ∨ x = 1 then some ((), (upd t.1 k x, t.2)) else none
def tw_pl (k : Nat) (x : Int64) : TM Unit := fun t => some ((), (t.1, vp_updL t.2.1 k x, t.2.2))
def tw_ld (k : Nat) (i : Int32) : TM Int32 := fun t => if tw_fk k = 0 ∧ ¬ (i < 0 ∨ tw_n k ≤ i.toNatClampNeg) then some (t.2.2.1 k i.toNatClampNeg, t) else none
def tw_st (k : Nat) (i x : Int32) : TM Unit := fun t => if tw_fk k = 0 ∧ ¬ (i < 0 ∨ tw_n k ≤ i.toNatClampNeg) then some ((), (t.1, t.2.1, va_up t.2.2.1 k (upd (t.2.2.1 k) i.toNatClampNeg x), t.2.2.2)) else none
def tw_lz (k : Nat) (i : Int32) : TM Int32 := fun t => if tw_fk k = 2 ∧ ¬ (i < 0 ∨ tw_n k ≤ i.toNatClampNeg) then some (t.2.2.1 k i.toNatClampNeg, t) else none
def tw_sz (k : Nat) (i x : Int32) : TM Unit := fun t => if (tw_fk k = 2 ∧ (x = 0 ∨ x = 1)) ∧ ¬ (i < 0 ∨ tw_n k ≤ i.toNatClampNeg) then some ((), (t.1, t.2.1, va_up t.2.2.1 k (upd (t.2.2.1 k) i.toNatClampNeg x), t.2.2.2)) else none
def tw_ll (k : Nat) (i : Int32) : TM Int64 := fun t => if tw_fk k = 1 ∧ ¬ (i < 0 ∨ tw_n k ≤ i.toNatClampNeg) then some (t.2.2.2 k i.toNatClampNeg, t) else none
def tw_sl (k : Nat) (i : Int32) (x : Int64) : TM Unit := fun t => if tw_fk k = 1 ∧ ¬ (i < 0 ∨ tw_n k ≤ i.toNatClampNeg) then some ((), (t.1, t.2.1, t.2.2.1, va_up t.2.2.2 k (vp_updL (t.2.2.2 k) i.toNatClampNeg x))) else none
/-- a divisor isn't 0 -/
def tw_nz {σ : Type} (y : Int32) : σ → Option (Unit × σ) := fun t => if y = 0 then none else some ((), t)
def tw_nl {σ : Type} (y : Int64) : σ → Option (Unit × σ) := fun t => if y = 0 then none else some ((), t)
/-- an answer of kind boolean is 0 or 1 -/
def tw_rz {σ : Type} (x : Int32) : σ → Option (Int32 × σ) := fun t => if x = 0 ∨ x = 1 then some (x, t) else none
/-- a loop, with fuel -/
def tw_lp {κ : Type} (F : κ → κ) (z : κ) : Nat → κ
  | 0 => z
  | n + 1 => F (tw_lp F z n)
def tw_fu : Nat := 1000000
theorem tw_bdE {σ α β : Type} {f : σ → Option (α × σ)} {k : α → σ → Option (β × σ)} {t : σ} {r : β × σ} (h : tw_bd f k t = some r) : ∃ (a : α) (u : σ), f t = some (a, u) ∧ k a u = some r := by
  unfold tw_bd at h
  split at h
  · cases h
  · next q e => exact ⟨q.1, q.2, e, h⟩
theorem tw_ifT {τ ρ : Type} {c : Prop} [Decidable c] {f g : τ → ρ} {t : τ} {r : ρ} (hc : c) (h : (if c then f else g) t = r) : f t = r := by rw [if_pos hc] at h; exact h
theorem tw_ifF {τ ρ : Type} {c : Prop} [Decidable c] {f g : τ → ρ} {t : τ} {r : ρ} (hc : ¬ c) (h : (if c then f else g) t = r) : g t = r := by rw [if_neg hc] at h; exact h
theorem tw_nzE {σ : Type} {y : Int32} {t u : σ} {w : Unit} (h : tw_nz y t = some (w, u)) : ¬ y = 0 ∧ t = u := by
  unfold tw_nz at h
  split at h
  · cases h
  · next q => exact ⟨q, (Prod.mk.inj (Option.some.inj h)).2⟩
theorem tw_nlE {σ : Type} {y : Int64} {t u : σ} {w : Unit} (h : tw_nl y t = some (w, u)) : ¬ y = 0 ∧ t = u := by
  unfold tw_nl at h
  split at h
  · cases h
  · next q => exact ⟨q, (Prod.mk.inj (Option.some.inj h)).2⟩
theorem tw_rtE {σ α : Type} {a b : α} {t u : σ} (h : tw_rt a t = some (b, u)) : a = b ∧ t = u := Prod.mk.inj (Option.some.inj h)
section TwRows
variable {p : Program} {l : Launch} {e : Env} {R : Room} {s : State} {m : MethodId} {args : Array Value} {below : List Frame} {meth : Method} {c : Code} {H : Heap} {locs : List Loc} {Q : State → Prop}
variable {cc : ByteArray} {pc : Nat} {ls : Array Slot} {rest : List Value} {D : va_G} {dA : Nat → ClassId} {A : Nat → Prop} {o : Nat} {ad : Nat → Nat} {t : TS} {H0 : Heap} {X : (Nat → Nat) × (Nat → Nat) × Nat}
/-- what stays the same all through a method of the twin -/
def tw_C (X : (Nat → Nat) × (Nat → Nat) × Nat) (p : Program) (s : State) (m : MethodId) (args : Array Value) (c : Code) (cc : ByteArray) (D : va_G) (dA : Nat → ClassId) (o : Nat) (ad : Nat → Nat) (A : Nat → Prop) : Prop :=
  p.tables.exec = Jvm.exec ∧ c.code = cc ∧ (∀ w ∈ lw_all, w.before args s = true) ∧ s.vm.findClass "LosslessFabricModel" = some m.cls ∧ va_K D gw_cl (gw_ty dA) s ∧ tw_D o ad A ∧ gw_X X A s s.heap
theorem tw_get {k idx : Nat} {v : Value} (C : tw_C X p s m args c cc D dA o ad A) (hP : tw_P D dA o ad t H) (hk : k < 49) (hv : tw_F ad t k = v) (hlink : Cond.fieldLink "LosslessFabricModel" idx "LosslessFabricModel" (TX6 k).2.1 (TX6 k).2.2.1 ∈ lw_all) (hdg : decode cc pc = .ok (.getfield idx, 3))
    (kk : W p l e R s m args below meth c H locs 0 0 Q (F0 m (pc + 3) ls (v :: rest))) : W p l e R s m args below meth c H locs 0 0 Q (F0 m pc ls (.ref o :: rest)) :=
  hz_get (ci := 5) C.1 C.2.1 C.2.2.1 in_X6 C.2.2.2.1 C.2.2.2.2.1 rfl hP.1 k hk (C.2.2.1 _ hlink) (fun x h => by rw [tw_T1] at h; exact h) hv hdg kk
theorem tw_iget {k idx : Nat} (C : tw_C X p s m args c cc D dA o ad A) (hP : tw_P D dA o ad t H) (hk : k < 49) (hf : tw_fk k = 3 ∨ tw_fk k = 5) {x : Int32} {u : TS} (he : tw_gi k t = some (x, u)) (hlink : Cond.fieldLink "LosslessFabricModel" idx "LosslessFabricModel" (TX6 k).2.1 (TX6 k).2.2.1 ∈ lw_all) (hdg : decode cc pc = .ok (.getfield idx, 3))
    (kk : tw_P D dA o ad u H → W p l e R s m args below meth c H locs 0 0 Q (F0 m (pc + 3) ls (.int x :: rest))) : W p l e R s m args below meth c H locs 0 0 Q (F0 m pc ls (.ref o :: rest)) := by
  obtain ⟨rfl, rfl⟩ := Prod.mk.inj (Option.some.inj he)
  exact tw_get C hP hk (by unfold tw_F; rw [if_pos hf]) hlink hdg (kk hP)
theorem tw_lget {k idx : Nat} (C : tw_C X p s m args c cc D dA o ad A) (hP : tw_P D dA o ad t H) (hk : k < 49) (hf : tw_fk k = 4) {x : Int64} {u : TS} (he : tw_gl k t = some (x, u)) (hlink : Cond.fieldLink "LosslessFabricModel" idx "LosslessFabricModel" (TX6 k).2.1 (TX6 k).2.2.1 ∈ lw_all) (hdg : decode cc pc = .ok (.getfield idx, 3))
    (kk : tw_P D dA o ad u H → W p l e R s m args below meth c H locs 0 0 Q (F0 m (pc + 3) ls (.long x :: rest))) : W p l e R s m args below meth c H locs 0 0 Q (F0 m pc ls (.ref o :: rest)) := by
  obtain ⟨rfl, rfl⟩ := Prod.mk.inj (Option.some.inj he)
  exact tw_get C hP hk (by unfold tw_F; rw [if_neg (by omega), if_pos hf]) hlink hdg (kk hP)
theorem tw_aget {k idx : Nat} (C : tw_C X p s m args c cc D dA o ad A) (hP : tw_P D dA o ad t H) (hk : k < 49) (hf : tw_fk k < 3) (hlink : Cond.fieldLink "LosslessFabricModel" idx "LosslessFabricModel" (TX6 k).2.1 (TX6 k).2.2.1 ∈ lw_all) (hdg : decode cc pc = .ok (.getfield idx, 3))
    (kk : W p l e R s m args below meth c H locs 0 0 Q (F0 m (pc + 3) ls (.ref (ad k) :: rest))) : W p l e R s m args below meth c H locs 0 0 Q (F0 m pc ls (.ref o :: rest)) :=
  tw_get C hP hk (by unfold tw_F; rw [if_neg (by omega), if_neg (by omega)]) hlink hdg kk
theorem tw_keep {t u : TS} {H1 : Heap} (hD : tw_D o ad A) (hP : tw_P D dA o ad t H) (hO : t_OB o (D.1 5) 49 (D.2 5) H1 (tw_F ad u)) (oq : ∀ q : Nat, q ≠ o → H1[q]? = H[q]?) (h3 : u.2.2 = t.2.2) : tw_P D dA o ad u H1 := by
  refine ⟨hO, fun k hk => ?_, fun k hk => ?_, fun k hk => ?_⟩
  · rw [oq _ (hD.2.1 k (by omega)).2, h3]; exact hP.2.1 k hk
  · rw [oq _ (hD.2.1 k (by omega)).2, h3]; exact hP.2.2.1 k hk
  · rw [oq _ (hD.2.1 k (by omega)).2, h3]; exact hP.2.2.2 k hk
theorem tw_iput {k idx : Nat} (C : tw_C X p s m args c cc D dA o ad A) (hP : tw_P D dA o ad t H) (hS : va_S A H0 H locs) (hk : k < 49) (hf : tw_fk k = 3) {x : Int32} {w : Unit} {u : TS} (he : tw_pi k x t = some (w, u)) (hlink : Cond.fieldLink "LosslessFabricModel" idx "LosslessFabricModel" (TX6 k).2.1 (TX6 k).2.2.1 ∈ lw_all) (hdg : decode cc pc = .ok (.putfield idx, 3))
    (kk : ∀ (H1 : Heap) (locs1 : List Loc), tw_P D dA o ad u H1 → va_S A H0 H1 locs1 → W p l e R s m args below meth c H1 locs1 0 0 Q (F0 m (pc + 3) ls rest)) : W p l e R s m args below meth c H locs 0 0 Q (F0 m pc ls (.int x :: .ref o :: rest)) := by
  obtain ⟨-, rfl⟩ := Prod.mk.inj (Option.some.inj he)
  refine hz_put (ci := 5) C.1 C.2.1 C.2.2.1 in_X6 tyX6 tyX6_ok nmX6 C.2.2.2.1 C.2.2.2.2.1 rfl hP.1 hS C.2.2.2.2.2.1.1 k hk (C.2.2.1 _ hlink) (fun x h => by rw [tw_T1] at h; exact h) (tw_f3 k hk hf).1 (tw_f3 k hk hf).2 (vp_nar_int x) rfl hdg fun H1 locs1 h1 h2 h3 h4 => ?_
  refine kk H1 locs1 (tw_keep C.2.2.2.2.2.1 hP (h1.to fun j _ => ?_) h2 rfl) h4
  unfold tw_F updV upd
  by_cases hj : j = k
  · subst hj; simp [hf]
  · simp [hj]
theorem tw_zput {k idx : Nat} (C : tw_C X p s m args c cc D dA o ad A) (hP : tw_P D dA o ad t H) (hS : va_S A H0 H locs) (hk : k < 49) (hf : tw_fk k = 5) {x : Int32} {w : Unit} {u : TS} (he : tw_pz k x t = some (w, u)) (hlink : Cond.fieldLink "LosslessFabricModel" idx "LosslessFabricModel" (TX6 k).2.1 (TX6 k).2.2.1 ∈ lw_all) (hdg : decode cc pc = .ok (.putfield idx, 3))
    (kk : ∀ (H1 : Heap) (locs1 : List Loc), tw_P D dA o ad u H1 → va_S A H0 H1 locs1 → W p l e R s m args below meth c H1 locs1 0 0 Q (F0 m (pc + 3) ls rest)) : W p l e R s m args below meth c H locs 0 0 Q (F0 m pc ls (.int x :: .ref o :: rest)) := by
  unfold tw_pz at he
  split at he
  case isFalse => cases he
  case isTrue hx =>
  obtain ⟨-, rfl⟩ := Prod.mk.inj (Option.some.inj he)
  refine hz_put (ci := 5) C.1 C.2.1 C.2.2.1 in_X6 tyX6 tyX6_ok nmX6 C.2.2.2.1 C.2.2.2.2.1 rfl hP.1 hS C.2.2.2.2.2.1.1 k hk (C.2.2.1 _ hlink) (fun x h => by rw [tw_T1] at h; exact h) (tw_f5 k hk hf).1 (tw_f5 k hk hf).2 (by rcases hx with rfl | rfl <;> rfl) (by rcases hx with rfl | rfl <;> rfl) hdg fun H1 locs1 h1 h2 h3 h4 => ?_
  refine kk H1 locs1 (tw_keep C.2.2.2.2.2.1 hP (h1.to fun j _ => ?_) h2 rfl) h4
  unfold tw_F updV upd
  by_cases hj : j = k
  · subst hj; simp [hf]
  · simp [hj]
theorem tw_lput {k idx : Nat} (C : tw_C X p s m args c cc D dA o ad A) (hP : tw_P D dA o ad t H) (hS : va_S A H0 H locs) (hk : k < 49) (hf : tw_fk k = 4) {x : Int64} {w : Unit} {u : TS} (he : tw_pl k x t = some (w, u)) (hlink : Cond.fieldLink "LosslessFabricModel" idx "LosslessFabricModel" (TX6 k).2.1 (TX6 k).2.2.1 ∈ lw_all) (hdg : decode cc pc = .ok (.putfield idx, 3))
    (kk : ∀ (H1 : Heap) (locs1 : List Loc), tw_P D dA o ad u H1 → va_S A H0 H1 locs1 → W p l e R s m args below meth c H1 locs1 0 0 Q (F0 m (pc + 3) ls rest)) : W p l e R s m args below meth c H locs 0 0 Q (F0 m pc ls (.long x :: .ref o :: rest)) := by
  obtain ⟨-, rfl⟩ := Prod.mk.inj (Option.some.inj he)
  refine hz_put (ci := 5) C.1 C.2.1 C.2.2.1 in_X6 tyX6 tyX6_ok nmX6 C.2.2.2.1 C.2.2.2.2.1 rfl hP.1 hS C.2.2.2.2.2.1.1 k hk (C.2.2.1 _ hlink) (fun x h => by rw [tw_T1] at h; exact h) (tw_f4 k hk hf).1 (tw_f4 k hk hf).2 rfl rfl hdg fun H1 locs1 h1 h2 h3 h4 => ?_
  refine kk H1 locs1 (tw_keep C.2.2.2.2.2.1 hP (h1.to fun j _ => ?_) h2 rfl) h4
  unfold tw_F updV vp_updL
  by_cases hj : j = k
  · subst hj; simp [hf]
  · simp [hj]
theorem tw_iald {k : Nat} (C : tw_C X p s m args c cc D dA o ad A) (hP : tw_P D dA o ad t H) {i x : Int32} {u : TS} (he : tw_ld k i t = some (x, u)) (hdg : decode cc pc = .ok (.iaload, 1))
    (kk : tw_P D dA o ad u H → W p l e R s m args below meth c H locs 0 0 Q (F0 m (pc + 1) ls (.int x :: rest))) : W p l e R s m args below meth c H locs 0 0 Q (F0 m pc ls (.int i :: .ref (ad k) :: rest)) := by
  unfold tw_ld at he
  split at he
  case isFalse => cases he
  case isTrue hx =>
  obtain ⟨rfl, rfl⟩ := Prod.mk.inj (Option.some.inj he)
  exact hz_iald C.1 C.2.1 (hP.2.1 k hx.1) (C.2.2.2.2.1.2 0 _ rfl).1 hx.2 hdg (kk hP)
theorem tw_zald {k : Nat} (C : tw_C X p s m args c cc D dA o ad A) (hP : tw_P D dA o ad t H) {i x : Int32} {u : TS} (he : tw_lz k i t = some (x, u)) (hdg : decode cc pc = .ok (.baload, 1))
    (kk : tw_P D dA o ad u H → W p l e R s m args below meth c H locs 0 0 Q (F0 m (pc + 1) ls (.int x :: rest))) : W p l e R s m args below meth c H locs 0 0 Q (F0 m pc ls (.int i :: .ref (ad k) :: rest)) := by
  unfold tw_lz at he
  split at he
  case isFalse => cases he
  case isTrue hx =>
  obtain ⟨rfl, rfl⟩ := Prod.mk.inj (Option.some.inj he)
  exact hz_zald C.1 C.2.1 (hP.2.2.1 k hx.1) (C.2.2.2.2.1.2 2 _ rfl).1 hx.2 hdg (kk hP)
theorem tw_lald {k : Nat} (C : tw_C X p s m args c cc D dA o ad A) (hP : tw_P D dA o ad t H) {i : Int32} {x : Int64} {u : TS} (he : tw_ll k i t = some (x, u)) (hdg : decode cc pc = .ok (.laload, 1))
    (kk : tw_P D dA o ad u H → W p l e R s m args below meth c H locs 0 0 Q (F0 m (pc + 1) ls (.long x :: rest))) : W p l e R s m args below meth c H locs 0 0 Q (F0 m pc ls (.int i :: .ref (ad k) :: rest)) := by
  unfold tw_ll at he
  split at he
  case isFalse => cases he
  case isTrue hx =>
  obtain ⟨rfl, rfl⟩ := Prod.mk.inj (Option.some.inj he)
  exact hz_lald C.1 C.2.1 (hP.2.2.2 k hx.1) (C.2.2.2.2.1.2 1 _ rfl).1 hx.2 hdg (kk hP)
theorem tw_iast {k : Nat} (C : tw_C X p s m args c cc D dA o ad A) (hP : tw_P D dA o ad t H) (hS : va_S A H0 H locs) {i x : Int32} {w : Unit} {u : TS} (he : tw_st k i x t = some (w, u)) (hdg : decode cc pc = .ok (.iastore, 1))
    (kk : ∀ (H1 : Heap) (locs1 : List Loc), tw_P D dA o ad u H1 → va_S A H0 H1 locs1 → W p l e R s m args below meth c H1 locs1 0 0 Q (F0 m (pc + 1) ls rest)) : W p l e R s m args below meth c H locs 0 0 Q (F0 m pc ls (.int x :: .int i :: .ref (ad k) :: rest)) := by
  unfold tw_st at he
  split at he
  case isFalse => cases he
  case isTrue hx =>
  obtain ⟨-, rfl⟩ := Prod.mk.inj (Option.some.inj he)
  obtain ⟨hDo, hDa, hDj⟩ := C.2.2.2.2.2.1
  refine hz_iast C.1 C.2.1 (hP.2.1 k hx.1) (C.2.2.2.2.1.2 0 _ rfl).1 hS (hDa k (by omega)).1 hx.2 hdg fun H1 locs1 h1 h2 h3 h4 => ?_
  refine kk H1 locs1 ⟨hP.1.kept (h2 _ (fun h => (hDa k (by omega)).2 h.symm)), fun j hj => ?_, fun j hj => ?_, fun j hj => ?_⟩ h4
  · by_cases e : j = k
    · subst e; simp only [va_up, if_true]; exact h1
    · rw [h2 _ (fun h => e (hDj j k (by omega) (by omega) h))]; simp only [va_up, if_neg e]; exact hP.2.1 j hj
  · have e : j ≠ k := fun h => by subst h; omega
    rw [h2 _ (fun h => e (hDj j k (by omega) (by omega) h))]; simp only [va_up, if_neg e]; exact hP.2.2.1 j hj
  · have e : j ≠ k := fun h => by subst h; omega
    rw [h2 _ (fun h => e (hDj j k (by omega) (by omega) h))]; exact hP.2.2.2 j hj
theorem tw_zast {k : Nat} (C : tw_C X p s m args c cc D dA o ad A) (hP : tw_P D dA o ad t H) (hS : va_S A H0 H locs) {i x : Int32} {w : Unit} {u : TS} (he : tw_sz k i x t = some (w, u)) (hdg : decode cc pc = .ok (.bastore, 1))
    (kk : ∀ (H1 : Heap) (locs1 : List Loc), tw_P D dA o ad u H1 → va_S A H0 H1 locs1 → W p l e R s m args below meth c H1 locs1 0 0 Q (F0 m (pc + 1) ls rest)) : W p l e R s m args below meth c H locs 0 0 Q (F0 m pc ls (.int x :: .int i :: .ref (ad k) :: rest)) := by
  unfold tw_sz at he
  split at he
  case isFalse => cases he
  case isTrue hx =>
  obtain ⟨-, rfl⟩ := Prod.mk.inj (Option.some.inj he)
  obtain ⟨hDo, hDa, hDj⟩ := C.2.2.2.2.2.1
  obtain ⟨⟨hx1, hx3⟩, hx2⟩ := hx
  refine hz_zast C.1 C.2.1 (hP.2.2.1 k hx1) (C.2.2.2.2.1.2 2 _ rfl).1 hS (hDa k (by omega)).1 hx3 hx2 hdg fun H1 locs1 h1 h2 h3 h4 => ?_
  refine kk H1 locs1 ⟨hP.1.kept (h2 _ (fun h => (hDa k (by omega)).2 h.symm)), fun j hj => ?_, fun j hj => ?_, fun j hj => ?_⟩ h4
  · have e : j ≠ k := fun h => by subst h; omega
    rw [h2 _ (fun h => e (hDj j k (by omega) (by omega) h))]; simp only [va_up, if_neg e]; exact hP.2.1 j hj
  · by_cases e : j = k
    · subst e; simp only [va_up, if_true]; exact h1
    · rw [h2 _ (fun h => e (hDj j k (by omega) (by omega) h))]; simp only [va_up, if_neg e]; exact hP.2.2.1 j hj
  · have e : j ≠ k := fun h => by subst h; omega
    rw [h2 _ (fun h => e (hDj j k (by omega) (by omega) h))]; exact hP.2.2.2 j hj
theorem tw_last {k : Nat} (C : tw_C X p s m args c cc D dA o ad A) (hP : tw_P D dA o ad t H) (hS : va_S A H0 H locs) {i : Int32} {x : Int64} {w : Unit} {u : TS} (he : tw_sl k i x t = some (w, u)) (hdg : decode cc pc = .ok (.lastore, 1))
    (kk : ∀ (H1 : Heap) (locs1 : List Loc), tw_P D dA o ad u H1 → va_S A H0 H1 locs1 → W p l e R s m args below meth c H1 locs1 0 0 Q (F0 m (pc + 1) ls rest)) : W p l e R s m args below meth c H locs 0 0 Q (F0 m pc ls (.long x :: .int i :: .ref (ad k) :: rest)) := by
  unfold tw_sl at he
  split at he
  case isFalse => cases he
  case isTrue hx =>
  obtain ⟨-, rfl⟩ := Prod.mk.inj (Option.some.inj he)
  obtain ⟨hDo, hDa, hDj⟩ := C.2.2.2.2.2.1
  refine hz_last C.1 C.2.1 (hP.2.2.2 k hx.1) (C.2.2.2.2.1.2 1 _ rfl).1 hS (hDa k (by omega)).1 hx.2 hdg fun H1 locs1 h1 h2 h3 h4 => ?_
  refine kk H1 locs1 ⟨hP.1.kept (h2 _ (fun h => (hDa k (by omega)).2 h.symm)), fun j hj => ?_, fun j hj => ?_, fun j hj => ?_⟩ h4
  · have e : j ≠ k := fun h => by subst h; omega
    rw [h2 _ (fun h => e (hDj j k (by omega) (by omega) h))]; exact hP.2.1 j hj
  · have e : j ≠ k := fun h => by subst h; omega
    rw [h2 _ (fun h => e (hDj j k (by omega) (by omega) h))]; exact hP.2.2.1 j hj
  · by_cases e : j = k
    · subst e; simp only [va_up, if_true]; exact h1
    · rw [h2 _ (fun h => e (hDj j k (by omega) (by omega) h))]; simp only [va_up, if_neg e]; exact hP.2.2.2 j hj
theorem tw_blind {av : List Value} : FrameBlind (va_Pc av (tw_W X A D dA o ad t)) := fun a U g mk q => ⟨q.1, q.2.1, va_K.moved (u := U) (U := U.calling g mk a) (Vm.Alike.refl U.vm) q.2.2.1, q.2.2.2.blind g mk a⟩
theorem tw_here {av : List Value} (C : tw_C X p s m args c cc D dA o ad A) (hS : va_S A s.heap H locs) (hP : tw_P D dA o ad t H) (U : State) (hU : U.heap = H) (hW : s.WarmedH U.vm) : va_Pc av (tw_W X A D dA o ad t) av.toArray U := ⟨rfl, by rw [hU]; exact hP, va_K.moved hW.alike C.2.2.2.2.1, C.2.2.2.2.2.2.pass hS hU hW⟩
theorem tw_recv (C : tw_C X p s m args c cc D dA o ad A) (hP : tw_P D dA o ad t H) : ∃ cell : Cell, H[o]? = some cell ∧ cell.vm.isStatics = false ∧ s.vm.findClass "LosslessFabricModel" = some cell.cls := by
  obtain ⟨cell, g1, g2, g3, -⟩ := hP.1
  exact ⟨cell, g1, by rw [g3]; rfl, by rw [g2]; exact (C.2.2.2.2.1.1 5 _ rfl).2.1⟩
variable {y : MethodName} {bytes : ByteArray} {maxL nL n index : Nat} {ret : Option FieldType} {rm : Room} {As : List Value} {u : TS} {st : List Value}
theorem tw_cVi {r : Int32} (C : tw_C X p s m args c cc D dA o ad A) (hml : c.maxLocals = nL) (hP : tw_P D dA o ad t H) (hS : va_S A s.heap H locs) (hM : Met l y (ws_ y bytes maxL ret) rm (va_Pc (.ref o :: As) (tw_W X A D dA o ad t)) (tw_Qi D dA o ad A r u) 0 0 A) (cw : CallW R s args "LosslessFabricModel" "LosslessFabricModel" index y bytes maxL ret (ws_ y bytes maxL ret) rm 0 0 n) (hn : As.length = n) (hsize : ls.size = nL) (hst : st = As.reverse ++ .ref o :: rest) (hw : (rest.map fun v => v.category).sum ≤ 8) (hdg : decode cc pc = .ok (.invokevirtual index, 3))
    (kk : ∀ (H1 : Heap) (locs1 : List Loc), tw_P D dA o ad u H1 → va_S A s.heap H1 locs1 → W p l e R s m args below meth c H1 locs1 0 0 Q (F0 m (pc + 3) ls (.int r :: rest))) : W p l e R s m args below meth c H locs 0 0 Q (F0 m pc ls st) := by
  refine va_calli (va_runV (As := As) (rest := rest) ⟨C.1, C.2.1, hml, C.2.2.2.1, C.2.2.1⟩ hM cw ⟨tw_blind, tw_recv C hP, tw_here C hS hP⟩ rfl hn hsize hst (lv_room hw) hdg ⟨Nat.zero_le _, Nat.zero_le _⟩) hS (fun q _ h => h) (fun q h => h) (fun r' u' t' H1 locs1 ht hvm hp hB hz hk hS1 => ?_)
  subst hp
  subst ht
  exact kk _ locs1 hB hS1
theorem tw_cVl {r : Int64} (C : tw_C X p s m args c cc D dA o ad A) (hml : c.maxLocals = nL) (hP : tw_P D dA o ad t H) (hS : va_S A s.heap H locs) (hM : Met l y (ws_ y bytes maxL ret) rm (va_Pc (.ref o :: As) (tw_W X A D dA o ad t)) (tw_Ql D dA o ad A r u) 0 0 A) (cw : CallW R s args "LosslessFabricModel" "LosslessFabricModel" index y bytes maxL ret (ws_ y bytes maxL ret) rm 0 0 n) (hn : As.length = n) (hsize : ls.size = nL) (hst : st = As.reverse ++ .ref o :: rest) (hw : (rest.map fun v => v.category).sum ≤ 8) (hdg : decode cc pc = .ok (.invokevirtual index, 3))
    (kk : ∀ (H1 : Heap) (locs1 : List Loc), tw_P D dA o ad u H1 → va_S A s.heap H1 locs1 → W p l e R s m args below meth c H1 locs1 0 0 Q (F0 m (pc + 3) ls (.long r :: rest))) : W p l e R s m args below meth c H locs 0 0 Q (F0 m pc ls st) := by
  refine va_calll (va_runV (As := As) (rest := rest) ⟨C.1, C.2.1, hml, C.2.2.2.1, C.2.2.1⟩ hM cw ⟨tw_blind, tw_recv C hP, tw_here C hS hP⟩ rfl hn hsize hst (lv_room hw) hdg ⟨Nat.zero_le _, Nat.zero_le _⟩) hS (fun q _ h => h) (fun q h => h) (fun r' u' t' H1 locs1 ht hvm hp hB hz hk hS1 => ?_)
  subst hp
  subst ht
  exact kk _ locs1 hB hS1
theorem tw_cVv (C : tw_C X p s m args c cc D dA o ad A) (hml : c.maxLocals = nL) (hP : tw_P D dA o ad t H) (hS : va_S A s.heap H locs) (hM : Met l y (ws_ y bytes maxL ret) rm (va_Pc (.ref o :: As) (tw_W X A D dA o ad t)) (tw_Qv D dA o ad A u) 0 0 A) (cw : CallW R s args "LosslessFabricModel" "LosslessFabricModel" index y bytes maxL ret (ws_ y bytes maxL ret) rm 0 0 n) (hn : As.length = n) (hsize : ls.size = nL) (hst : st = As.reverse ++ .ref o :: rest) (hw : (rest.map fun v => v.category).sum ≤ 8) (hdg : decode cc pc = .ok (.invokevirtual index, 3))
    (kk : ∀ (H1 : Heap) (locs1 : List Loc), tw_P D dA o ad u H1 → va_S A s.heap H1 locs1 → W p l e R s m args below meth c H1 locs1 0 0 Q (F0 m (pc + 3) ls rest)) : W p l e R s m args below meth c H locs 0 0 Q (F0 m pc ls st) := by
  refine va_callv (va_runV (As := As) (rest := rest) ⟨C.1, C.2.1, hml, C.2.2.2.1, C.2.2.1⟩ hM cw ⟨tw_blind, tw_recv C hP, tw_here C hS hP⟩ rfl hn hsize hst (lv_room hw) hdg ⟨Nat.zero_le _, Nat.zero_le _⟩) hS (fun q _ h => h) (fun q h => h) (fun u' t' H1 locs1 ht hvm hp hB hz hk hS1 => ?_)
  subst ht
  exact kk _ locs1 hB hS1
theorem tw_cSi {r : Int32} (C : tw_C X p s m args c cc D dA o ad A) (hml : c.maxLocals = nL) (hP : tw_P D dA o ad t H) (hS : va_S A s.heap H locs) (hM : Met l y (ws_ y bytes maxL ret) rm (va_Pc As (tw_W X A D dA o ad t)) (tw_Qi D dA o ad A r u) 0 0 A) (cw : CallB R s args "LosslessFabricModel" index y bytes maxL ret (ws_ y bytes maxL ret) rm 0 0 n ∧ (Cond.static y).before args s = true) (hn : As.length = n) (hsize : ls.size = nL) (hst : st = As.reverse ++ rest) (hw : (rest.map fun v => v.category).sum ≤ 8) (hdg : decode cc pc = .ok (.invokestatic index, 3))
    (kk : ∀ (H1 : Heap) (locs1 : List Loc), tw_P D dA o ad u H1 → va_S A s.heap H1 locs1 → W p l e R s m args below meth c H1 locs1 0 0 Q (F0 m (pc + 3) ls (.int r :: rest))) : W p l e R s m args below meth c H locs 0 0 Q (F0 m pc ls st) := by
  refine va_calli (va_runS (As := As) (rest := rest) ⟨C.1, C.2.1, hml, C.2.2.2.1, C.2.2.1⟩ hM cw ⟨tw_blind, tw_here C hS hP⟩ rfl hn hsize hst (lv_room hw) hdg ⟨Nat.zero_le _, Nat.zero_le _⟩) hS (fun q _ h => h) (fun q h => h) (fun r' u' t' H1 locs1 ht hvm hp hB hz hk hS1 => ?_)
  subst hp
  subst ht
  exact kk _ locs1 hB hS1
theorem tw_cSl {r : Int64} (C : tw_C X p s m args c cc D dA o ad A) (hml : c.maxLocals = nL) (hP : tw_P D dA o ad t H) (hS : va_S A s.heap H locs) (hM : Met l y (ws_ y bytes maxL ret) rm (va_Pc As (tw_W X A D dA o ad t)) (tw_Ql D dA o ad A r u) 0 0 A) (cw : CallB R s args "LosslessFabricModel" index y bytes maxL ret (ws_ y bytes maxL ret) rm 0 0 n ∧ (Cond.static y).before args s = true) (hn : As.length = n) (hsize : ls.size = nL) (hst : st = As.reverse ++ rest) (hw : (rest.map fun v => v.category).sum ≤ 8) (hdg : decode cc pc = .ok (.invokestatic index, 3))
    (kk : ∀ (H1 : Heap) (locs1 : List Loc), tw_P D dA o ad u H1 → va_S A s.heap H1 locs1 → W p l e R s m args below meth c H1 locs1 0 0 Q (F0 m (pc + 3) ls (.long r :: rest))) : W p l e R s m args below meth c H locs 0 0 Q (F0 m pc ls st) := by
  refine va_calll (va_runS (As := As) (rest := rest) ⟨C.1, C.2.1, hml, C.2.2.2.1, C.2.2.1⟩ hM cw ⟨tw_blind, tw_here C hS hP⟩ rfl hn hsize hst (lv_room hw) hdg ⟨Nat.zero_le _, Nat.zero_le _⟩) hS (fun q _ h => h) (fun q h => h) (fun r' u' t' H1 locs1 ht hvm hp hB hz hk hS1 => ?_)
  subst hp
  subst ht
  exact kk _ locs1 hB hS1
theorem tw_cSv (C : tw_C X p s m args c cc D dA o ad A) (hml : c.maxLocals = nL) (hP : tw_P D dA o ad t H) (hS : va_S A s.heap H locs) (hM : Met l y (ws_ y bytes maxL ret) rm (va_Pc As (tw_W X A D dA o ad t)) (tw_Qv D dA o ad A u) 0 0 A) (cw : CallB R s args "LosslessFabricModel" index y bytes maxL ret (ws_ y bytes maxL ret) rm 0 0 n ∧ (Cond.static y).before args s = true) (hn : As.length = n) (hsize : ls.size = nL) (hst : st = As.reverse ++ rest) (hw : (rest.map fun v => v.category).sum ≤ 8) (hdg : decode cc pc = .ok (.invokestatic index, 3))
    (kk : ∀ (H1 : Heap) (locs1 : List Loc), tw_P D dA o ad u H1 → va_S A s.heap H1 locs1 → W p l e R s m args below meth c H1 locs1 0 0 Q (F0 m (pc + 3) ls rest)) : W p l e R s m args below meth c H locs 0 0 Q (F0 m pc ls st) := by
  refine va_callv (va_runS (As := As) (rest := rest) ⟨C.1, C.2.1, hml, C.2.2.2.1, C.2.2.1⟩ hM cw ⟨tw_blind, tw_here C hS hP⟩ rfl hn hsize hst (lv_room hw) hdg ⟨Nat.zero_le _, Nat.zero_le _⟩) hS (fun q _ h => h) (fun q h => h) (fun u' t' H1 locs1 ht hvm hp hB hz hk hS1 => ?_)
  subst ht
  exact kk _ locs1 hB hS1
variable {free : Addr → Prop} {mc ms : Nat}
theorem tw_ireti {x r : Int32} (hR : x = r) (ht : t = u) (C : tw_C X p s m args c cc D dA o ad A) (hr : meth.sig.returnType = some .int) (hP : tw_P D dA o ad t H) (hS : va_S A s.heap H locs) (hlocks : meth.locks = false) (hdg : decode cc pc = .ok (.ireturn, 1)) : W p l e R s m args below meth c H locs 0 0 (MQ below (tw_Qi D dA o ad A r u) args s 0 0 A) (F0 m pc ls [.int x]) := by
  subst hR; subst ht
  exact W.iret C.1 C.2.1 hr (fun t' ht hW => ⟨⟨x, (), rfl, rfl, by rw [← ht] at hP; exact hP⟩, hS.F ht⟩) hS.2.2 hdg hlocks
theorem tw_iretz {x r : Int32} (h : tw_rz x t = some (r, u)) (C : tw_C X p s m args c cc D dA o ad A) (hr : meth.sig.returnType = some .boolean) (hP : tw_P D dA o ad t H) (hS : va_S A s.heap H locs) (hlocks : meth.locks = false) (hdg : decode cc pc = .ok (.ireturn, 1)) : W p l e R s m args below meth c H locs 0 0 (MQ below (tw_Qi D dA o ad A r u) args s 0 0 A) (F0 m pc ls [.int x]) := by
  unfold tw_rz at h
  split at h
  case isFalse => cases h
  case isTrue hx =>
  obtain ⟨rfl, rfl⟩ := Prod.mk.inj (Option.some.inj h)
  exact W.zret C.1 C.2.1 hr (by rcases hx with rfl | rfl <;> rfl) (fun t' ht hW => ⟨⟨x, (), rfl, rfl, by rw [← ht] at hP; exact hP⟩, hS.F ht⟩) hS.2.2 hdg hlocks
theorem tw_iretl {x r : Int64} (hR : x = r) (ht : t = u) (C : tw_C X p s m args c cc D dA o ad A) (hr : meth.sig.returnType = some .long) (hP : tw_P D dA o ad t H) (hS : va_S A s.heap H locs) (hlocks : meth.locks = false) (hdg : decode cc pc = .ok (.lreturn, 1)) : W p l e R s m args below meth c H locs 0 0 (MQ below (tw_Ql D dA o ad A r u) args s 0 0 A) (F0 m pc ls [.long x]) := by
  subst hR; subst ht
  exact W.lret C.1 C.2.1 hr (fun t' ht hW => ⟨⟨x, (), rfl, rfl, by rw [← ht] at hP; exact hP⟩, hS.F ht⟩) hS.2.2 hdg hlocks
theorem tw_iretv (ht : t = u) (C : tw_C X p s m args c cc D dA o ad A) (hr : meth.sig.returnType = none) (hP : tw_P D dA o ad t H) (hS : va_S A s.heap H locs) (hlocks : meth.locks = false) (hdg : decode cc pc = .ok (.return_, 1)) : W p l e R s m args below meth c H locs 0 0 (MQ below (tw_Qv D dA o ad A u) args s 0 0 A) (F0 m pc ls []) := by
  subst ht
  exact W.vret C.1 C.2.1 hr (fun t' ht hW => ⟨⟨(), rfl, trivial, by rw [← ht] at hP; exact hP⟩, hS.F ht⟩) hS.2.2 hdg hlocks
end TwRows
