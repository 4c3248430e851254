/-! THE GENERIC WORLD: a heap as a function of addresses; its size -/
abbrev gE : Type := (Nat × vp_A) ⊕ (Nat × (Nat → Value))
abbrev Hp : Type := (Nat → Option gE) × Nat
/-- what stays: the classes, the array classes, from where on all is ours, what is ours, the texts and statics, the lambdas' classes -/
abbrev GK : Type := va_G × (Nat → ClassId) × Nat × (Nat → Prop) × ((Nat → Nat) × (Nat → Nat) × Nat) × (Nat → ClassId)
def gw_lc : Nat → Nat := fun k => [1, 2, 1, 1, 1, 0].getD k 0
def gw_at (K : GK) (a : Nat) (x : gE) (H : Heap) : Prop := match x with
  | .inl x => H[a]? = some (vp_cell (K.2.1 x.1) x.2)
  | .inr o => if o.1 < 100 then ∃ r : vw_C, gw_cl[o.1]? = some r ∧ t_OB a (K.1.1 o.1) r.2.2 (K.1.2 o.1) H o.2 else ∃ cell : Cell, H[a]? = some cell ∧ cell.cls = K.2.2.2.2.2 (o.1 - 100) ∧ cell.vm = .none ∧ ∀ j, j < gw_lc (o.1 - 100) → cell.slots[j]? = some (o.2 j)
def gw_P (K : GK) (h : Hp) (H : Heap) : Prop := (∀ (a : Nat) (x : gE), h.1 a = some x → gw_at K a x H ∧ (K.2.2.2.1 a ∨ ∃ o : Nat × (Nat → Value), x = .inr o ∧ 100 ≤ o.1)) ∧ h.2 = H.size ∧ K.2.2.1 ≤ h.2
def gw_isN : Cond → Bool
  | .fieldLinkNest .. => true
  | .methodLinkNest .. => true
  | .castable .. => true
  | .declares .. => true
  | .arrayOver (.object _) => true
  | _ => false
def gw_N (U : State) : Prop := ∀ w ∈ lw_tbl, gw_isN w = true → va_Nw w U
theorem gw_N.same {u U : State} (h : u.vm = U.vm) (hN : gw_N u) : gw_N U := by
  intro w hw hi
  have h9 := hN w hw hi
  unfold gw_isN at hi
  split at hi
  · exact h9.same rfl h
  · exact h9.same rfl h
  · exact h9.same rfl h
  · exact h9.same rfl h
  · exact va_AO.moved (h ▸ Vm.Alike.refl u.vm) h9
  · cases hi
theorem gw_N.warm {s U : State} (hW : s.WarmedH U.vm) (hN : gw_N s) : gw_N U := by
  intro w hw hi
  have h := hN w hw hi
  unfold gw_isN at hi
  split at hi
  · exact h.warmF hW
  · exact h.warmM hW
  · exact h.warmC hW
  · exact h.warmD hW
  · exact va_AO.moved hW.alike h
  · cases hi
theorem gw_Nw {U : State} {w : Cond} {A : Array Value} (hN : gw_N U) (hw : w ∈ lw_tbl) (hi : gw_isN w = true) (ht : w.onTables = true) : w.before A U = true := (hN w hw hi).use ht
/-- the lambdas' sites -/
def gw_L (K : GK) (U : State) : Prop := gl_L K.2.2.2.2.2 U
def gw_W (K : GK) (h : Hp) (U : State) : Prop := gw_P K h U.heap ∧ va_K K.1 gw_cl (gw_ty K.2.1) U ∧ gw_X K.2.2.2.2.1 K.2.2.2.1 U U.heap ∧ gw_N U ∧ gw_L K U
abbrev gw_Qi (K : GK) (r : Int32) (h : Hp) : Array Value → State → Outcome → State → Prop := va_Qi (fun (r' : Int32) (_ : Unit) => r' = r) (fun _ U => gw_P K h U.heap) K.2.2.2.1
abbrev gw_Ql (K : GK) (r : Int64) (h : Hp) : Array Value → State → Outcome → State → Prop := va_Ql (fun (r' : Int64) (_ : Unit) => r' = r) (fun _ U => gw_P K h U.heap) K.2.2.2.1
abbrev gw_Qv (K : GK) (h : Hp) : Array Value → State → Outcome → State → Prop := va_Qv (fun (_ : Unit) => True) (fun _ U => gw_P K h U.heap) K.2.2.2.1
abbrev gw_Qr (K : GK) (r : Nat) (h : Hp) : Array Value → State → Outcome → State → Prop := va_Qr (fun (_ : Unit) => True) (fun _ a U => a = r ∧ gw_P K h U.heap) K.2.2.2.1
def gw_A (K : GK) : Prop := ∀ q, K.2.2.1 ≤ q → K.2.2.2.1 q
/-! programs -/
abbrev HM (α : Type) : Type := Hp → Option (α × Hp)
/-- .. that make cells: with how many, of how many slots -/
abbrev gM (α : Type) : Type := Hp → Option (α × Hp × Nat × Nat)
def gw_b0 {σ α ρ : Type} (f : σ → Option (α × σ)) (k : α → σ → Option ρ) : σ → Option ρ := fun t => match f t with | none => none | some r => k r.1 r.2
def gw_bc {α β : Type} (f : gM α) (k : α → gM β) : gM β := fun h => match f h with
  | none => none
  | some r => match k r.1 r.2.1 with
    | none => none
    | some q => some (q.1, q.2.1, r.2.2.1 + q.2.2.1, r.2.2.2 + q.2.2.2)
def gw_rc {α : Type} (a : α) : gM α := fun h => some (a, h, 0, 0)
def gw_rz (x : Int32) : gM Int32 := fun h => if x = 0 ∨ x = 1 then some (x, h, 0, 0) else none
theorem gw_b0E {σ α ρ : Type} {f : σ → Option (α × σ)} {k : α → σ → Option ρ} {t : σ} {r : ρ} (h : gw_b0 f k t = some r) : ∃ (a : α) (u : σ), f t = some (a, u) ∧ k a u = some r := by
  unfold gw_b0 at h
  split at h
  · cases h
  · next q e => exact ⟨q.1, q.2, e, h⟩
theorem gw_bcE {α β : Type} {f : gM α} {k : α → gM β} {t u : Hp} {b : β} {C S C0 S0 c s : Nat} (h : gw_bc f k t = some (b, u, C, S)) (hk : c + C = C0) (hn : s + S = S0) : ∃ (a : α) (t1 : Hp) (c1 s1 C1 S1 : Nat), f t = some (a, t1, c1, s1) ∧ k a t1 = some (b, u, C1, S1) ∧ c + c1 + C1 = C0 ∧ s + s1 + S1 = S0 := by
  unfold gw_bc at h
  split at h
  · cases h
  · next q e =>
    split at h
    · cases h
    · next q2 e2 =>
      obtain ⟨h1, h2, h3, h4⟩ : q2.1 = b ∧ q2.2.1 = u ∧ q.2.2.1 + q2.2.2.1 = C ∧ q.2.2.2 + q2.2.2.2 = S := by
        cases h
        exact ⟨rfl, rfl, rfl, rfl⟩
      refine ⟨q.1, q.2.1, q.2.2.1, q.2.2.2, q2.2.2.1, q2.2.2.2, e, ?_, by omega, by omega⟩
      rw [e2, ← h1, ← h2]
theorem gw_rcE {α : Type} {a b : α} {t u : Hp} {C S C0 S0 c s : Nat} (h : gw_rc a t = some (b, u, C, S)) (hk : c + C = C0) (hn : s + S = S0) : a = b ∧ t = u ∧ c = C0 ∧ s = S0 := by
  unfold gw_rc at h
  cases h
  exact ⟨rfl, rfl, hk, hn⟩
def gw_ob (h : Hp) (a ci : Nat) : Option (Nat → Value) := match h.1 a with
  | some (.inr o) => if o.1 = ci then some o.2 else none
  | _ => none
def gw_ar (h : Hp) (a k : Nat) : Option vp_A := match h.1 a with
  | some (.inl x) => if x.1 = k then some x.2 else none
  | _ => none
theorem gw_obE {h : Hp} {a ci : Nat} {F : Nat → Value} (e : gw_ob h a ci = some F) : h.1 a = some (.inr (ci, F)) := by
  unfold gw_ob at e
  split at e
  · next o he =>
    split at e
    · next hc => rw [he, ← hc]; cases e; rfl
    · cases e
  · cases e
theorem gw_arE {h : Hp} {a k : Nat} {x : vp_A} (e : gw_ar h a k = some x) : h.1 a = some (.inl (k, x)) := by
  unfold gw_ar at e
  split at e
  · next o he =>
    split at e
    · next hc => rw [he, ← hc]; cases e; rfl
    · cases e
  · cases e
def gw_set (h : Hp) (a : Nat) (x : gE) : Hp := (va_up h.1 a (some x), h.2)
def gw_push (h : Hp) (x : gE) : Hp := (va_up h.1 h.2 (some x), h.2 + 1)
/-- a field of kind int; long; reference (not null) -/
def gw_gi (ci k a : Nat) : HM Int32 := fun h => match gw_ob h a ci with
  | some F => (match F k with | .int x => some (x, h) | _ => none)
  | none => none
def gw_gl (ci k a : Nat) : HM Int64 := fun h => match gw_ob h a ci with
  | some F => (match F k with | .long x => some (x, h) | _ => none)
  | none => none
def gw_gr (ci k a : Nat) : HM Nat := fun h => match gw_ob h a ci with
  | some F => (match F k with | .ref x => some (x, h) | _ => none)
  | none => none
def gw_pv (ci k a : Nat) (v : Value) : HM Unit := fun h => match gw_ob h a ci with
  | some F => some ((), gw_set h a (.inr (ci, updV F k v)))
  | none => none
def gw_pi (ci k a : Nat) (x : Int32) : HM Unit := gw_pv ci k a (.int x)
def gw_pl (ci k a : Nat) (x : Int64) : HM Unit := gw_pv ci k a (.long x)
def gw_pr (ci k a : Nat) (x : Nat) : HM Unit := gw_pv ci k a (.ref x)
def gw_pz (ci k a : Nat) (x : Int32) : HM Unit := fun h => if x = 0 ∨ x = 1 then gw_pv ci k a (.int x) h else none
/-- arrays: ints (kind 0), longs (1), bytes (3), references (4 ..) -/
def gw_ld (q a : Nat) (i : Int32) : HM Int32 := fun h => match gw_ar h a q with
  | some (n, .inl f) => if i < 0 ∨ n ≤ i.toNatClampNeg then none else some (f i.toNatClampNeg, h)
  | _ => none
def gw_st (a : Nat) (i x : Int32) : HM Unit := fun h => match gw_ar h a 0 with
  | some (n, .inl f) => if i < 0 ∨ n ≤ i.toNatClampNeg then none else some ((), gw_set h a (.inl (0, n, .inl (upd f i.toNatClampNeg x))))
  | _ => none
def gw_sb (a : Nat) (i x : Int32) : HM Unit := fun h => match gw_ar h a 3 with
  | some (n, .inl f) => if i < 0 ∨ n ≤ i.toNatClampNeg then none else some ((), gw_set h a (.inl (3, n, .inl (upd f i.toNatClampNeg (vp_nar .byte x)))))
  | _ => none
def gw_ll (a : Nat) (i : Int32) : HM Int64 := fun h => match gw_ar h a 1 with
  | some (n, .inr (.inl f)) => if i < 0 ∨ n ≤ i.toNatClampNeg then none else some (f i.toNatClampNeg, h)
  | _ => none
def gw_sl (a : Nat) (i : Int32) (x : Int64) : HM Unit := fun h => match gw_ar h a 1 with
  | some (n, .inr (.inl f)) => if i < 0 ∨ n ≤ i.toNatClampNeg then none else some ((), gw_set h a (.inl (1, n, .inr (.inl (vp_updL f i.toNatClampNeg x)))))
  | _ => none
def gw_lq (q a : Nat) (i : Int32) : HM (Option Nat) := fun h => match gw_ar h a q with
  | some (n, .inr (.inr (.inr (.inr f)))) => if i < 0 ∨ n ≤ i.toNatClampNeg then none else some (f i.toNatClampNeg, h)
  | _ => none
def gw_lr (q a : Nat) (i : Int32) : HM Nat := fun h => match gw_lq q a i h with
  | some (some v, u) => some (v, u)
  | _ => none
def gw_sr (q ci a : Nat) (i : Int32) (v : Nat) : HM Unit := fun h => match gw_ar h a q, gw_ob h v ci with
  | some (n, .inr (.inr (.inr (.inr f)))), some _ => if i < 0 ∨ n ≤ i.toNatClampNeg then none else some ((), gw_set h a (.inl (q, n, .inr (.inr (.inr (.inr (va_up f i.toNatClampNeg (some v))))))))
  | _, _ => none
def gw_al (q a : Nat) : HM Int32 := fun h => match gw_ar h a q with
  | some x => some (nI x.1, h)
  | none => none
/-- made: an object; an array of ints, booleans, bytes; of longs; of references -/
def gw_nw (ci N : Nat) (ty : Nat → FieldType) : gM Nat := fun h => some (h.2, gw_push h (.inr (ci, fun j => defaultValue (ty j))), 1, N)
def gw_na (q : Nat) (n : Int32) : gM Nat := fun h => if n < 0 ∨ 100000 < n.toNatClampNeg then none else some (h.2, gw_push h (.inl (q, n.toNatClampNeg, .inl (fun _ => 0))), 1, n.toNatClampNeg)
def gw_nl (n : Int32) : gM Nat := fun h => if n < 0 ∨ 100000 < n.toNatClampNeg then none else some (h.2, gw_push h (.inl (1, n.toNatClampNeg, .inr (.inl (fun _ => 0)))), 1, n.toNatClampNeg)
def gw_nq (q : Nat) (n : Int32) : gM Nat := fun h => if n < 0 ∨ 100000 < n.toNatClampNeg then none else some (h.2, gw_push h (.inl (q, n.toNatClampNeg, .inr (.inr (.inr (.inr (fun _ => none)))))), 1, n.toNatClampNeg)
/-- a call through an object asks that it be there -/
def gw_on {ρ : Type} (ci a : Nat) (f : Hp → Option ρ) : Hp → Option ρ := fun h => if (gw_ob h a ci).isSome then f h else none
theorem gw_onE {ρ : Type} {ci a : Nat} {f : Hp → Option ρ} {h : Hp} {r : ρ} (e : gw_on ci a f h = some r) : (∃ F, gw_ob h a ci = some F) ∧ f h = some r := by
  unfold gw_on at e
  split at e
  · next hs => exact ⟨Option.isSome_iff_exists.mp hs, e⟩
  · cases e
/-- a bit of the table -/
def gw_bt {σ : Type} (i : Int32) : σ → Option (Int32 × σ) := fun t => if i < 0 ∨ 10 ≤ i.toNatClampNeg then none else some (nI (2 ^ i.toNatClampNeg), t)
theorem gw_at.kept {K : GK} {a : Nat} {x : gE} {H H1 : Heap} (h : gw_at K a x H) (hq : H1[a]? = H[a]?) : gw_at K a x H1 := by
  unfold gw_at at h ⊢
  cases x with
  | inl x => exact hq.trans h
  | inr o =>
    dsimp only at h ⊢
    by_cases hc : o.1 < 100
    · rw [if_pos hc] at h ⊢
      obtain ⟨r, h1, h2⟩ := h
      exact ⟨r, h1, h2.kept hq⟩
    · rw [if_neg hc] at h ⊢
      obtain ⟨cell, h1, h2⟩ := h
      exact ⟨cell, hq.trans h1, h2⟩
theorem gw_at.lt {K : GK} {a : Nat} {x : gE} {H : Heap} (h : gw_at K a x H) : a < H.size := by
  unfold gw_at at h
  cases x with
  | inl x => exact (Array.getElem?_eq_some_iff.mp h).1
  | inr o =>
    dsimp only at h
    by_cases hc : o.1 < 100
    · rw [if_pos hc] at h
      obtain ⟨r, h1, cell, h2, -⟩ := h
      exact (Array.getElem?_eq_some_iff.mp h2).1
    · rw [if_neg hc] at h
      obtain ⟨cell, h2, -⟩ := h
      exact (Array.getElem?_eq_some_iff.mp h2).1
theorem gw_P.set {K : GK} {h : Hp} {H H1 : Heap} {a : Nat} {x : gE} (hP : gw_P K h H) (hAa : K.2.2.2.1 a) (h1 : gw_at K a x H1) (oq : ∀ q : Nat, q ≠ a → H1[q]? = H[q]?) (z : H1.size = H.size) : gw_P K (gw_set h a x) H1 := by
  refine ⟨fun b y hb => ?_, by rw [z]; exact hP.2.1, hP.2.2⟩
  unfold gw_set va_up at hb
  dsimp only at hb
  by_cases e : b = a
  · rw [if_pos e] at hb
    cases hb
    rw [e]
    exact ⟨h1, Or.inl hAa⟩
  · rw [if_neg e] at hb
    exact ⟨(hP.1 b y hb).1.kept (oq b e), (hP.1 b y hb).2⟩
theorem gw_P.push {K : GK} {h : Hp} {H H1 : Heap} {x : gE} (hA : gw_A K) (hP : gw_P K h H) (h1 : gw_at K H.size x H1) (oq : ∀ q : Nat, q < H.size → H1[q]? = H[q]?) (z : H1.size = H.size + 1) : gw_P K (gw_push h x) H1 := by
  refine ⟨fun b y hb => ?_, by rw [z]; exact congrArg (· + 1) hP.2.1, Nat.le_succ_of_le hP.2.2⟩
  unfold gw_push va_up at hb
  dsimp only at hb
  by_cases e : b = h.2
  · rw [if_pos e] at hb
    cases hb
    rw [e]
    exact ⟨by rw [hP.2.1]; exact h1, Or.inl (hA _ hP.2.2)⟩
  · rw [if_neg e] at hb
    exact ⟨(hP.1 b y hb).1.kept (oq b (hP.1 b y hb).1.lt), (hP.1 b y hb).2⟩
theorem gw_P.oA {K : GK} {h : Hp} {H : Heap} {a ci : Nat} {F : Nat → Value} (hP : gw_P K h H) (e : gw_ob h a ci = some F) (hc : ci < 100) : K.2.2.2.1 a := by
  rcases (hP.1 a _ (gw_obE e)).2 with h1 | ⟨o, h1, h2⟩
  · exact h1
  · cases h1
    exact absurd hc (Nat.not_lt.mpr h2)
theorem gw_P.aA {K : GK} {h : Hp} {H : Heap} {a k : Nat} {x : vp_A} (hP : gw_P K h H) (e : gw_ar h a k = some x) : K.2.2.2.1 a := by
  rcases (hP.1 a _ (gw_arE e)).2 with h1 | ⟨o, h1, h2⟩
  · exact h1
  · cases h1
theorem gw_c100 {ci : Nat} {r : vw_C} (hc : gw_cl[ci]? = some r) : ci < 100 := Nat.lt_of_lt_of_le (List.getElem?_eq_some_iff.mp hc).1 (by decide)
theorem gw_P.ob {K : GK} {h : Hp} {H : Heap} {a ci : Nat} {F : Nat → Value} {r : vw_C} (hP : gw_P K h H) (e : gw_ob h a ci = some F) (hc : gw_cl[ci]? = some r) : t_OB a (K.1.1 ci) r.2.2 (K.1.2 ci) H F := by
  have h1 := (hP.1 a _ (gw_obE e)).1
  unfold gw_at at h1
  dsimp only at h1
  have hlt : ci < 100 := Nat.lt_of_lt_of_le (List.getElem?_eq_some_iff.mp hc).1 (by decide)
  rw [if_pos hlt] at h1
  obtain ⟨r', h2, h3⟩ := h1
  rw [hc] at h2
  cases h2
  exact h3
theorem gw_P.ar {K : GK} {h : Hp} {H : Heap} {a k : Nat} {x : vp_A} (hP : gw_P K h H) (e : gw_ar h a k = some x) : H[a]? = some (vp_cell (K.2.1 k) x) := (hP.1 a _ (gw_arE e)).1
section GwRows
variable {p : Program} {l : Launch} {e : Env} {R : Room} {s : State} {m : MethodId} {args : Array Value} {below : List Frame} {meth : Method} {c : Code} {H : Heap} {locs : List Loc} {cells slots : Nat} {Q : State → Prop}
variable {cc : ByteArray} {pc : Nat} {ls : Array Slot} {rest : List Value} {K : GK} {h u : Hp} {H0 : Heap} {own : String}
/-- what stays all through a method -/
def gw_C (K : GK) (own : String) (p : Program) (s : State) (m : MethodId) (args : Array Value) (c : Code) (cc : ByteArray) : Prop :=
  p.tables.exec = Jvm.exec ∧ c.code = cc ∧ (∀ w ∈ lw_all, w.before args s = true) ∧ s.vm.findClass own = some m.cls ∧ va_K K.1 gw_cl (gw_ty K.2.1) s ∧ gw_A K ∧ gw_X K.2.2.2.2.1 K.2.2.2.1 s s.heap ∧ gw_N s ∧ gw_L K s
theorem gw_iget {ci k idx a N : Nat} {ref Cn : String} {T : u_T} {x : Int32} (C : gw_C K own p s m args c cc) (hP : gw_P K h H) (hc : gw_cl[ci]? = some (Cn, T, N)) (hin : ∀ w ∈ u_ws Cn T N, w ∈ lw_all) (hk : k < N) (he : gw_gi ci k a h = some (x, u)) (hlink : Cond.fieldLink own idx ref (T k).2.1 (T k).2.2.1 ∈ lw_all) (hT : (T k).1 = ref) (hdg : decode cc pc = .ok (.getfield idx, 3))
    (kk : gw_P K u H → W p l e R s m args below meth c H locs cells slots Q (F0 m (pc + 3) ls (.int x :: rest))) : W p l e R s m args below meth c H locs cells slots Q (F0 m pc ls (.ref a :: rest)) := by
  unfold gw_gi at he
  split at he
  case h_2 => cases he
  case h_1 F hF =>
  split at he
  case h_2 => cases he
  case h_1 y hy =>
  obtain ⟨rfl, rfl⟩ := Prod.mk.inj (Option.some.inj he)
  exact hz_get C.1 C.2.1 C.2.2.1 hin C.2.2.2.1 C.2.2.2.2.1 hc (hP.ob hF hc) k hk (C.2.2.1 _ hlink) (fun z h => by rw [hT] at h; exact h) hy hdg (kk hP)
theorem gw_igetN {ci k idx a N : Nat} {ref Cn host : String} {T : u_T} {x : Int32} (C : gw_C K own p s m args c cc) (hP : gw_P K h H) (hc : gw_cl[ci]? = some (Cn, T, N)) (hin : ∀ w ∈ u_ws Cn T N, w ∈ lw_all) (hk : k < N) (he : gw_gi ci k a h = some (x, u)) (hlink : Cond.fieldLinkNest own idx ref (T k).2.1 (T k).2.2.1 host ∈ lw_tbl) (hT : (T k).1 = ref) (hdg : decode cc pc = .ok (.getfield idx, 3))
    (kk : gw_P K u H → W p l e R s m args below meth c H locs cells slots Q (F0 m (pc + 3) ls (.int x :: rest))) : W p l e R s m args below meth c H locs cells slots Q (F0 m pc ls (.ref a :: rest)) := by
  unfold gw_gi at he
  split at he
  case h_2 => cases he
  case h_1 F hF =>
  split at he
  case h_2 => cases he
  case h_1 y hy =>
  obtain ⟨rfl, rfl⟩ := Prod.mk.inj (Option.some.inj he)
  exact hz_getN C.1 C.2.1 C.2.2.1 hin C.2.2.2.1 C.2.2.2.2.1 hc (hP.ob hF hc) k hk (gw_Nw C.2.2.2.2.2.2.2.1 hlink rfl rfl) (fun z h => by rw [hT] at h; exact h) hy hdg (kk hP)
theorem gw_lget {ci k idx a N : Nat} {ref Cn : String} {T : u_T} {x : Int64} (C : gw_C K own p s m args c cc) (hP : gw_P K h H) (hc : gw_cl[ci]? = some (Cn, T, N)) (hin : ∀ w ∈ u_ws Cn T N, w ∈ lw_all) (hk : k < N) (he : gw_gl ci k a h = some (x, u)) (hlink : Cond.fieldLink own idx ref (T k).2.1 (T k).2.2.1 ∈ lw_all) (hT : (T k).1 = ref) (hdg : decode cc pc = .ok (.getfield idx, 3))
    (kk : gw_P K u H → W p l e R s m args below meth c H locs cells slots Q (F0 m (pc + 3) ls (.long x :: rest))) : W p l e R s m args below meth c H locs cells slots Q (F0 m pc ls (.ref a :: rest)) := by
  unfold gw_gl at he
  split at he
  case h_2 => cases he
  case h_1 F hF =>
  split at he
  case h_2 => cases he
  case h_1 y hy =>
  obtain ⟨rfl, rfl⟩ := Prod.mk.inj (Option.some.inj he)
  exact hz_get C.1 C.2.1 C.2.2.1 hin C.2.2.2.1 C.2.2.2.2.1 hc (hP.ob hF hc) k hk (C.2.2.1 _ hlink) (fun z h => by rw [hT] at h; exact h) hy hdg (kk hP)
theorem gw_lgetN {ci k idx a N : Nat} {ref Cn host : String} {T : u_T} {x : Int64} (C : gw_C K own p s m args c cc) (hP : gw_P K h H) (hc : gw_cl[ci]? = some (Cn, T, N)) (hin : ∀ w ∈ u_ws Cn T N, w ∈ lw_all) (hk : k < N) (he : gw_gl ci k a h = some (x, u)) (hlink : Cond.fieldLinkNest own idx ref (T k).2.1 (T k).2.2.1 host ∈ lw_tbl) (hT : (T k).1 = ref) (hdg : decode cc pc = .ok (.getfield idx, 3))
    (kk : gw_P K u H → W p l e R s m args below meth c H locs cells slots Q (F0 m (pc + 3) ls (.long x :: rest))) : W p l e R s m args below meth c H locs cells slots Q (F0 m pc ls (.ref a :: rest)) := by
  unfold gw_gl at he
  split at he
  case h_2 => cases he
  case h_1 F hF =>
  split at he
  case h_2 => cases he
  case h_1 y hy =>
  obtain ⟨rfl, rfl⟩ := Prod.mk.inj (Option.some.inj he)
  exact hz_getN C.1 C.2.1 C.2.2.1 hin C.2.2.2.1 C.2.2.2.2.1 hc (hP.ob hF hc) k hk (gw_Nw C.2.2.2.2.2.2.2.1 hlink rfl rfl) (fun z h => by rw [hT] at h; exact h) hy hdg (kk hP)
theorem gw_rget {ci k idx a N : Nat} {ref Cn : String} {T : u_T} {x : Nat} (C : gw_C K own p s m args c cc) (hP : gw_P K h H) (hc : gw_cl[ci]? = some (Cn, T, N)) (hin : ∀ w ∈ u_ws Cn T N, w ∈ lw_all) (hk : k < N) (he : gw_gr ci k a h = some (x, u)) (hlink : Cond.fieldLink own idx ref (T k).2.1 (T k).2.2.1 ∈ lw_all) (hT : (T k).1 = ref) (hdg : decode cc pc = .ok (.getfield idx, 3))
    (kk : gw_P K u H → W p l e R s m args below meth c H locs cells slots Q (F0 m (pc + 3) ls (.ref x :: rest))) : W p l e R s m args below meth c H locs cells slots Q (F0 m pc ls (.ref a :: rest)) := by
  unfold gw_gr at he
  split at he
  case h_2 => cases he
  case h_1 F hF =>
  split at he
  case h_2 => cases he
  case h_1 y hy =>
  obtain ⟨rfl, rfl⟩ := Prod.mk.inj (Option.some.inj he)
  exact hz_get C.1 C.2.1 C.2.2.1 hin C.2.2.2.1 C.2.2.2.2.1 hc (hP.ob hF hc) k hk (C.2.2.1 _ hlink) (fun z h => by rw [hT] at h; exact h) hy hdg (kk hP)
theorem gw_rgetN {ci k idx a N : Nat} {ref Cn host : String} {T : u_T} {x : Nat} (C : gw_C K own p s m args c cc) (hP : gw_P K h H) (hc : gw_cl[ci]? = some (Cn, T, N)) (hin : ∀ w ∈ u_ws Cn T N, w ∈ lw_all) (hk : k < N) (he : gw_gr ci k a h = some (x, u)) (hlink : Cond.fieldLinkNest own idx ref (T k).2.1 (T k).2.2.1 host ∈ lw_tbl) (hT : (T k).1 = ref) (hdg : decode cc pc = .ok (.getfield idx, 3))
    (kk : gw_P K u H → W p l e R s m args below meth c H locs cells slots Q (F0 m (pc + 3) ls (.ref x :: rest))) : W p l e R s m args below meth c H locs cells slots Q (F0 m pc ls (.ref a :: rest)) := by
  unfold gw_gr at he
  split at he
  case h_2 => cases he
  case h_1 F hF =>
  split at he
  case h_2 => cases he
  case h_1 y hy =>
  obtain ⟨rfl, rfl⟩ := Prod.mk.inj (Option.some.inj he)
  exact hz_getN C.1 C.2.1 C.2.2.1 hin C.2.2.2.1 C.2.2.2.2.1 hc (hP.ob hF hc) k hk (gw_Nw C.2.2.2.2.2.2.2.1 hlink rfl rfl) (fun z h => by rw [hT] at h; exact h) hy hdg (kk hP)
theorem gw_vput {ci k idx a N : Nat} {ref Cn : String} {T : u_T} {v : Value} {w : Unit} (C : gw_C K own p s m args c cc) (hP : gw_P K h H) (hS : va_S K.2.2.2.1 H0 H locs) (hc : gw_cl[ci]? = some (Cn, T, N)) (hin : ∀ w ∈ u_ws Cn T N, w ∈ lw_all) (ty0 : Nat → FieldType) (hty : ∀ k, k < N → parseFieldDescriptor (T k).2.2.1 = some (ty0 k)) (hnm : ∀ a, a < N → ∀ b, b < N → a ≠ b → (T a).2.1 ≠ (T b).2.1) (hk : k < N) (he : gw_pv ci k a v h = some (w, u)) (hlink : Cond.fieldLink own idx ref (T k).2.1 (T k).2.2.1 ∈ lw_all) (hT : (T k).1 = ref) (hfin : (T k).2.2.2 = false) (hn : narrow (ty0 k) v = v) (hfit : fits (ty0 k) v = true) (hdg : decode cc pc = .ok (.putfield idx, 3))
    (kk : ∀ (H1 : Heap) (locs1 : List Loc), gw_P K u H1 → va_S K.2.2.2.1 H0 H1 locs1 → W p l e R s m args below meth c H1 locs1 cells slots Q (F0 m (pc + 3) ls rest)) : W p l e R s m args below meth c H locs cells slots Q (F0 m pc ls (v :: .ref a :: rest)) := by
  unfold gw_pv at he
  split at he
  case h_2 => cases he
  case h_1 F hF =>
  obtain ⟨-, rfl⟩ := Prod.mk.inj (Option.some.inj he)
  refine hz_put C.1 C.2.1 C.2.2.1 hin ty0 hty hnm C.2.2.2.1 C.2.2.2.2.1 hc (hP.ob hF hc) hS (hP.oA hF (gw_c100 hc)) k hk (C.2.2.1 _ hlink) (fun z h => by rw [hT] at h; exact h) hfin (hty k hk) hn hfit hdg fun H1 locs1 h1 h2 h3 h4 => ?_
  refine kk H1 locs1 (hP.set (hP.oA hF (gw_c100 hc)) ?_ h2 h3) h4
  unfold gw_at
  dsimp only
  rw [if_pos (Nat.lt_of_lt_of_le (List.getElem?_eq_some_iff.mp hc).1 (by decide))]
  exact ⟨_, hc, h1⟩
theorem gw_vputN {ci k idx a N : Nat} {ref Cn host : String} {T : u_T} {v : Value} {w : Unit} (C : gw_C K own p s m args c cc) (hP : gw_P K h H) (hS : va_S K.2.2.2.1 H0 H locs) (hc : gw_cl[ci]? = some (Cn, T, N)) (hin : ∀ w ∈ u_ws Cn T N, w ∈ lw_all) (ty0 : Nat → FieldType) (hty : ∀ k, k < N → parseFieldDescriptor (T k).2.2.1 = some (ty0 k)) (hnm : ∀ a, a < N → ∀ b, b < N → a ≠ b → (T a).2.1 ≠ (T b).2.1) (hk : k < N) (he : gw_pv ci k a v h = some (w, u)) (hlink : Cond.fieldLinkNest own idx ref (T k).2.1 (T k).2.2.1 host ∈ lw_tbl) (hT : (T k).1 = ref) (hfin : (T k).2.2.2 = false) (hn : narrow (ty0 k) v = v) (hfit : fits (ty0 k) v = true) (hdg : decode cc pc = .ok (.putfield idx, 3))
    (kk : ∀ (H1 : Heap) (locs1 : List Loc), gw_P K u H1 → va_S K.2.2.2.1 H0 H1 locs1 → W p l e R s m args below meth c H1 locs1 cells slots Q (F0 m (pc + 3) ls rest)) : W p l e R s m args below meth c H locs cells slots Q (F0 m pc ls (v :: .ref a :: rest)) := by
  unfold gw_pv at he
  split at he
  case h_2 => cases he
  case h_1 F hF =>
  obtain ⟨-, rfl⟩ := Prod.mk.inj (Option.some.inj he)
  refine hz_putN C.1 C.2.1 C.2.2.1 hin ty0 hty hnm C.2.2.2.1 C.2.2.2.2.1 hc (hP.ob hF hc) hS (hP.oA hF (gw_c100 hc)) k hk (gw_Nw C.2.2.2.2.2.2.2.1 hlink rfl rfl) (fun z h => by rw [hT] at h; exact h) hfin (hty k hk) hn hfit hdg fun H1 locs1 h1 h2 h3 h4 => ?_
  refine kk H1 locs1 (hP.set (hP.oA hF (gw_c100 hc)) ?_ h2 h3) h4
  unfold gw_at
  dsimp only
  rw [if_pos (Nat.lt_of_lt_of_le (List.getElem?_eq_some_iff.mp hc).1 (by decide))]
  exact ⟨_, hc, h1⟩
theorem gw_vputF {ci k idx a N : Nat} {ref Cn : String} {T : u_T} {v : Value} {w : Unit} (C : gw_C K own p s m args c cc) (hP : gw_P K h H) (hS : va_S K.2.2.2.1 H0 H locs) (hc : gw_cl[ci]? = some (Cn, T, N)) (hin : ∀ w ∈ u_ws Cn T N, w ∈ lw_all) (ty0 : Nat → FieldType) (hty : ∀ k, k < N → parseFieldDescriptor (T k).2.2.1 = some (ty0 k)) (hnm : ∀ a, a < N → ∀ b, b < N → a ≠ b → (T a).2.1 ≠ (T b).2.1) (hk : k < N) (he : gw_pv ci k a v h = some (w, u)) (hlink : Cond.fieldLink own idx ref (T k).2.1 (T k).2.2.1 ∈ lw_all) (hT : (T k).1 = ref) (hfin : (T k).2.2.2 = true) (hin2 : meth.name = "<init>") (hdecl : (T k).1 = own) (hn : narrow (ty0 k) v = v) (hfit : fits (ty0 k) v = true) (hdg : decode cc pc = .ok (.putfield idx, 3))
    (kk : ∀ (H1 : Heap) (locs1 : List Loc), gw_P K u H1 → va_S K.2.2.2.1 H0 H1 locs1 → W p l e R s m args below meth c H1 locs1 cells slots Q (F0 m (pc + 3) ls rest)) : W p l e R s m args below meth c H locs cells slots Q (F0 m pc ls (v :: .ref a :: rest)) := by
  unfold gw_pv at he
  split at he
  case h_2 => cases he
  case h_1 F hF =>
  obtain ⟨-, rfl⟩ := Prod.mk.inj (Option.some.inj he)
  refine hz_putF C.1 C.2.1 C.2.2.1 hin ty0 hty hnm C.2.2.2.1 C.2.2.2.2.1 hc (hP.ob hF hc) hS (hP.oA hF (gw_c100 hc)) k hk (C.2.2.1 _ hlink) (fun z h => by rw [hT] at h; exact h) hfin hin2 hdecl (hty k hk) hn hfit hdg fun H1 locs1 h1 h2 h3 h4 => ?_
  refine kk H1 locs1 (hP.set (hP.oA hF (gw_c100 hc)) ?_ h2 h3) h4
  unfold gw_at
  dsimp only
  rw [if_pos (Nat.lt_of_lt_of_le (List.getElem?_eq_some_iff.mp hc).1 (by decide))]
  exact ⟨_, hc, h1⟩
theorem gw_pzE {ci k a : Nat} {x : Int32} {h u : Hp} {w : Unit} (he : gw_pz ci k a x h = some (w, u)) : (x = 0 ∨ x = 1) ∧ gw_pv ci k a (.int x) h = some (w, u) := by
  unfold gw_pz at he
  split at he
  · next hx => exact ⟨hx, he⟩
  · cases he
theorem gw_zn {x : Int32} (h : x = 0 ∨ x = 1) : narrow .boolean (.int x) = .int x := by rcases h with rfl | rfl <;> rfl
theorem gw_zf {x : Int32} (h : x = 0 ∨ x = 1) : fits .boolean (.int x) = true := by rcases h with rfl | rfl <;> rfl
theorem gw_iald {a : Nat} {i : Int32} {x : Int32} (C : gw_C K own p s m args c cc) (hP : gw_P K h H) (he : gw_ld 0 a i h = some (x, u)) (hdg : decode cc pc = .ok (.iaload, 1))
    (kk : gw_P K u H → W p l e R s m args below meth c H locs cells slots Q (F0 m (pc + 1) ls (.int x :: rest))) : W p l e R s m args below meth c H locs cells slots Q (F0 m pc ls (.int i :: .ref a :: rest)) := by
  unfold gw_ld at he
  split at he
  case h_2 => cases he
  case h_1 n f hF =>
  split at he
  case isTrue => cases he
  case isFalse hb =>
  obtain ⟨rfl, rfl⟩ := Prod.mk.inj (Option.some.inj he)
  exact hz_iald C.1 C.2.1 (hP.ar hF) (C.2.2.2.2.1.2 0 _ rfl).1 hb hdg (kk hP)
theorem gw_bald {a : Nat} {i : Int32} {x : Int32} (C : gw_C K own p s m args c cc) (hP : gw_P K h H) (he : gw_ld 3 a i h = some (x, u)) (hdg : decode cc pc = .ok (.baload, 1))
    (kk : gw_P K u H → W p l e R s m args below meth c H locs cells slots Q (F0 m (pc + 1) ls (.int x :: rest))) : W p l e R s m args below meth c H locs cells slots Q (F0 m pc ls (.int i :: .ref a :: rest)) := by
  unfold gw_ld at he
  split at he
  case h_2 => cases he
  case h_1 n f hF =>
  split at he
  case isTrue => cases he
  case isFalse hb =>
  obtain ⟨rfl, rfl⟩ := Prod.mk.inj (Option.some.inj he)
  exact hz_bald C.1 C.2.1 (hP.ar hF) (C.2.2.2.2.1.2 3 _ rfl).1 hb hdg (kk hP)
theorem gw_lald {a : Nat} {i : Int32} {x : Int64} (C : gw_C K own p s m args c cc) (hP : gw_P K h H) (he : gw_ll a i h = some (x, u)) (hdg : decode cc pc = .ok (.laload, 1))
    (kk : gw_P K u H → W p l e R s m args below meth c H locs cells slots Q (F0 m (pc + 1) ls (.long x :: rest))) : W p l e R s m args below meth c H locs cells slots Q (F0 m pc ls (.int i :: .ref a :: rest)) := by
  unfold gw_ll at he
  split at he
  case h_2 => cases he
  case h_1 n f hF =>
  split at he
  case isTrue => cases he
  case isFalse hb =>
  obtain ⟨rfl, rfl⟩ := Prod.mk.inj (Option.some.inj he)
  exact hz_lald C.1 C.2.1 (hP.ar hF) (C.2.2.2.2.1.2 1 _ rfl).1 hb hdg (kk hP)
theorem gw_iast {a : Nat} {i : Int32} {x : Int32} {w : Unit} (C : gw_C K own p s m args c cc) (hP : gw_P K h H) (hS : va_S K.2.2.2.1 H0 H locs) (he : gw_st a i x h = some (w, u)) (hdg : decode cc pc = .ok (.iastore, 1))
    (kk : ∀ (H1 : Heap) (locs1 : List Loc), gw_P K u H1 → va_S K.2.2.2.1 H0 H1 locs1 → W p l e R s m args below meth c H1 locs1 cells slots Q (F0 m (pc + 1) ls rest)) : W p l e R s m args below meth c H locs cells slots Q (F0 m pc ls (.int x :: .int i :: .ref a :: rest)) := by
  unfold gw_st at he
  split at he
  case h_2 => cases he
  case h_1 n f hF =>
  split at he
  case isTrue => cases he
  case isFalse hb =>
  obtain ⟨-, rfl⟩ := Prod.mk.inj (Option.some.inj he)
  exact hz_iast C.1 C.2.1 (hP.ar hF) (C.2.2.2.2.1.2 0 _ rfl).1 hS (hP.aA hF) hb hdg fun H1 locs1 h1 h2 h3 h4 => kk H1 locs1 (hP.set (hP.aA hF) h1 h2 h3) h4
theorem gw_bast {a : Nat} {i : Int32} {x : Int32} {w : Unit} (C : gw_C K own p s m args c cc) (hP : gw_P K h H) (hS : va_S K.2.2.2.1 H0 H locs) (he : gw_sb a i x h = some (w, u)) (hdg : decode cc pc = .ok (.bastore, 1))
    (kk : ∀ (H1 : Heap) (locs1 : List Loc), gw_P K u H1 → va_S K.2.2.2.1 H0 H1 locs1 → W p l e R s m args below meth c H1 locs1 cells slots Q (F0 m (pc + 1) ls rest)) : W p l e R s m args below meth c H locs cells slots Q (F0 m pc ls (.int x :: .int i :: .ref a :: rest)) := by
  unfold gw_sb at he
  split at he
  case h_2 => cases he
  case h_1 n f hF =>
  split at he
  case isTrue => cases he
  case isFalse hb =>
  obtain ⟨-, rfl⟩ := Prod.mk.inj (Option.some.inj he)
  exact hz_bast C.1 C.2.1 (hP.ar hF) (C.2.2.2.2.1.2 3 _ rfl).1 hS (hP.aA hF) hb hdg fun H1 locs1 h1 h2 h3 h4 => kk H1 locs1 (hP.set (hP.aA hF) h1 h2 h3) h4
theorem gw_last {a : Nat} {i : Int32} {x : Int64} {w : Unit} (C : gw_C K own p s m args c cc) (hP : gw_P K h H) (hS : va_S K.2.2.2.1 H0 H locs) (he : gw_sl a i x h = some (w, u)) (hdg : decode cc pc = .ok (.lastore, 1))
    (kk : ∀ (H1 : Heap) (locs1 : List Loc), gw_P K u H1 → va_S K.2.2.2.1 H0 H1 locs1 → W p l e R s m args below meth c H1 locs1 cells slots Q (F0 m (pc + 1) ls rest)) : W p l e R s m args below meth c H locs cells slots Q (F0 m pc ls (.long x :: .int i :: .ref a :: rest)) := by
  unfold gw_sl at he
  split at he
  case h_2 => cases he
  case h_1 n f hF =>
  split at he
  case isTrue => cases he
  case isFalse hb =>
  obtain ⟨-, rfl⟩ := Prod.mk.inj (Option.some.inj he)
  exact hz_last C.1 C.2.1 (hP.ar hF) (C.2.2.2.2.1.2 1 _ rfl).1 hS (hP.aA hF) hb hdg fun H1 locs1 h1 h2 h3 h4 => kk H1 locs1 (hP.set (hP.aA hF) h1 h2 h3) h4
theorem gw_qald {q a : Nat} {C0 : String} {i : Int32} {x : Option Nat} (C : gw_C K own p s m args c cc) (hP : gw_P K h H) (hq : (gw_ty K.2.1)[q]? = some (K.2.1 q, .object C0)) (he : gw_lq q a i h = some (x, u)) (hdg : decode cc pc = .ok (.aaload, 1))
    (kk : gw_P K u H → W p l e R s m args below meth c H locs cells slots Q (F0 m (pc + 1) ls (va_rf x :: rest))) : W p l e R s m args below meth c H locs cells slots Q (F0 m pc ls (.int i :: .ref a :: rest)) := by
  unfold gw_lq at he
  split at he
  case h_2 => cases he
  case h_1 n f hF =>
  split at he
  case isTrue => cases he
  case isFalse hb =>
  obtain ⟨rfl, rfl⟩ := Prod.mk.inj (Option.some.inj he)
  exact hz_aald C.1 C.2.1 (hP.ar hF) (C.2.2.2.2.1.2 q _ hq).1 hb hdg (kk hP)
theorem gw_aald {q a x : Nat} {C0 : String} {i : Int32} (C : gw_C K own p s m args c cc) (hP : gw_P K h H) (hq : (gw_ty K.2.1)[q]? = some (K.2.1 q, .object C0)) (he : gw_lr q a i h = some (x, u)) (hdg : decode cc pc = .ok (.aaload, 1))
    (kk : gw_P K u H → W p l e R s m args below meth c H locs cells slots Q (F0 m (pc + 1) ls (.ref x :: rest))) : W p l e R s m args below meth c H locs cells slots Q (F0 m pc ls (.int i :: .ref a :: rest)) := by
  unfold gw_lr at he
  split at he
  case h_2 => cases he
  case h_1 v u' hF =>
  obtain ⟨rfl, rfl⟩ := Prod.mk.inj (Option.some.inj he)
  exact gw_qald C hP hq hF hdg kk
theorem gw_aast {q ci a v : Nat} {i : Int32} {w : Unit} {r : vw_C} (C : gw_C K own p s m args c cc) (hP : gw_P K h H) (hS : va_S K.2.2.2.1 H0 H locs) (hc : gw_cl[ci]? = some r) (hq : (gw_ty K.2.1)[q]? = some (K.2.1 q, .object r.1)) (he : gw_sr q ci a i v h = some (w, u)) (hdg : decode cc pc = .ok (.aastore, 1))
    (kk : ∀ (H1 : Heap) (locs1 : List Loc), gw_P K u H1 → va_S K.2.2.2.1 H0 H1 locs1 → W p l e R s m args below meth c H1 locs1 cells slots Q (F0 m (pc + 1) ls rest)) : W p l e R s m args below meth c H locs cells slots Q (F0 m pc ls (.ref v :: .int i :: .ref a :: rest)) := by
  unfold gw_sr at he
  split at he
  case h_2 => cases he
  case h_1 n f F hF hO =>
  split at he
  case isTrue => cases he
  case isFalse hb =>
  obtain ⟨-, rfl⟩ := Prod.mk.inj (Option.some.inj he)
  exact hz_aast C.1 C.2.1 C.2.2.2.2.1 (hP.ar hF) (C.2.2.2.2.1.2 q _ hq).2 hc (hP.ob hO hc) hS (hP.aA hF) hb hdg fun H1 locs1 h1 h2 h3 h4 => kk H1 locs1 (hP.set (hP.aA hF) h1 h2 h3) h4
theorem gw_alen {q a : Nat} {x : Int32} {ty : FieldType} (C : gw_C K own p s m args c cc) (hP : gw_P K h H) (hq : (gw_ty K.2.1)[q]? = some (K.2.1 q, ty)) (he : gw_al q a h = some (x, u)) (hdg : decode cc pc = .ok (.arraylength, 1))
    (kk : gw_P K u H → W p l e R s m args below meth c H locs cells slots Q (F0 m (pc + 1) ls (.int x :: rest))) : W p l e R s m args below meth c H locs cells slots Q (F0 m pc ls (.ref a :: rest)) := by
  unfold gw_al at he
  split at he
  case h_2 => cases he
  case h_1 y hF =>
  obtain ⟨rfl, rfl⟩ := Prod.mk.inj (Option.some.inj he)
  exact hz_alen C.1 C.2.1 (hP.ar hF) (C.2.2.2.2.1.2 q _ hq).1 hdg (kk hP)
theorem gw_new {ci N a c1 s1 idx : Nat} {Cn : String} {T : u_T} {ty : Nat → FieldType} (C : gw_C K own p s m args c cc) (hP : gw_P K h H) (hS : va_S K.2.2.2.1 H0 H locs) (hc : gw_cl[ci]? = some (Cn, T, N)) (hin : ∀ w ∈ u_ws Cn T N, w ∈ lw_all) (hty : ∀ k, k < N → parseFieldDescriptor (T k).2.2.1 = some (ty k)) (he : gw_nw ci N ty h = some (a, u, c1, s1)) (h1 : Cond.classLink own idx Cn ∈ lw_all) (h2 : Cond.instantiable Cn N ∈ lw_all) (h3 : Cond.initialized Cn ∈ lw_all) (hcells : cells + c1 ≤ R.cells) (hslots : slots + s1 ≤ R.slots) (hdg : decode cc pc = .ok (.new idx, 3))
    (kk : ∀ H1 : Heap, gw_P K u H1 → va_S K.2.2.2.1 H0 H1 locs → W p l e R s m args below meth c H1 locs (cells + c1) (slots + s1) Q (F0 m (pc + 3) ls (.ref a :: rest))) : W p l e R s m args below meth c H locs cells slots Q (F0 m pc ls rest) := by
  unfold gw_nw at he
  cases he
  refine hz_new C.1 C.2.1 C.2.2.1 hin ty hty C.2.2.2.1 (C.2.2.1 _ h1) (C.2.2.1 _ h2) (C.2.2.1 _ h3) C.2.2.2.2.1 hS hc hcells hslots hdg fun H1 g1 g2 g3 g4 => ?_
  rw [← hP.2.1] at g1 ⊢
  refine kk H1 (hP.push C.2.2.2.2.2.1 ?_ g3 g2) g4
  unfold gw_at
  dsimp only
  rw [if_pos (Nat.lt_of_lt_of_le (List.getElem?_eq_some_iff.mp hc).1 (by decide)), ← hP.2.1]
  exact ⟨_, hc, g1⟩
theorem gw_newa {q a c1 s1 : Nat} {n : Int32} {atype : ArrayType} {ty : FieldType} (C : gw_C K own p s m args c cc) (hP : gw_P K h H) (hS : va_S K.2.2.2.1 H0 H locs) (he : gw_na q n h = some (a, u, c1, s1)) (harr : Cond.arrayClass (newarray.typeOf atype) ∈ lw_all) (hty : newarray.typeOf atype = ty) (hq : (gw_ty K.2.1)[q]? = some (K.2.1 q, ty)) (hRA : va_RA s (K.2.1 q) ty → s.vm.findClass ("[" ++ ty.toString) = some (K.2.1 q)) (hdf : defaultValue ty = .int 0) (hby : componentBytes ty ≤ 8) (hcells : cells + c1 ≤ R.cells) (hslots : slots + s1 ≤ R.slots) (hdg : decode cc pc = .ok (.newarray atype, 2))
    (kk : ∀ H1 : Heap, gw_P K u H1 → va_S K.2.2.2.1 H0 H1 locs → W p l e R s m args below meth c H1 locs (cells + c1) (slots + s1) Q (F0 m (pc + 2) ls (.ref a :: rest))) : W p l e R s m args below meth c H locs cells slots Q (F0 m pc ls (.int n :: rest)) := by
  unfold gw_na at he
  split at he
  case isTrue => cases he
  case isFalse hb =>
  cases he
  refine hz_newa C.1 C.2.1 (C.2.2.1 _ harr) hty (hRA (C.2.2.2.2.1.2 q _ hq).2) hS (fun h => hb (Or.inl h)) rfl (Nat.le_trans (Nat.mul_le_mul (Nat.not_lt.mp fun h => hb (Or.inr h)) hby) (by decide)) hcells hslots hdg fun H1 g1 g2 g3 g4 => ?_
  rw [← hP.2.1] at g1 ⊢
  refine kk H1 (hP.push C.2.2.2.2.2.1 ?_ g3 g2) g4
  show H1[_]? = some (vp_cell _ _)
  rw [← hP.2.1, g1, vp_cell_i, hdf]
theorem gw_newl {a c1 s1 : Nat} {n : Int32} (C : gw_C K own p s m args c cc) (hP : gw_P K h H) (hS : va_S K.2.2.2.1 H0 H locs) (he : gw_nl n h = some (a, u, c1, s1)) (harr : Cond.arrayClass (newarray.typeOf .long) ∈ lw_all) (hcells : cells + c1 ≤ R.cells) (hslots : slots + s1 ≤ R.slots) (hdg : decode cc pc = .ok (.newarray .long, 2))
    (kk : ∀ H1 : Heap, gw_P K u H1 → va_S K.2.2.2.1 H0 H1 locs → W p l e R s m args below meth c H1 locs (cells + c1) (slots + s1) Q (F0 m (pc + 2) ls (.ref a :: rest))) : W p l e R s m args below meth c H locs cells slots Q (F0 m pc ls (.int n :: rest)) := by
  unfold gw_nl at he
  split at he
  case isTrue => cases he
  case isFalse hb =>
  cases he
  refine hz_newa (atype := .long) (ty := .long) C.1 C.2.1 (C.2.2.1 _ harr) rfl (C.2.2.2.2.1.2 1 _ rfl).2 hS (fun h => hb (Or.inl h)) rfl (Nat.le_trans (Nat.mul_le_mul (Nat.not_lt.mp fun h => hb (Or.inr h)) (show componentBytes .long ≤ 8 by decide)) (by decide)) hcells hslots hdg fun H1 g1 g2 g3 g4 => ?_
  rw [← hP.2.1] at g1 ⊢
  refine kk H1 (hP.push C.2.2.2.2.2.1 ?_ g3 g2) g4
  show H1[_]? = some (vp_cell _ _)
  rw [← hP.2.1, g1, vp_cell_l]
  rfl
theorem gw_newq {q a c1 s1 idx : Nat} {n : Int32} {Cn : String} (C : gw_C K own p s m args c cc) (hP : gw_P K h H) (hS : va_S K.2.2.2.1 H0 H locs) (he : gw_nq q n h = some (a, u, c1, s1)) (hcl : Cond.classLink own idx Cn ∈ lw_all) (hover : Cond.arrayOver (.object Cn) ∈ lw_tbl) (hq : (gw_ty K.2.1)[q]? = some (K.2.1 q, .object Cn)) (hcells : cells + c1 ≤ R.cells) (hslots : slots + s1 ≤ R.slots) (hdg : decode cc pc = .ok (.anewarray idx, 3))
    (kk : ∀ H1 : Heap, gw_P K u H1 → va_S K.2.2.2.1 H0 H1 locs → W p l e R s m args below meth c H1 locs (cells + c1) (slots + s1) Q (F0 m (pc + 3) ls (.ref a :: rest))) : W p l e R s m args below meth c H locs cells slots Q (F0 m pc ls (.int n :: rest)) := by
  unfold gw_nq at he
  split at he
  case isTrue => cases he
  case isFalse hb =>
  cases he
  refine hz_newq C.1 C.2.1 C.2.2.2.1 (C.2.2.1 _ hcl) (C.2.2.2.2.2.2.2.1 _ hover rfl) (C.2.2.2.2.1.2 q _ hq).2 hS (fun h => hb (Or.inl h)) rfl (Nat.le_trans (Nat.mul_le_mul_right 4 (Nat.not_lt.mp fun h => hb (Or.inr h))) (by decide)) hcells hslots hdg fun H1 g1 g2 g3 g4 => ?_
  rw [← hP.2.1] at g1 ⊢
  refine kk H1 (hP.push C.2.2.2.2.2.1 ?_ g3 g2) g4
  show H1[_]? = some (vp_cell _ _)
  rw [← hP.2.1, g1]
theorem gw_bits {i x : Int32} {σ : Type} {t t1 : σ} (C : gw_C K own p s m args c cc) (hS : va_S K.2.2.2.1 s.heap H locs) (he : gw_bt i t = some (x, t1)) (hdg : decode cc pc = .ok (.iaload, 1))
    (kk : t = t1 → W p l e R s m args below meth c H locs cells slots Q (F0 m (pc + 1) ls (.int x :: rest))) : W p l e R s m args below meth c H locs cells slots Q (F0 m pc ls (.int i :: .ref K.2.2.2.2.1.2.2 :: rest)) := by
  unfold gw_bt at he
  split at he
  case isTrue => cases he
  case isFalse hb =>
  obtain ⟨rfl, rfl⟩ := Prod.mk.inj (Option.some.inj he)
  exact va_ti C.1 C.2.1 C.2.2.2.2.2.2.1.2.2.2.2.2.2.1 hS hb rfl hdg (kk rfl)
theorem gw_blind {av : List Value} : FrameBlind (va_Pc av (gw_W K h)) := fun a U g mk q => ⟨q.1, q.2.1, va_K.moved (u := U) (U := U.calling g mk a) (Vm.Alike.refl U.vm) q.2.2.1, q.2.2.2.1.blind g mk a, gw_N.same (u := U) (U := U.calling g mk a) rfl q.2.2.2.2.1, gl_L.same (u := U) (U := U.calling g mk a) rfl q.2.2.2.2.2⟩
theorem gw_here {av : List Value} (C : gw_C K own p s m args c cc) (hS : va_S K.2.2.2.1 s.heap H locs) (hP : gw_P K h H) (U : State) (hU : U.heap = H) (hW : s.WarmedH U.vm) : va_Pc av (gw_W K h) av.toArray U := ⟨rfl, by rw [hU]; exact hP, va_K.moved hW.alike C.2.2.2.2.1, C.2.2.2.2.2.2.1.pass hS hU hW, C.2.2.2.2.2.2.2.1.warm hW, gl_L.warm hW C.2.2.2.2.2.2.2.2⟩
theorem gw_recv {a ci : Nat} {r : vw_C} (C : gw_C K own p s m args c cc) (hP : gw_P K h H) (hc : gw_cl[ci]? = some r) (hO : ∃ F, gw_ob h a ci = some F) : ∃ cell : Cell, H[a]? = some cell ∧ cell.vm.isStatics = false ∧ s.vm.findClass r.1 = some cell.cls := by
  obtain ⟨F, hF⟩ := hO
  obtain ⟨cell, g1, g2, g3, -⟩ := hP.ob hF hc
  exact ⟨cell, g1, by rw [g3]; rfl, by rw [g2]; exact (C.2.2.2.2.1.1 ci r hc).2.1⟩
variable {y : MethodName} {bytes : ByteArray} {maxL nL n index mc ms : Nat} {ret : Option FieldType} {rm : Room} {As : List Value} {st : List Value}
theorem gw_cVi {r : Int32} {b ci : Nat} {Cn : String} {T : u_T} {N : Nat} (C : gw_C K own p s m args c cc) (hml : c.maxLocals = nL) (hP : gw_P K h H) (hS : va_S K.2.2.2.1 s.heap H locs) (hc : gw_cl[ci]? = some (Cn, T, N)) (hO : ∃ F, gw_ob h b ci = some F) (hM : Met l y (ws_ y bytes maxL ret) rm (va_Pc (.ref b :: As) (gw_W K h)) (gw_Qi K r u) mc ms K.2.2.2.1) (cw : CallW R s args own Cn index y bytes maxL ret (ws_ y bytes maxL ret) rm mc ms n) (hn : As.length = n) (hsize : ls.size = nL) (hst0 : st = As.reverse ++ .ref b :: rest) (hw : (rest.map fun v => v.category).sum ≤ 8) (hcells : cells + mc ≤ R.cells) (hslots : slots + ms ≤ R.slots) (hdg : decode cc pc = .ok (.invokevirtual index, 3))
    (kk : ∀ (H1 : Heap) (locs1 : List Loc), gw_P K u H1 → va_S K.2.2.2.1 s.heap H1 locs1 → W p l e R s m args below meth c H1 locs1 (cells + mc) (slots + ms) Q (F0 m (pc + 3) ls (.int r :: rest))) : W p l e R s m args below meth c H locs cells slots Q (F0 m pc ls st) := by
  refine va_calli (va_runV (As := As) (rest := rest) ⟨C.1, C.2.1, hml, C.2.2.2.1, C.2.2.1⟩ hM cw ⟨gw_blind, gw_recv C hP hc hO, gw_here C hS hP⟩ rfl hn hsize hst0 (lv_room hw) hdg ⟨hcells, hslots⟩) hS (fun q _ h => h) (fun q h => h) (fun r' u' t' H1 locs1 ht hvm hp hB hz hk hS1 => ?_)
  subst hp
  subst ht
  exact kk _ locs1 hB hS1
theorem gw_cSi {r : Int32} (C : gw_C K own p s m args c cc) (hml : c.maxLocals = nL) (hP : gw_P K h H) (hS : va_S K.2.2.2.1 s.heap H locs) (hM : Met l y (ws_ y bytes maxL ret) rm (va_Pc As (gw_W K h)) (gw_Qi K r u) mc ms K.2.2.2.1) (cw : CallB R s args own index y bytes maxL ret (ws_ y bytes maxL ret) rm mc ms n ∧ (Cond.static y).before args s = true) (hn : As.length = n) (hsize : ls.size = nL) (hst0 : st = As.reverse ++ rest) (hw : (rest.map fun v => v.category).sum ≤ 8) (hcells : cells + mc ≤ R.cells) (hslots : slots + ms ≤ R.slots) (hdg : decode cc pc = .ok (.invokestatic index, 3))
    (kk : ∀ (H1 : Heap) (locs1 : List Loc), gw_P K u H1 → va_S K.2.2.2.1 s.heap H1 locs1 → W p l e R s m args below meth c H1 locs1 (cells + mc) (slots + ms) Q (F0 m (pc + 3) ls (.int r :: rest))) : W p l e R s m args below meth c H locs cells slots Q (F0 m pc ls st) := by
  refine va_calli (va_runS (As := As) (rest := rest) ⟨C.1, C.2.1, hml, C.2.2.2.1, C.2.2.1⟩ hM cw ⟨gw_blind, gw_here C hS hP⟩ rfl hn hsize hst0 (lv_room hw) hdg ⟨hcells, hslots⟩) hS (fun q _ h => h) (fun q h => h) (fun r' u' t' H1 locs1 ht hvm hp hB hz hk hS1 => ?_)
  subst hp
  subst ht
  exact kk _ locs1 hB hS1
theorem gw_cKi {r : Int32} {host : String} (C : gw_C K own p s m args c cc) (hml : c.maxLocals = nL) (hP : gw_P K h H) (hS : va_S K.2.2.2.1 s.heap H locs) (hM : Met l y (ws_ y bytes maxL ret) rm (va_Pc As (gw_W K h)) (gw_Qi K r u) mc ms K.2.2.2.1) (cw : va_CN R s args own index y host bytes maxL ret (ws_ y bytes maxL ret) rm mc ms n ∧ (Cond.static y).before args s = true ∧ True) (hn : As.length = n) (hsize : ls.size = nL) (hst0 : st = As.reverse ++ rest) (hw : (rest.map fun v => v.category).sum ≤ 8) (hcells : cells + mc ≤ R.cells) (hslots : slots + ms ≤ R.slots) (hdg : decode cc pc = .ok (.invokestatic index, 3))
    (kk : ∀ (H1 : Heap) (locs1 : List Loc), gw_P K u H1 → va_S K.2.2.2.1 s.heap H1 locs1 → W p l e R s m args below meth c H1 locs1 (cells + mc) (slots + ms) Q (F0 m (pc + 3) ls (.int r :: rest))) : W p l e R s m args below meth c H locs cells slots Q (F0 m pc ls st) := by
  refine va_calli (va_runSN (As := As) (rest := rest) ⟨C.1, C.2.1, hml, C.2.2.2.1, C.2.2.1⟩ hM cw ⟨gw_blind, gw_here C hS hP⟩ rfl hn hsize hst0 (lv_room hw) hdg ⟨hcells, hslots⟩) hS (fun q _ h => h) (fun q h => h) (fun r' u' t' H1 locs1 ht hvm hp hB hz hk hS1 => ?_)
  subst hp
  subst ht
  exact kk _ locs1 hB hS1
theorem gw_cVl {r : Int64} {b ci : Nat} {Cn : String} {T : u_T} {N : Nat} (C : gw_C K own p s m args c cc) (hml : c.maxLocals = nL) (hP : gw_P K h H) (hS : va_S K.2.2.2.1 s.heap H locs) (hc : gw_cl[ci]? = some (Cn, T, N)) (hO : ∃ F, gw_ob h b ci = some F) (hM : Met l y (ws_ y bytes maxL ret) rm (va_Pc (.ref b :: As) (gw_W K h)) (gw_Ql K r u) mc ms K.2.2.2.1) (cw : CallW R s args own Cn index y bytes maxL ret (ws_ y bytes maxL ret) rm mc ms n) (hn : As.length = n) (hsize : ls.size = nL) (hst0 : st = As.reverse ++ .ref b :: rest) (hw : (rest.map fun v => v.category).sum ≤ 8) (hcells : cells + mc ≤ R.cells) (hslots : slots + ms ≤ R.slots) (hdg : decode cc pc = .ok (.invokevirtual index, 3))
    (kk : ∀ (H1 : Heap) (locs1 : List Loc), gw_P K u H1 → va_S K.2.2.2.1 s.heap H1 locs1 → W p l e R s m args below meth c H1 locs1 (cells + mc) (slots + ms) Q (F0 m (pc + 3) ls (.long r :: rest))) : W p l e R s m args below meth c H locs cells slots Q (F0 m pc ls st) := by
  refine va_calll (va_runV (As := As) (rest := rest) ⟨C.1, C.2.1, hml, C.2.2.2.1, C.2.2.1⟩ hM cw ⟨gw_blind, gw_recv C hP hc hO, gw_here C hS hP⟩ rfl hn hsize hst0 (lv_room hw) hdg ⟨hcells, hslots⟩) hS (fun q _ h => h) (fun q h => h) (fun r' u' t' H1 locs1 ht hvm hp hB hz hk hS1 => ?_)
  subst hp
  subst ht
  exact kk _ locs1 hB hS1
theorem gw_cSl {r : Int64} (C : gw_C K own p s m args c cc) (hml : c.maxLocals = nL) (hP : gw_P K h H) (hS : va_S K.2.2.2.1 s.heap H locs) (hM : Met l y (ws_ y bytes maxL ret) rm (va_Pc As (gw_W K h)) (gw_Ql K r u) mc ms K.2.2.2.1) (cw : CallB R s args own index y bytes maxL ret (ws_ y bytes maxL ret) rm mc ms n ∧ (Cond.static y).before args s = true) (hn : As.length = n) (hsize : ls.size = nL) (hst0 : st = As.reverse ++ rest) (hw : (rest.map fun v => v.category).sum ≤ 8) (hcells : cells + mc ≤ R.cells) (hslots : slots + ms ≤ R.slots) (hdg : decode cc pc = .ok (.invokestatic index, 3))
    (kk : ∀ (H1 : Heap) (locs1 : List Loc), gw_P K u H1 → va_S K.2.2.2.1 s.heap H1 locs1 → W p l e R s m args below meth c H1 locs1 (cells + mc) (slots + ms) Q (F0 m (pc + 3) ls (.long r :: rest))) : W p l e R s m args below meth c H locs cells slots Q (F0 m pc ls st) := by
  refine va_calll (va_runS (As := As) (rest := rest) ⟨C.1, C.2.1, hml, C.2.2.2.1, C.2.2.1⟩ hM cw ⟨gw_blind, gw_here C hS hP⟩ rfl hn hsize hst0 (lv_room hw) hdg ⟨hcells, hslots⟩) hS (fun q _ h => h) (fun q h => h) (fun r' u' t' H1 locs1 ht hvm hp hB hz hk hS1 => ?_)
  subst hp
  subst ht
  exact kk _ locs1 hB hS1
theorem gw_cKl {r : Int64} {host : String} (C : gw_C K own p s m args c cc) (hml : c.maxLocals = nL) (hP : gw_P K h H) (hS : va_S K.2.2.2.1 s.heap H locs) (hM : Met l y (ws_ y bytes maxL ret) rm (va_Pc As (gw_W K h)) (gw_Ql K r u) mc ms K.2.2.2.1) (cw : va_CN R s args own index y host bytes maxL ret (ws_ y bytes maxL ret) rm mc ms n ∧ (Cond.static y).before args s = true ∧ True) (hn : As.length = n) (hsize : ls.size = nL) (hst0 : st = As.reverse ++ rest) (hw : (rest.map fun v => v.category).sum ≤ 8) (hcells : cells + mc ≤ R.cells) (hslots : slots + ms ≤ R.slots) (hdg : decode cc pc = .ok (.invokestatic index, 3))
    (kk : ∀ (H1 : Heap) (locs1 : List Loc), gw_P K u H1 → va_S K.2.2.2.1 s.heap H1 locs1 → W p l e R s m args below meth c H1 locs1 (cells + mc) (slots + ms) Q (F0 m (pc + 3) ls (.long r :: rest))) : W p l e R s m args below meth c H locs cells slots Q (F0 m pc ls st) := by
  refine va_calll (va_runSN (As := As) (rest := rest) ⟨C.1, C.2.1, hml, C.2.2.2.1, C.2.2.1⟩ hM cw ⟨gw_blind, gw_here C hS hP⟩ rfl hn hsize hst0 (lv_room hw) hdg ⟨hcells, hslots⟩) hS (fun q _ h => h) (fun q h => h) (fun r' u' t' H1 locs1 ht hvm hp hB hz hk hS1 => ?_)
  subst hp
  subst ht
  exact kk _ locs1 hB hS1
theorem gw_cVv {b ci : Nat} {Cn : String} {T : u_T} {N : Nat} (C : gw_C K own p s m args c cc) (hml : c.maxLocals = nL) (hP : gw_P K h H) (hS : va_S K.2.2.2.1 s.heap H locs) (hc : gw_cl[ci]? = some (Cn, T, N)) (hO : ∃ F, gw_ob h b ci = some F) (hM : Met l y (ws_ y bytes maxL ret) rm (va_Pc (.ref b :: As) (gw_W K h)) (gw_Qv K u) mc ms K.2.2.2.1) (cw : CallW R s args own Cn index y bytes maxL ret (ws_ y bytes maxL ret) rm mc ms n) (hn : As.length = n) (hsize : ls.size = nL) (hst0 : st = As.reverse ++ .ref b :: rest) (hw : (rest.map fun v => v.category).sum ≤ 8) (hcells : cells + mc ≤ R.cells) (hslots : slots + ms ≤ R.slots) (hdg : decode cc pc = .ok (.invokevirtual index, 3))
    (kk : ∀ (H1 : Heap) (locs1 : List Loc), gw_P K u H1 → va_S K.2.2.2.1 s.heap H1 locs1 → W p l e R s m args below meth c H1 locs1 (cells + mc) (slots + ms) Q (F0 m (pc + 3) ls (rest))) : W p l e R s m args below meth c H locs cells slots Q (F0 m pc ls st) := by
  refine va_callv (va_runV (As := As) (rest := rest) ⟨C.1, C.2.1, hml, C.2.2.2.1, C.2.2.1⟩ hM cw ⟨gw_blind, gw_recv C hP hc hO, gw_here C hS hP⟩ rfl hn hsize hst0 (lv_room hw) hdg ⟨hcells, hslots⟩) hS (fun q _ h => h) (fun q h => h) (fun u' t' H1 locs1 ht hvm hp hB hz hk hS1 => ?_)
  subst ht
  exact kk _ locs1 hB hS1
theorem gw_cSv (C : gw_C K own p s m args c cc) (hml : c.maxLocals = nL) (hP : gw_P K h H) (hS : va_S K.2.2.2.1 s.heap H locs) (hM : Met l y (ws_ y bytes maxL ret) rm (va_Pc As (gw_W K h)) (gw_Qv K u) mc ms K.2.2.2.1) (cw : CallB R s args own index y bytes maxL ret (ws_ y bytes maxL ret) rm mc ms n ∧ (Cond.static y).before args s = true) (hn : As.length = n) (hsize : ls.size = nL) (hst0 : st = As.reverse ++ rest) (hw : (rest.map fun v => v.category).sum ≤ 8) (hcells : cells + mc ≤ R.cells) (hslots : slots + ms ≤ R.slots) (hdg : decode cc pc = .ok (.invokestatic index, 3))
    (kk : ∀ (H1 : Heap) (locs1 : List Loc), gw_P K u H1 → va_S K.2.2.2.1 s.heap H1 locs1 → W p l e R s m args below meth c H1 locs1 (cells + mc) (slots + ms) Q (F0 m (pc + 3) ls (rest))) : W p l e R s m args below meth c H locs cells slots Q (F0 m pc ls st) := by
  refine va_callv (va_runS (As := As) (rest := rest) ⟨C.1, C.2.1, hml, C.2.2.2.1, C.2.2.1⟩ hM cw ⟨gw_blind, gw_here C hS hP⟩ rfl hn hsize hst0 (lv_room hw) hdg ⟨hcells, hslots⟩) hS (fun q _ h => h) (fun q h => h) (fun u' t' H1 locs1 ht hvm hp hB hz hk hS1 => ?_)
  subst ht
  exact kk _ locs1 hB hS1
theorem gw_cIv {b : Nat} (C : gw_C K own p s m args c cc) (hml : c.maxLocals = nL) (hP : gw_P K h H) (hS : va_S K.2.2.2.1 s.heap H locs) (hM : Met l y (ws_ y bytes maxL none) rm (va_Pc (.ref b :: As) (gw_W K h)) (gw_Qv K u) mc ms K.2.2.2.1) (cw : CallB R s args own index y bytes maxL none (ws_ y bytes maxL none) rm mc ms n ∧ y.name = "<init>" ∧ (Cond.instanceMethod y).before args s = true) (hn : As.length = n) (hsize : ls.size = nL) (hst0 : st = As.reverse ++ .ref b :: rest) (hw : (rest.map fun v => v.category).sum ≤ 8) (hcells : cells + mc ≤ R.cells) (hslots : slots + ms ≤ R.slots) (hdg : decode cc pc = .ok (.invokespecial index, 3))
    (kk : ∀ (H1 : Heap) (locs1 : List Loc), gw_P K u H1 → va_S K.2.2.2.1 s.heap H1 locs1 → W p l e R s m args below meth c H1 locs1 (cells + mc) (slots + ms) Q (F0 m (pc + 3) ls (rest))) : W p l e R s m args below meth c H locs cells slots Q (F0 m pc ls st) := by
  refine va_callv (va_runI (As := As) (rest := rest) ⟨C.1, C.2.1, hml, C.2.2.2.1, C.2.2.1⟩ hM cw ⟨gw_blind, gw_here C hS hP⟩ rfl hn hsize hst0 (lv_room hw) hdg ⟨hcells, hslots⟩) hS (fun q _ h => h) (fun q h => h) (fun u' t' H1 locs1 ht hvm hp hB hz hk hS1 => ?_)
  subst ht
  exact kk _ locs1 hB hS1
theorem gw_cJv {b : Nat} {host : String} (C : gw_C K own p s m args c cc) (hml : c.maxLocals = nL) (hP : gw_P K h H) (hS : va_S K.2.2.2.1 s.heap H locs) (hM : Met l y (ws_ y bytes maxL none) rm (va_Pc (.ref b :: As) (gw_W K h)) (gw_Qv K u) mc ms K.2.2.2.1) (cw : va_CN R s args own index y host bytes maxL none (ws_ y bytes maxL none) rm mc ms n ∧ y.name = "<init>" ∧ (Cond.instanceMethod y).before args s = true) (hn : As.length = n) (hsize : ls.size = nL) (hst0 : st = As.reverse ++ .ref b :: rest) (hw : (rest.map fun v => v.category).sum ≤ 8) (hcells : cells + mc ≤ R.cells) (hslots : slots + ms ≤ R.slots) (hdg : decode cc pc = .ok (.invokespecial index, 3))
    (kk : ∀ (H1 : Heap) (locs1 : List Loc), gw_P K u H1 → va_S K.2.2.2.1 s.heap H1 locs1 → W p l e R s m args below meth c H1 locs1 (cells + mc) (slots + ms) Q (F0 m (pc + 3) ls (rest))) : W p l e R s m args below meth c H locs cells slots Q (F0 m pc ls st) := by
  refine va_callv (va_runIN (As := As) (rest := rest) ⟨C.1, C.2.1, hml, C.2.2.2.1, C.2.2.1⟩ hM cw ⟨gw_blind, gw_here C hS hP⟩ rfl hn hsize hst0 (lv_room hw) hdg ⟨hcells, hslots⟩) hS (fun q _ h => h) (fun q h => h) (fun u' t' H1 locs1 ht hvm hp hB hz hk hS1 => ?_)
  subst ht
  exact kk _ locs1 hB hS1
theorem gw_cKv {host : String} (C : gw_C K own p s m args c cc) (hml : c.maxLocals = nL) (hP : gw_P K h H) (hS : va_S K.2.2.2.1 s.heap H locs) (hM : Met l y (ws_ y bytes maxL ret) rm (va_Pc As (gw_W K h)) (gw_Qv K u) mc ms K.2.2.2.1) (cw : va_CN R s args own index y host bytes maxL ret (ws_ y bytes maxL ret) rm mc ms n ∧ (Cond.static y).before args s = true ∧ True) (hn : As.length = n) (hsize : ls.size = nL) (hst0 : st = As.reverse ++ rest) (hw : (rest.map fun v => v.category).sum ≤ 8) (hcells : cells + mc ≤ R.cells) (hslots : slots + ms ≤ R.slots) (hdg : decode cc pc = .ok (.invokestatic index, 3))
    (kk : ∀ (H1 : Heap) (locs1 : List Loc), gw_P K u H1 → va_S K.2.2.2.1 s.heap H1 locs1 → W p l e R s m args below meth c H1 locs1 (cells + mc) (slots + ms) Q (F0 m (pc + 3) ls (rest))) : W p l e R s m args below meth c H locs cells slots Q (F0 m pc ls st) := by
  refine va_callv (va_runSN (As := As) (rest := rest) ⟨C.1, C.2.1, hml, C.2.2.2.1, C.2.2.1⟩ hM cw ⟨gw_blind, gw_here C hS hP⟩ rfl hn hsize hst0 (lv_room hw) hdg ⟨hcells, hslots⟩) hS (fun q _ h => h) (fun q h => h) (fun u' t' H1 locs1 ht hvm hp hB hz hk hS1 => ?_)
  subst ht
  exact kk _ locs1 hB hS1
theorem gw_cVr {r : Nat} {b ci : Nat} {Cn : String} {T : u_T} {N : Nat} (C : gw_C K own p s m args c cc) (hml : c.maxLocals = nL) (hP : gw_P K h H) (hS : va_S K.2.2.2.1 s.heap H locs) (hc : gw_cl[ci]? = some (Cn, T, N)) (hO : ∃ F, gw_ob h b ci = some F) (hM : Met l y (ws_ y bytes maxL ret) rm (va_Pc (.ref b :: As) (gw_W K h)) (gw_Qr K r u) mc ms K.2.2.2.1) (cw : CallW R s args own Cn index y bytes maxL ret (ws_ y bytes maxL ret) rm mc ms n) (hn : As.length = n) (hsize : ls.size = nL) (hst0 : st = As.reverse ++ .ref b :: rest) (hw : (rest.map fun v => v.category).sum ≤ 8) (hcells : cells + mc ≤ R.cells) (hslots : slots + ms ≤ R.slots) (hdg : decode cc pc = .ok (.invokevirtual index, 3))
    (kk : ∀ (H1 : Heap) (locs1 : List Loc), gw_P K u H1 → va_S K.2.2.2.1 s.heap H1 locs1 → W p l e R s m args below meth c H1 locs1 (cells + mc) (slots + ms) Q (F0 m (pc + 3) ls (.ref r :: rest))) : W p l e R s m args below meth c H locs cells slots Q (F0 m pc ls st) := by
  refine va_callr (va_runV (As := As) (rest := rest) ⟨C.1, C.2.1, hml, C.2.2.2.1, C.2.2.1⟩ hM cw ⟨gw_blind, gw_recv C hP hc hO, gw_here C hS hP⟩ rfl hn hsize hst0 (lv_room hw) hdg ⟨hcells, hslots⟩) hS (fun q _ h => h) (fun q h => h) (fun u' r' t' H1 locs1 ht hvm hp hB hz hk hS1 => ?_)
  subst ht
  obtain ⟨rfl, hB⟩ := hB
  exact kk _ locs1 hB hS1
theorem gw_cSr {r : Nat} (C : gw_C K own p s m args c cc) (hml : c.maxLocals = nL) (hP : gw_P K h H) (hS : va_S K.2.2.2.1 s.heap H locs) (hM : Met l y (ws_ y bytes maxL ret) rm (va_Pc As (gw_W K h)) (gw_Qr K r u) mc ms K.2.2.2.1) (cw : CallB R s args own index y bytes maxL ret (ws_ y bytes maxL ret) rm mc ms n ∧ (Cond.static y).before args s = true) (hn : As.length = n) (hsize : ls.size = nL) (hst0 : st = As.reverse ++ rest) (hw : (rest.map fun v => v.category).sum ≤ 8) (hcells : cells + mc ≤ R.cells) (hslots : slots + ms ≤ R.slots) (hdg : decode cc pc = .ok (.invokestatic index, 3))
    (kk : ∀ (H1 : Heap) (locs1 : List Loc), gw_P K u H1 → va_S K.2.2.2.1 s.heap H1 locs1 → W p l e R s m args below meth c H1 locs1 (cells + mc) (slots + ms) Q (F0 m (pc + 3) ls (.ref r :: rest))) : W p l e R s m args below meth c H locs cells slots Q (F0 m pc ls st) := by
  refine va_callr (va_runS (As := As) (rest := rest) ⟨C.1, C.2.1, hml, C.2.2.2.1, C.2.2.1⟩ hM cw ⟨gw_blind, gw_here C hS hP⟩ rfl hn hsize hst0 (lv_room hw) hdg ⟨hcells, hslots⟩) hS (fun q _ h => h) (fun q h => h) (fun u' r' t' H1 locs1 ht hvm hp hB hz hk hS1 => ?_)
  subst ht
  obtain ⟨rfl, hB⟩ := hB
  exact kk _ locs1 hB hS1
theorem gw_cKr {r : Nat} {host : String} (C : gw_C K own p s m args c cc) (hml : c.maxLocals = nL) (hP : gw_P K h H) (hS : va_S K.2.2.2.1 s.heap H locs) (hM : Met l y (ws_ y bytes maxL ret) rm (va_Pc As (gw_W K h)) (gw_Qr K r u) mc ms K.2.2.2.1) (cw : va_CN R s args own index y host bytes maxL ret (ws_ y bytes maxL ret) rm mc ms n ∧ (Cond.static y).before args s = true ∧ True) (hn : As.length = n) (hsize : ls.size = nL) (hst0 : st = As.reverse ++ rest) (hw : (rest.map fun v => v.category).sum ≤ 8) (hcells : cells + mc ≤ R.cells) (hslots : slots + ms ≤ R.slots) (hdg : decode cc pc = .ok (.invokestatic index, 3))
    (kk : ∀ (H1 : Heap) (locs1 : List Loc), gw_P K u H1 → va_S K.2.2.2.1 s.heap H1 locs1 → W p l e R s m args below meth c H1 locs1 (cells + mc) (slots + ms) Q (F0 m (pc + 3) ls (.ref r :: rest))) : W p l e R s m args below meth c H locs cells slots Q (F0 m pc ls st) := by
  refine va_callr (va_runSN (As := As) (rest := rest) ⟨C.1, C.2.1, hml, C.2.2.2.1, C.2.2.1⟩ hM cw ⟨gw_blind, gw_here C hS hP⟩ rfl hn hsize hst0 (lv_room hw) hdg ⟨hcells, hslots⟩) hS (fun q _ h => h) (fun q h => h) (fun u' r' t' H1 locs1 ht hvm hp hB hz hk hS1 => ?_)
  subst ht
  obtain ⟨rfl, hB⟩ := hB
  exact kk _ locs1 hB hS1
theorem gw_ireti {x r : Int32} {mc ms : Nat} (hR : x = r) (ht : h = u) (h1 : cells = mc) (h2 : slots = ms) (C : gw_C K own p s m args c cc) (hr : meth.sig.returnType = some .int) (hP : gw_P K h H) (hS : va_S K.2.2.2.1 s.heap H locs) (hlocks : meth.locks = false) (hdg : decode cc pc = .ok (.ireturn, 1)) : W p l e R s m args below meth c H locs cells slots (MQ below (gw_Qi K r u) args s mc ms K.2.2.2.1) (F0 m pc ls [.int x]) := by
  subst hR; subst ht; subst h1; subst h2
  exact W.iret C.1 C.2.1 hr (fun t' ht hW => ⟨⟨x, (), rfl, rfl, by rw [← ht] at hP; exact hP⟩, hS.F ht⟩) hS.2.2 hdg hlocks
theorem gw_iretz {x r : Int32} {mc ms : Nat} (hx : x = 0 ∨ x = 1) (hR : x = r) (ht : h = u) (h1 : cells = mc) (h2 : slots = ms) (C : gw_C K own p s m args c cc) (hr : meth.sig.returnType = some .boolean) (hP : gw_P K h H) (hS : va_S K.2.2.2.1 s.heap H locs) (hlocks : meth.locks = false) (hdg : decode cc pc = .ok (.ireturn, 1)) : W p l e R s m args below meth c H locs cells slots (MQ below (gw_Qi K r u) args s mc ms K.2.2.2.1) (F0 m pc ls [.int x]) := by
  subst hR; subst ht; subst h1; subst h2
  exact W.zret C.1 C.2.1 hr (by rcases hx with rfl | rfl <;> rfl) (fun t' ht hW => ⟨⟨x, (), rfl, rfl, by rw [← ht] at hP; exact hP⟩, hS.F ht⟩) hS.2.2 hdg hlocks
theorem gw_iretl {x r : Int64} {mc ms : Nat} (hR : x = r) (ht : h = u) (h1 : cells = mc) (h2 : slots = ms) (C : gw_C K own p s m args c cc) (hr : meth.sig.returnType = some .long) (hP : gw_P K h H) (hS : va_S K.2.2.2.1 s.heap H locs) (hlocks : meth.locks = false) (hdg : decode cc pc = .ok (.lreturn, 1)) : W p l e R s m args below meth c H locs cells slots (MQ below (gw_Ql K r u) args s mc ms K.2.2.2.1) (F0 m pc ls [.long x]) := by
  subst hR; subst ht; subst h1; subst h2
  exact W.lret C.1 C.2.1 hr (fun t' ht hW => ⟨⟨x, (), rfl, rfl, by rw [← ht] at hP; exact hP⟩, hS.F ht⟩) hS.2.2 hdg hlocks
theorem gw_iretv {mc ms : Nat} (ht : h = u) (h1 : cells = mc) (h2 : slots = ms) (C : gw_C K own p s m args c cc) (hr : meth.sig.returnType = none) (hP : gw_P K h H) (hS : va_S K.2.2.2.1 s.heap H locs) (hlocks : meth.locks = false) (hdg : decode cc pc = .ok (.return_, 1)) : W p l e R s m args below meth c H locs cells slots (MQ below (gw_Qv K u) args s mc ms K.2.2.2.1) (F0 m pc ls []) := by
  subst ht; subst h1; subst h2
  exact W.vret C.1 C.2.1 hr (fun t' ht hW => ⟨⟨(), rfl, trivial, by rw [← ht] at hP; exact hP⟩, hS.F ht⟩) hS.2.2 hdg hlocks
theorem gw_iretr {x r : Nat} {mc ms : Nat} {rt : FieldType} (hR : x = r) (ht : h = u) (h1 : cells = mc) (h2 : slots = ms) (C : gw_C K own p s m args c cc) (hr : meth.sig.returnType = some rt) (hn : (∃ n, rt = .object n) ∨ ∃ t, rt = .array t) (hP : gw_P K h H) (hS : va_S K.2.2.2.1 s.heap H locs) (hlocks : meth.locks = false) (hdg : decode cc pc = .ok (.areturn, 1)) : W p l e R s m args below meth c H locs cells slots (MQ below (gw_Qr K r u) args s mc ms K.2.2.2.1) (F0 m pc ls [.ref x]) := by
  subst hR; subst ht; subst h1; subst h2
  exact W.aret C.1 C.2.1 hr hn (Or.inr ⟨_, rfl⟩) (fun t' ht hW => ⟨⟨(), x, rfl, trivial, rfl, by rw [← ht] at hP; exact hP⟩, hS.F ht⟩) hS.2.2 hdg hlocks
end GwRows
