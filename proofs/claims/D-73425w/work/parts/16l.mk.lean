/-! a lambda made: its object, with what it caught -/
def gw_n1 (j a : Nat) : gM Nat := fun h => some (h.2, gw_push h (.inr (100 + j, fun _ => .ref a)), 1, 1)
def gw_n2 (x y : Int32) : gM Nat := fun h => some (h.2, gw_push h (.inr (101, fun i => if i = 0 then .int x else .int y)), 1, 2)
theorem gl_k0 : ∃ n, gl_D0.constantPool[19]? = some (.class_ n) ∧ gl_D0.constantPool.string? n = some "LosslessFabric" ∧ 19 ≠ gl_D0.thisClass := by
  refine ⟨18, ?_⟩
  decide +kernel
theorem gl_t0 : gl_s0.implDesc.toString = "(II)I" ∧ gl_s0.sam.toString = "(II)I" := by decide +kernel
theorem gl_k1 : ∃ n, gl_D1.constantPool[22]? = some (.class_ n) ∧ gl_D1.constantPool.string? n = some "LosslessFabric" ∧ 22 ≠ gl_D1.thisClass := by
  refine ⟨21, ?_⟩
  decide +kernel
theorem gl_t1 : gl_s1.implDesc.toString = "(IILLosslessFabric$State;)V" ∧ gl_s1.sam.toString = "(LLosslessFabric$State;)V" := by decide +kernel
theorem gl_k2 : ∃ n, gl_D2.constantPool[19]? = some (.class_ n) ∧ gl_D2.constantPool.string? n = some "LosslessFabric" ∧ 19 ≠ gl_D2.thisClass := by
  refine ⟨18, ?_⟩
  decide +kernel
theorem gl_t2 : gl_s2.implDesc.toString = "(LLosslessFabric$State;II)Z" ∧ gl_s2.sam.toString = "(II)Z" := by decide +kernel
theorem gl_k3 : ∃ n, gl_D3.constantPool[19]? = some (.class_ n) ∧ gl_D3.constantPool.string? n = some "LosslessFabric" ∧ 19 ≠ gl_D3.thisClass := by
  refine ⟨18, ?_⟩
  decide +kernel
theorem gl_t3 : gl_s3.implDesc.toString = "(II)Z" ∧ gl_s3.sam.toString = "(II)Z" := by decide +kernel
theorem gl_k4 : ∃ n, gl_D4.constantPool[19]? = some (.class_ n) ∧ gl_D4.constantPool.string? n = some "LosslessFabric" ∧ 19 ≠ gl_D4.thisClass := by
  refine ⟨18, ?_⟩
  decide +kernel
theorem gl_t4 : gl_s4.implDesc.toString = "(LLosslessFabric$State;)Z" ∧ gl_s4.sam.toString = "(LLosslessFabric$State;)Z" := by decide +kernel
theorem gl_k5 : ∃ n, gl_D5.constantPool[14]? = some (.class_ n) ∧ gl_D5.constantPool.string? n = some "LosslessFabric" ∧ 14 ≠ gl_D5.thisClass := by
  refine ⟨13, ?_⟩
  decide +kernel
theorem gl_t5 : gl_s5.implDesc.toString = "(LLosslessFabric$State;)Z" ∧ gl_s5.sam.toString = "(LLosslessFabric$State;)Z" := by decide +kernel
section GwMk
variable {p : Program} {l : Launch} {e : Env} {R : Room} {s : State} {m : MethodId} {args : Array Value} {below : List Frame} {meth : Method} {c : Code} {H : Heap} {locs : List Loc} {cells slots : Nat} {Q : State → Prop}
variable {cc : ByteArray} {pc : Nat} {ls : Array Slot} {rest : List Value} {K : GK} {h u : Hp} {H0 : Heap} {own : String}

theorem gw_mk0 {a b c1 s1 : Nat} (C : gw_C K own p s m args c cc) (hml : c.maxLocals = ls.size) (hnamed : s.methodNamed? gl_x0 = some m) (hP : gw_P K h H) (hS : va_S K.2.2.2.1 H0 H locs) (he : gw_n1 0 a h = some (b, u, c1, s1)) (hwords : ((.ref a :: rest).map fun v => v.category).sum + 3072 ≤ R.locals) (hcells : cells + c1 ≤ R.cells) (hslots : slots + s1 ≤ R.slots) (hdg : decode cc 64 = .ok (.invokedynamic 40, 5))
    (kk : ∀ H1 : Heap, gw_P K u H1 → va_S K.2.2.2.1 H0 H1 locs → W p l e R s m args below meth c H1 locs (cells + c1) (slots + s1) Q (F0 m 69 ls (.ref b :: rest))) : W p l e R s m args below meth c H locs cells slots Q (F0 m 64 ls (.ref a :: rest)) := by
  unfold gw_n1 at he
  cases he
  refine gl_make (vals := [.ref a]) (rest := rest) C.1 C.2.1 hml C.2.2.2.2.2.2.2.2.1.1 hnamed rfl (C.2.2.1 _ q1943) gl_f0 rfl rfl gl_t0.1 gl_g0 gl_h0 gl_i0 gl_p0 gl_k0 gl_l0 rfl rfl (fun i t v h1 h2 => by match i, h1, h2 with | 0, h1, h2 => cases h1; cases h2; rfl | i + 1, h1, h2 => simp at h1) hwords hcells hslots hdg fun H1 e1 z o1 => ?_
  rw [← hP.2.1]
  refine kk H1 (hP.push C.2.2.2.2.2.1 ?_ o1 z) ⟨Nat.le_trans hS.1 (by omega), fun x h1 h2 => (o1 x (Nat.lt_of_lt_of_le h1 hS.1)).trans (hS.2.1 x h1 h2), hS.2.2⟩
  unfold gw_at
  dsimp only
  rw [if_neg (by decide)]
  refine ⟨_, e1, rfl, rfl, fun j hj => ?_⟩
  match j, hj with
  | 0, _ => rfl
  | _ + 1, h => exact absurd h (by simp [gw_lc])
theorem gw_mk1 {b c1 s1 : Nat} {x y : Int32} (C : gw_C K own p s m args c cc) (hml : c.maxLocals = ls.size) (hnamed : s.methodNamed? gl_x1 = some m) (hP : gw_P K h H) (hS : va_S K.2.2.2.1 H0 H locs) (he : gw_n2 x y h = some (b, u, c1, s1)) (hwords : ((.int y :: .int x :: rest).map fun v => v.category).sum + 3072 ≤ R.locals) (hcells : cells + c1 ≤ R.cells) (hslots : slots + s1 ≤ R.slots) (hdg : decode cc 162 = .ok (.invokedynamic 259, 5))
    (kk : ∀ H1 : Heap, gw_P K u H1 → va_S K.2.2.2.1 H0 H1 locs → W p l e R s m args below meth c H1 locs (cells + c1) (slots + s1) Q (F0 m 167 ls (.ref b :: rest))) : W p l e R s m args below meth c H locs cells slots Q (F0 m 162 ls (.int y :: .int x :: rest)) := by
  unfold gw_n2 at he
  cases he
  refine gl_make (vals := [.int x, .int y]) (rest := rest) C.1 C.2.1 hml C.2.2.2.2.2.2.2.2.1.2.1 hnamed rfl (C.2.2.1 _ q1943) gl_f1 rfl rfl gl_t1.1 gl_g1 gl_h1 gl_i1 gl_p1 gl_k1 gl_l1 rfl rfl (fun i t v h1 h2 => by match i, h1, h2 with | 0, h1, h2 => cases h1; cases h2; rfl | 1, h1, h2 => cases h1; cases h2; rfl | i + 2, h1, h2 => simp at h1) hwords hcells hslots hdg fun H1 e1 z o1 => ?_
  rw [← hP.2.1]
  refine kk H1 (hP.push C.2.2.2.2.2.1 ?_ o1 z) ⟨Nat.le_trans hS.1 (by omega), fun x h1 h2 => (o1 x (Nat.lt_of_lt_of_le h1 hS.1)).trans (hS.2.1 x h1 h2), hS.2.2⟩
  unfold gw_at
  dsimp only
  rw [if_neg (by decide)]
  refine ⟨_, e1, rfl, rfl, fun j hj => ?_⟩
  match j, hj with
  | 0, _ => rfl
  | 1, _ => rfl
  | _ + 2, h => exact absurd h (by simp [gw_lc])
theorem gw_mk2 {a b c1 s1 : Nat} (C : gw_C K own p s m args c cc) (hml : c.maxLocals = ls.size) (hnamed : s.methodNamed? gl_x2 = some m) (hP : gw_P K h H) (hS : va_S K.2.2.2.1 H0 H locs) (he : gw_n1 2 a h = some (b, u, c1, s1)) (hwords : ((.ref a :: rest).map fun v => v.category).sum + 3072 ≤ R.locals) (hcells : cells + c1 ≤ R.cells) (hslots : slots + s1 ≤ R.slots) (hdg : decode cc 6 = .ok (.invokedynamic 351, 5))
    (kk : ∀ H1 : Heap, gw_P K u H1 → va_S K.2.2.2.1 H0 H1 locs → W p l e R s m args below meth c H1 locs (cells + c1) (slots + s1) Q (F0 m 11 ls (.ref b :: rest))) : W p l e R s m args below meth c H locs cells slots Q (F0 m 6 ls (.ref a :: rest)) := by
  unfold gw_n1 at he
  cases he
  refine gl_make (vals := [.ref a]) (rest := rest) C.1 C.2.1 hml C.2.2.2.2.2.2.2.2.1.2.2.1 hnamed rfl (C.2.2.1 _ q1943) gl_f2 rfl rfl gl_t2.1 gl_g2 gl_h2 gl_i2 gl_p2 gl_k2 gl_l2 rfl rfl (fun i t v h1 h2 => by match i, h1, h2 with | 0, h1, h2 => cases h1; cases h2; rfl | i + 1, h1, h2 => simp at h1) hwords hcells hslots hdg fun H1 e1 z o1 => ?_
  rw [← hP.2.1]
  refine kk H1 (hP.push C.2.2.2.2.2.1 ?_ o1 z) ⟨Nat.le_trans hS.1 (by omega), fun x h1 h2 => (o1 x (Nat.lt_of_lt_of_le h1 hS.1)).trans (hS.2.1 x h1 h2), hS.2.2⟩
  unfold gw_at
  dsimp only
  rw [if_neg (by decide)]
  refine ⟨_, e1, rfl, rfl, fun j hj => ?_⟩
  match j, hj with
  | 0, _ => rfl
  | _ + 1, h => exact absurd h (by simp [gw_lc])
theorem gw_mk3 {a b c1 s1 : Nat} (C : gw_C K own p s m args c cc) (hml : c.maxLocals = ls.size) (hnamed : s.methodNamed? gl_x3 = some m) (hP : gw_P K h H) (hS : va_S K.2.2.2.1 H0 H locs) (he : gw_n1 3 a h = some (b, u, c1, s1)) (hwords : ((.ref a :: rest).map fun v => v.category).sum + 3072 ≤ R.locals) (hcells : cells + c1 ≤ R.cells) (hslots : slots + s1 ≤ R.slots) (hdg : decode cc 33 = .ok (.invokedynamic 377, 5))
    (kk : ∀ H1 : Heap, gw_P K u H1 → va_S K.2.2.2.1 H0 H1 locs → W p l e R s m args below meth c H1 locs (cells + c1) (slots + s1) Q (F0 m 38 ls (.ref b :: rest))) : W p l e R s m args below meth c H locs cells slots Q (F0 m 33 ls (.ref a :: rest)) := by
  unfold gw_n1 at he
  cases he
  refine gl_make (vals := [.ref a]) (rest := rest) C.1 C.2.1 hml C.2.2.2.2.2.2.2.2.1.2.2.2.1 hnamed rfl (C.2.2.1 _ q1943) gl_f3 rfl rfl gl_t3.1 gl_g3 gl_h3 gl_i3 gl_p3 gl_k3 gl_l3 rfl rfl (fun i t v h1 h2 => by match i, h1, h2 with | 0, h1, h2 => cases h1; cases h2; rfl | i + 1, h1, h2 => simp at h1) hwords hcells hslots hdg fun H1 e1 z o1 => ?_
  rw [← hP.2.1]
  refine kk H1 (hP.push C.2.2.2.2.2.1 ?_ o1 z) ⟨Nat.le_trans hS.1 (by omega), fun x h1 h2 => (o1 x (Nat.lt_of_lt_of_le h1 hS.1)).trans (hS.2.1 x h1 h2), hS.2.2⟩
  unfold gw_at
  dsimp only
  rw [if_neg (by decide)]
  refine ⟨_, e1, rfl, rfl, fun j hj => ?_⟩
  match j, hj with
  | 0, _ => rfl
  | _ + 1, h => exact absurd h (by simp [gw_lc])
theorem gw_mk4 {a b c1 s1 : Nat} (C : gw_C K own p s m args c cc) (hml : c.maxLocals = ls.size) (hnamed : s.methodNamed? gl_x4 = some m) (hP : gw_P K h H) (hS : va_S K.2.2.2.1 H0 H locs) (he : gw_n1 4 a h = some (b, u, c1, s1)) (hwords : ((.ref a :: rest).map fun v => v.category).sum + 3072 ≤ R.locals) (hcells : cells + c1 ≤ R.cells) (hslots : slots + s1 ≤ R.slots) (hdg : decode cc 8 = .ok (.invokedynamic 420, 5))
    (kk : ∀ H1 : Heap, gw_P K u H1 → va_S K.2.2.2.1 H0 H1 locs → W p l e R s m args below meth c H1 locs (cells + c1) (slots + s1) Q (F0 m 13 ls (.ref b :: rest))) : W p l e R s m args below meth c H locs cells slots Q (F0 m 8 ls (.ref a :: rest)) := by
  unfold gw_n1 at he
  cases he
  refine gl_make (vals := [.ref a]) (rest := rest) C.1 C.2.1 hml C.2.2.2.2.2.2.2.2.1.2.2.2.2.1 hnamed rfl (C.2.2.1 _ q1943) gl_f4 rfl rfl gl_t4.1 gl_g4 gl_h4 gl_i4 gl_p4 gl_k4 gl_l4 rfl rfl (fun i t v h1 h2 => by match i, h1, h2 with | 0, h1, h2 => cases h1; cases h2; rfl | i + 1, h1, h2 => simp at h1) hwords hcells hslots hdg fun H1 e1 z o1 => ?_
  rw [← hP.2.1]
  refine kk H1 (hP.push C.2.2.2.2.2.1 ?_ o1 z) ⟨Nat.le_trans hS.1 (by omega), fun x h1 h2 => (o1 x (Nat.lt_of_lt_of_le h1 hS.1)).trans (hS.2.1 x h1 h2), hS.2.2⟩
  unfold gw_at
  dsimp only
  rw [if_neg (by decide)]
  refine ⟨_, e1, rfl, rfl, fun j hj => ?_⟩
  match j, hj with
  | 0, _ => rfl
  | _ + 1, h => exact absurd h (by simp [gw_lc])
end GwMk
