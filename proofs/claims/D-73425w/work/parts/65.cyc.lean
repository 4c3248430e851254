/-! bits of a word -/
theorem bt_1 : ∀ i, i < 32 → bt 1 i = decide (i = 0) := by decide +kernel
theorem bt_pow : ∀ k, k < 10 → ∀ i, i < 32 → bt (nI (2 ^ k)) i = decide (i = k) := by decide +kernel
theorem bt_test (x : Int32) {n : Nat} (hn : n < 32) : ((x >>> (nI n &&& 31)) &&& (1 : Int32)) = if bt x n then 1 else 0 := by
  refine b_ext fun i hi => ?_
  rw [b_and, b_sshr n hn x hi, bt_1 i hi]
  by_cases e : i = 0
  · subst e
    rw [if_pos (by omega), Nat.add_zero]
    cases bt x n
    · rw [if_neg (by decide), b_0]; rfl
    · rw [if_pos rfl, bt_1 0 (by decide)]; rfl
  · rw [decide_eq_false e, Bool.and_false]
    split
    · rw [bt_1 i hi, decide_eq_false e]
    · rw [b_0]
theorem bt_bs {p : Nat → Bool} {n : Nat} (hn : n ≤ 10) {i : Nat} (hi : i < 32) : bt (md_bs p n) i = (decide (i < n) && p i) := by
  induction n with
  | zero => rw [md_bs, b_0, decide_eq_false (Nat.not_lt_zero _)]; rfl
  | succ n ih =>
    have ih := ih (by omega)
    rw [md_bs]
    split
    · next h =>
      rw [b_or, ih, bt_pow n (by omega) i hi]
      by_cases e : i = n
      · subst e; rw [decide_eq_true rfl, decide_eq_true (Nat.lt_succ_self i), h]; cases decide (i < i) <;> rfl
      · rw [decide_eq_false e, Bool.or_false]
        by_cases e2 : i < n
        · rw [decide_eq_true e2, decide_eq_true (Nat.lt_succ_of_lt e2)]
        · rw [decide_eq_false e2, decide_eq_false (by omega)]
    · next h =>
      rw [ih]
      by_cases e : i = n
      · subst e
        rw [decide_eq_false (Nat.lt_irrefl i), Bool.false_and, decide_eq_true (Nat.lt_succ_self i), Bool.true_and]
        exact (Bool.eq_false_iff.mpr h).symm
      · by_cases e2 : i < n
        · rw [decide_eq_true e2, decide_eq_true (Nat.lt_succ_of_lt e2)]
        · rw [decide_eq_false e2, decide_eq_false (by omega)]
theorem bs_of {p : Nat → Bool} {n : Nat} {x : Int32} (hn : n ≤ 10) (h : ∀ i, i < 32 → (bt x i = true ↔ i < n ∧ p i = true)) : x = md_bs p n := by
  refine b_ext fun i hi => ?_
  rw [bt_bs hn hi, Bool.eq_iff_iff, h i hi, Bool.and_eq_true, decide_eq_true_eq]
theorem bs_ne0 {p : Nat → Bool} {n : Nat} (hn : n ≤ 10) : md_bs p n = 0 ↔ ∀ i, i < n → p i = false := by
  constructor
  · intro h i hi
    have h1 := bt_bs (p := p) hn (show i < 32 by omega)
    rw [h, b_0, decide_eq_true hi, Bool.true_and] at h1
    exact h1.symm
  · intro h
    refine b_ext fun i hi => ?_
    rw [bt_bs hn hi, b_0]
    by_cases e : i < n
    · rw [h i e, Bool.and_false]
    · rw [decide_eq_false e]; rfl
/-! WHO WAITS FOR WHOM -/
/-- whether any below n -/
def md_ex (p : Nat → Bool) (n : Nat) : Bool := decide (md_fd p n < n)
theorem md_ex_iff {p : Nat → Bool} {n : Nat} : md_ex p n = true ↔ ∃ i, i < n ∧ p i = true := by
  unfold md_ex
  rw [decide_eq_true_eq]
  constructor
  · intro h
    exact ⟨_, h, md_fd_is h⟩
  · rintro ⟨i, hi, hp⟩
    rcases Nat.lt_or_ge i (md_fd p n) with h | h
    · rw [md_fd_no h] at hp; cases hp
    · omega
/-- the link behind one on a flow's way; none: 99 -/
def md_nx (N : Nt) (f l : Nat) : Nat := if md_hop N f l = md_ho N f ∨ md_hop N f l + 1 = md_ho N f then 99 else md_pa N f (md_hop N f l + 1)
theorem md_nx_lt {N : Nt} (hN : md_ok N) {f l : Nat} (hf : f < md_nf N) : md_nx N f l = 99 ∨ md_nx N f l < md_nl N := by
  unfold md_nx
  split
  · exact Or.inl rfl
  · have := md_hop_le N f l
    exact Or.inr (hN.pa hf (by omega))
/-- a flow waits at l to go on to n -/
def md_wt (N : Nt) (R : Rw) (l f n : Nat) : Bool := decide (R.1 l 10 = 1 ∧ 0 < R.1 l (15 + f) ∧ md_nx N f l = n ∧ R.1 n 10 = 1)
def md_e0 (N : Nt) (R : Rw) (l n : Nat) : Bool := md_ex (fun f => md_wt N R l f n) (md_nf N)
def md_e1 (N : Nt) (l n : Nat) : Bool := md_ex (fun f => decide (md_nx N f l = n)) (md_nf N)
/-- in round r + 1 it is reached -/
def md_dq (ed : Nat → Nat → Bool) (n to r : Nat) (d : Nat → Nat) (a : Nat) : Bool := if r = 0 then ed a to else md_ex (fun b => decide (d b = r) && ed a b) n
/-- after r rounds: by how few steps one comes to a link; not yet: 99 -/
def md_ds (ed : Nat → Nat → Bool) (n to : Nat) : Nat → Nat → Nat
  | 0, _ => 99
  | r + 1, a => if md_ds ed n to r a = 99 ∧ md_dq ed n to r (md_ds ed n to r) a = true then r + 1 else md_ds ed n to r a
def md_cy (ed : Nat → Nat → Bool) (n : Nat) : Int32 := md_bs (fun l => decide (md_ds ed n l n l ≠ 99)) n
theorem md_ds_le {ed : Nat → Nat → Bool} {n to r a : Nat} : md_ds ed n to r a = 99 ∨ (1 ≤ md_ds ed n to r a ∧ md_ds ed n to r a ≤ r) := by
  induction r with
  | zero => exact Or.inl rfl
  | succ r ih =>
    rw [md_ds]
    split
    · exact Or.inr ⟨by omega, by omega⟩
    · rcases ih with h | h
      · exact Or.inl h
      · exact Or.inr ⟨h.1, by omega⟩
theorem md_ds_keep {ed : Nat → Nat → Bool} {n to r a : Nat} (h : md_ds ed n to r a ≠ 99) : md_ds ed n to (r + 1) a = md_ds ed n to r a := by rw [md_ds, if_neg fun q => h q.1]
/-- not reached behind the first round: no edge to it -/
theorem md_ds_no {ed : Nat → Nat → Bool} {n to r a : Nat} (hr : 1 ≤ r) (h : md_ds ed n to r a = 99) : ed a to = false := by
  induction r with
  | zero => omega
  | succ r ih =>
    rcases Nat.eq_zero_or_pos r with e | e
    · subst e
      rw [md_ds] at h
      split at h
      · omega
      · next q =>
        cases he : ed a to
        · rfl
        · exact absurd ⟨rfl, by rw [md_dq, if_pos rfl]; exact he⟩ q
    · refine ih (by omega) ?_
      rcases Decidable.em (md_ds ed n to r a = 99) with q | q
      · exact q
      · rw [md_ds_keep q] at h; exact absurd h q
theorem md_ds_step {ed : Nat → Nat → Bool} {n to r a : Nat} (hr : r ≤ 50) (h : md_ds ed n to r a ≠ 99) : (md_ds ed n to r a = 1 → ed a to = true) ∧ (1 < md_ds ed n to r a → ∃ b, b < n ∧ md_ds ed n to r b = md_ds ed n to r a - 1 ∧ ed a b = true) := by
  induction r with
  | zero => exact absurd rfl h
  | succ r ih =>
    by_cases e : md_ds ed n to r a = 99
    · rw [md_ds] at h ⊢
      split
      · next q =>
        obtain ⟨q1, q2⟩ := q
        refine ⟨fun h1 => ?_, fun h1 => ?_⟩
        · rw [md_dq, if_pos (by omega)] at q2; exact q2
        · rw [md_dq, if_neg (by omega), md_ex_iff] at q2
          obtain ⟨b, hb, q3⟩ := q2
          rw [Bool.and_eq_true, decide_eq_true_eq] at q3
          refine ⟨b, hb, ?_, q3.2⟩
          rw [md_ds_keep (by omega), q3.1]
          omega
      · next q => rw [if_neg q] at h; exact absurd e h
    · rw [md_ds_keep e]
      obtain ⟨i1, i2⟩ := ih (by omega) e
      refine ⟨i1, fun h1 => ?_⟩
      obtain ⟨b, hb, q1, q2⟩ := i2 h1
      have := md_ds_le (ed := ed) (n := n) (to := to) (r := r) (a := a)
      exact ⟨b, hb, by rw [md_ds_keep (by omega)]; exact q1, q2⟩
/-- the first cycle: its i-th link -/
def md_cr (ed : Nat → Nat → Bool) (n to : Nat) : Nat → Nat
  | 0 => to
  | i + 1 => md_fd (fun b => decide (md_ds ed n to n b = md_ds ed n to n to - (i + 1)) && ed (md_cr ed n to i) b) n
def md_f0 (ed : Nat → Nat → Bool) (n : Nat) : Nat := md_fd (fun l => decide (md_ds ed n l n l ≠ 99)) n
/-- how many -/
def md_cn (ed : Nat → Nat → Bool) (n : Nat) : Nat := if md_f0 ed n = n then 0 else md_ds ed n (md_f0 ed n) n (md_f0 ed n)
theorem md_cr_at {ed : Nat → Nat → Bool} {n to : Nat} (hn : n ≤ 50) (ht : to < n) (hd : md_ds ed n to n to ≠ 99) : ∀ i, i < md_ds ed n to n to → md_cr ed n to i < n ∧ md_ds ed n to n (md_cr ed n to i) = md_ds ed n to n to - i ∧ (i + 1 < md_ds ed n to n to → ed (md_cr ed n to i) (md_cr ed n to (i + 1)) = true) ∧ (i + 1 = md_ds ed n to n to → ed (md_cr ed n to i) to = true) := by
  intro i hi
  have key : md_cr ed n to i < n ∧ md_ds ed n to n (md_cr ed n to i) = md_ds ed n to n to - i := by
    induction i with
    | zero => exact ⟨ht, rfl⟩
    | succ i ih =>
      obtain ⟨k1, k2⟩ := ih (by omega)
      have hle := md_ds_le (ed := ed) (n := n) (to := to) (r := n) (a := to)
      obtain ⟨b, hb, q1, q2⟩ := (md_ds_step hn (show md_ds ed n to n (md_cr ed n to i) ≠ 99 by omega)).2 (by omega)
      have hex : md_fd (fun b => decide (md_ds ed n to n b = md_ds ed n to n to - (i + 1)) && ed (md_cr ed n to i) b) n < n := of_decide_eq_true (md_ex_iff.mpr ⟨b, hb, by rw [Bool.and_eq_true, decide_eq_true_eq]; exact ⟨by omega, q2⟩⟩)
      have his := md_fd_is hex
      rw [Bool.and_eq_true, decide_eq_true_eq] at his
      exact ⟨hex, his.1⟩
  have hle := md_ds_le (ed := ed) (n := n) (to := to) (r := n) (a := to)
  refine ⟨key.1, key.2, fun h1 => ?_, fun h1 => ?_⟩
  · obtain ⟨b, hb, q1, q2⟩ := (md_ds_step hn (show md_ds ed n to n (md_cr ed n to i) ≠ 99 by omega)).2 (by omega)
    have hex : md_fd (fun b => decide (md_ds ed n to n b = md_ds ed n to n to - (i + 1)) && ed (md_cr ed n to i) b) n < n := of_decide_eq_true (md_ex_iff.mpr ⟨b, hb, by rw [Bool.and_eq_true, decide_eq_true_eq]; exact ⟨by omega, q2⟩⟩)
    have his := md_fd_is hex
    rw [Bool.and_eq_true] at his
    exact his.2
  · exact (md_ds_step hn (show md_ds ed n to n (md_cr ed n to i) ≠ 99 by omega)).1 (by omega)
/-! what is answered -/
def an_waits (N : Nt) (R : Rw) (a : Int32) : Int32 := match md_op a (md_nl N) with
  | some l => md_bs (fun n => md_e0 N R l n) (md_nl N)
  | none => -1
def an_inCy (N : Nt) (R : Rw) (a : Int32) : Int32 := if a = 0 then md_cy (md_e0 N R) (md_nl N) else if a = 1 then md_cy (md_e1 N) (md_nl N) else -1
def an_cycle (N : Nt) (R : Rw) (a : Int32) : Int32 := if a < 0 then -1 else match md_op a (md_cn (md_e0 N R) (md_nl N)) with
  | some i => nI (md_cr (md_e0 N R) (md_nl N) (md_f0 (md_e0 N R) (md_nl N)) i)
  | none => -2
def an_wit (N : Nt) (R : Rw) (a : Int32) : Int32 := if a < 0 then -1 else match md_op a (md_cn (md_e0 N R) (md_nl N)) with
  | some i => nI (md_fd (fun f => md_wt N R (md_cr (md_e0 N R) (md_nl N) (md_f0 (md_e0 N R) (md_nl N)) i) f (md_cr (md_e0 N R) (md_nl N) (md_f0 (md_e0 N R) (md_nl N)) ((i + 1) % md_cn (md_e0 N R) (md_nl N)))) (md_nf N))
  | none => -2
def md_stl (N : Nt) (R : Rw) : Bool := decide (md_cy (md_e0 N R) (md_nl N) ≠ 0)
def an_stl (N : Nt) (R : Rw) : Int32 := md_un (fun n => md_stl N (md_tn N n R))
