/-! WHAT IS ANSWERED: an argument as a place among n -/
def md_op (a : Int32) (n : Nat) : Option Nat := if a < 0 ∨ nI n ≤ a then none else some a.toNatClampNeg
theorem md_op_c (a : Int32) {n : Nat} (hn : n < 2 ^ 31) : (md_op a n = none ∧ (a < 0 ∨ nI n ≤ a)) ∨ ∃ l, l < n ∧ a = nI l ∧ md_op a n = some l := by
  unfold md_op
  rcases pk_ix a hn with h | h | ⟨j, hj, rfl⟩
  · exact Or.inl ⟨if_pos (Or.inl h), Or.inl h⟩
  · exact Or.inl ⟨if_pos (Or.inr h), Or.inr h⟩
  · refine Or.inr ⟨j, hj, rfl, ?_⟩
    rw [if_neg (by rintro (h | h); exact nI_pos (by omega) h; exact nI_ge hj hn h), nI_clamp (by omega)]
def md_bs (p : Nat → Bool) : Nat → Int32
  | 0 => 0
  | n + 1 => if p n then md_bs p n ||| nI (2 ^ n) else md_bs p n
theorem sh_1 : ∀ l, l < 10 → ((1 : Int32) <<< (nI l &&& 31)) = nI (2 ^ l) := by decide +kernel
def an_fault (U : (Nat → Nat) × Nat × Int32 × Int32) (a : Int32) : Int32 := if a = 0 then U.2.2.1 else if a = 1 then U.2.2.2 else -1
def an_named (N : Nt) (a x : Int32) : Int32 := if a = 0 then md_ix (md_fd (fun k => decide (nI (N.2.1 k 0) = x)) (md_nl N)) (md_nl N) else if a = 1 then md_ix (md_fd (fun k => decide (nI (N.2.2.1 k 0) = x)) (md_nf N)) (md_nf N) else -1
def an_queue (N : Nt) (R : Rw) (a b : Int32) : Int32 := match md_op a (md_nl N), md_op b (md_nf N) with
  | some l, some f => R.1 l (15 + f)
  | _, _ => -1
def an_flow (N : Nt) (R : Rw) (a b : Int32) : Int32 := match md_op a (md_nf N), md_op b 12 with
  | some f, some j => if j < 9 then R.2.1 f j else if j = 9 then nI (md_ho N f) else R.2.1 f (j - 1)
  | _, _ => -1
def an_path (N : Nt) (a b : Int32) : Int32 := match md_op a (md_nf N) with
  | some f => (match md_op b (md_ho N f) with | some j => nI (md_pa N f j) | none => -1)
  | none => -1
def an_fb (N : Nt) (R : Rw) (a : Int32) : Int32 := match md_op a (md_nl N) with
  | some l => md_fb N R l
  | none => -2147483648
def an_no (N : Nt) (R : Rw) (a : Int32) : Int32 := match md_op a (md_nl N) with
  | some l => md_no N (md_fb N R l)
  | none => -1
def md_hr (N : Nt) (R : Rw) (l : Nat) : Int32 := (R.1 l 0 - 1) + nI (N.2.1 l 1) * (nI (N.2.1 l 2) + 1)
def an_hr (N : Nt) (R : Rw) (a : Int32) : Int32 := match md_op a (md_nl N) with
  | some l => md_hr N R l
  | none => -1
def an_safe (N : Nt) (R : Rw) : Int32 := md_bs (fun l => decide (¬ R.1 l 2 < md_hr N R l)) (md_nl N)
def an_ow (N : Nt) (R : Rw) (a : Int32) : Int32 := match md_op a (md_nf N) with
  | some f => (R.2.1 f 4 - R.2.1 f 5) - R.2.1 f 11
  | none => -1
def an_lk (N : Nt) (R : Rw) (l j : Nat) : Int32 := [nI (N.2.1 l 1), nI (N.2.1 l 2), R.1 l 0, R.1 l 1, R.1 l 2, md_q R l, R.1 l 10, R.1 l (10 + N.2.1 l 2), R.1 l 3, R.1 l 4, R.1 l 5, R.1 l 6, R.1 l 7, R.1 l 8].getD j 0
def an_link (N : Nt) (R : Rw) (a b : Int32) : Int32 × Int32 := match md_op a (md_nl N) with
  | none => (1, 0)
  | some l => (match md_op b 14 with | some j => (0, an_lk N R l j) | none => (2, 0))
def md_on (N : Nt) (R : Rw) (k : Nat) : Int32 := md_sum (fun f => R.2.1 f k) (md_nf N)
def md_lo (N : Nt) (R : Rw) : Int32 := md_sum (fun l => R.1 l 3) (md_nl N)
def an_count (N : Nt) (R : Rw) (acts taped : Nat) (a : Int32) : Int32 := if a = 0 then nI (md_nl N) else if a = 1 then nI (md_nf N) else if a = 2 then R.2.2 else if a = 3 then md_on N R 4 else if a = 4 then md_on N R 5 else if a = 5 then md_lo N R else if a = 6 then md_on N R 6 else if a = 7 then md_on N R 7
  else if a = 8 then md_sum (fun l => if R.1 l 10 = 1 then 1 else 0) (md_nl N) else if a = 9 then nI acts else if a = 10 then nI taped else -1
