/-! THE MODEL: what both sides compute. A net: numbers (0 links, 1 flows, 2 each, 3 middle, 4 weight, 5 cells, 6 ticks, 7 more, 8 seed); of a link 0 name, 1 cap, 2 delay, 3 xoff, 4 xon, 5 size; of a flow 0 name, 1 rate, 2 is off, 3 hops; its path -/
abbrev Nt : Type := (Nat → Nat) × (Nat → Nat → Nat) × (Nat → Nat → Nat) × (Nat → Nat → Nat)
/-- a row: of a link by the twin's places (0 xoff, 1 xon, 2 size, 3 lost, 4 peak, 5 samples, 6 noted, 7 carried, 8 count, 9 was, 10 .. asked, 15 .. queue); of a flow (0 rate, 1 target, 2 3 stages, 4 sent, 5 delivered, 6 notices, 7 on, 8 credit, 9 cells, 10 ticks, 11 lost, 12 now); the tick -/
abbrev Rw : Type := (Nat → Nat → Int32) × (Nat → Nat → Int32) × Int32
abbrev md_nl (N : Nt) : Nat := N.1 0
abbrev md_nf (N : Nt) : Nat := N.1 1
abbrev md_ho (N : Nt) (f : Nat) : Nat := N.2.2.1 f 3
abbrev md_pa (N : Nt) (f i : Nat) : Nat := N.2.2.2 f i
def md_it {σ : Type} (f : Nat → σ → σ) : Nat → σ → σ
  | 0, s => s
  | n + 1, s => f n (md_it f n s)
def md_sum (g : Nat → Int32) : Nat → Int32
  | 0 => 0
  | n + 1 => md_sum g n + g n
/-- the first from i on, of k at most -/
def md_ff (p : Nat → Bool) : Nat → Nat → Nat
  | i, 0 => i
  | i, k + 1 => if p i then i else md_ff p (i + 1) k
def md_fd (p : Nat → Bool) (n : Nat) : Nat := md_ff p 0 n
theorem md_ff_le (p : Nat → Bool) : ∀ k i, i ≤ md_ff p i k ∧ md_ff p i k ≤ i + k := by
  intro k
  induction k with
  | zero => intro i; exact ⟨Nat.le_refl _, Nat.le_refl _⟩
  | succ k ih =>
    intro i
    unfold md_ff
    split
    · exact ⟨Nat.le_refl _, by omega⟩
    · have h := ih (i + 1)
      omega
theorem md_ff_no (p : Nat → Bool) : ∀ k i j, i ≤ j → j < md_ff p i k → p j = false := by
  intro k
  induction k with
  | zero => intro i j h1 h2; unfold md_ff at h2; omega
  | succ k ih =>
    intro i j h1 h2
    unfold md_ff at h2
    split at h2
    · omega
    · next hp =>
      by_cases e : j = i
      · rw [e]; exact Bool.eq_false_iff.mpr hp
      · exact ih (i + 1) j (by omega) h2
theorem md_ff_is (p : Nat → Bool) : ∀ k i, md_ff p i k < i + k → p (md_ff p i k) = true := by
  intro k
  induction k with
  | zero => intro i h; unfold md_ff at h; omega
  | succ k ih =>
    intro i h
    unfold md_ff at h ⊢
    split
    · assumption
    · next hp => rw [if_neg hp] at h; exact ih (i + 1) (by omega)
theorem md_fd_le (p : Nat → Bool) (n : Nat) : md_fd p n ≤ n := by have h := md_ff_le p n 0; unfold md_fd; omega
theorem md_fd_no {p : Nat → Bool} {n j : Nat} (h : j < md_fd p n) : p j = false := md_ff_no p n 0 j (Nat.zero_le _) h
theorem md_fd_is {p : Nat → Bool} {n : Nat} (h : md_fd p n < n) : p (md_fd p n) = true := md_ff_is p n 0 (by unfold md_fd at h; omega)
theorem md_fd_eq {p : Nat → Bool} {n j : Nat} (hj : j < n) (h1 : p j = true) (h2 : ∀ i, i < j → p i = false) : md_fd p n = j := by
  have h3 := md_fd_le p n
  rcases Nat.lt_trichotomy (md_fd p n) j with h | h | h
  · have h4 := md_fd_is (p := p) (n := n) (by omega)
    rw [h2 _ h] at h4
    cases h4
  · exact h
  · rw [md_fd_no h] at h1
    cases h1
def md_u2 (g : Nat → Nat → Int32) (a b : Nat) (x : Int32) : Nat → Nat → Int32 := fun i j => if i = a ∧ j = b then x else g i j
def md_E (R : Rw) (l k : Nat) (x : Int32) : Rw := (md_u2 R.1 l k x, R.2)
def md_S (R : Rw) (f k : Nat) (x : Int32) : Rw := (R.1, md_u2 R.2.1 f k x, R.2.2)
/-- where a link is on a flow's way; as many as its hops: none -/
def md_hop (N : Nt) (f l : Nat) : Nat := md_fd (fun i => decide (md_pa N f i = l)) (md_ho N f)
def md_q (R : Rw) (l : Nat) : Int32 := md_sum (fun f => R.1 l (15 + f)) 8
def md_mn (x y : Int32) : Int32 := if y < x then y else x
def md_mx (x y : Int32) : Int32 := if x < y then y else x
/-! a tick -/
def md_c1 (f : Nat) (R : Rw) : Rw := if R.2.1 f 7 = 0 then md_S R f 12 0 else md_S (md_S R f 12 0) f 8 (md_mn 1024 (R.2.1 f 8 + R.2.1 f 0))
def md_rdy (N : Nt) (R : Rw) (l f : Nat) : Int32 := if md_hop N f l = md_ho N f then 0 else if md_hop N f l = 0 then R.2.1 f 8 / 16 else R.1 (md_pa N f (md_hop N f l - 1)) (15 + f)
/-- round by round: what is given, what is left, whether any was given -/
def md_r1 (rd : Nat → Int32) (f : Nat) (x : (Nat → Int32) × Nat × Bool) : (Nat → Int32) × Nat × Bool := if x.2.1 = 0 ∨ rd f = x.1 f then x else (upd x.1 f (x.1 f + 1), x.2.1 - 1, true)
def md_r2 (rd : Nat → Int32) (n : Nat) (x : (Nat → Int32) × Nat × Bool) : (Nat → Int32) × Nat × Bool := md_it (md_r1 rd) n (x.1, x.2.1, false)
def md_r3 (rd : Nat → Int32) (n : Nat) : Nat → (Nat → Int32) × Nat × Bool → (Nat → Int32) × Nat × Bool
  | 0, x => x
  | k + 1, x => if x.2.2 = true ∧ 0 < x.2.1 then md_r3 rd n k (md_r2 rd n x) else x
/-- of a link: what each flow gives, what is left -/
def md_gv (N : Nt) (R : Rw) (rd : Nat → Int32) (l : Nat) : (Nat → Int32) × Nat := if R.1 l (10 + N.2.1 l 2) = 0 then ((md_r3 rd (md_nf N) 100 (fun _ => 0, N.2.1 l 1, true)).1, (md_r3 rd (md_nf N) 100 (fun _ => 0, N.2.1 l 1, true)).2.1) else (fun _ => 0, N.2.1 l 1)
def md_lv (N : Nt) (l f : Nat) (n : Int32) (R : Rw) : Rw := if n = 0 then R else if md_hop N f l = 0 then md_S (md_S (md_S R f 8 (R.2.1 f 8 - 16 * n)) f 4 (R.2.1 f 4 + n)) f 12 (R.2.1 f 12 + n) else md_E R (md_pa N f (md_hop N f l - 1)) (15 + f) (R.1 (md_pa N f (md_hop N f l - 1)) (15 + f) - n)
/-- what comes of n cells -/
def md_its (R : Rw) (l : Nat) (n : Int32) : Int32 := md_mn (md_mx 0 (R.1 l 2 - md_q R l)) n
def md_cm (N : Nt) (g : Nat → Nat → Int32) (l f : Nat) (R : Rw) : Rw := if g l f = 0 then R else if md_hop N f l + 1 = md_ho N f then md_S R f 5 (R.2.1 f 5 + g l f) else md_S (md_E (md_E R l (15 + f) (R.1 l (15 + f) + md_its R l (g l f))) l 3 (R.1 l 3 + (g l f - md_its R l (g l f)))) f 11 (R.2.1 f 11 + (g l f - md_its R l (g l f)))
/-- what came -/
def md_co (N : Nt) (g : Nat → Nat → Int32) (l f : Nat) (R : Rw) : Int32 := if g l f = 0 then 0 else if md_hop N f l + 1 = md_ho N f then 0 else md_its R l (g l f)
def md_pk (l : Nat) (R : Rw) : Rw := md_E R l 4 (md_mx (R.1 l 4) (md_q R l))
def md_cs (N : Nt) (g : Nat → Nat → Int32) (l : Nat) (R : Rw) : Rw := md_pk l (md_it (md_cm N g l) (md_nf N) R)
def md_aw (R : Rw) (l : Nat) : Int32 := if md_q R l < R.1 l 0 then (if R.1 l 1 < md_q R l then R.1 l 10 else 0) else 1
def md_ask (l : Nat) (R : Rw) : Rw := md_E (md_E (md_E (md_E (md_E R l 14 (R.1 l 13)) l 13 (R.1 l 12)) l 12 (R.1 l 11)) l 11 (R.1 l 10)) l 10 (md_aw R l)
def md_fb (N : Nt) (R : Rw) (l : Nat) : Int32 := (md_q R l - nI (N.1 3)) + nI (N.1 4) * (md_q R l - R.1 l 9)
/-- a number within bounds, as the twin has it -/
def md_wi (v a b : Int32) : Int32 := if a ≤ v then (if v ≤ b then v else b) else a
def md_no (N : Nt) (x : Int32) : Int32 := if 0 < x then md_wi ((x * 64) / (nI (N.1 3) * (1 + 2 * nI (N.1 4)))) 1 63 else 0
def md_s1 (N : Nt) (c : Nat → Nat → Int32) (l f : Nat) (x : Rw × Nat) : Rw × Nat := (md_E x.1 l 8 (x.1.1 l 8 + c l f), if x.2 = 99 ∧ ¬ x.1.1 l 8 + c l f < nI (N.1 2) then f else x.2)
abbrev Ns : Type := Nat × (Nat → Nat × Int32)
/-- behind the count: that a sample was met at flow m -/
def md_s2 (N : Nt) (l : Nat) (R : Rw) : Rw := md_E (md_E (md_E R l 8 (R.1 l 8 - R.1 l 8 / nI (N.1 2) * nI (N.1 2))) l 5 (R.1 l 5 + 1)) l 9 (md_q R l)
def md_sm (N : Nt) (c : Nat → Nat → Int32) (l : Nat) (x : Rw × Ns) : Rw × Ns :=
  if (md_it (md_s1 N c l) (md_nf N) (x.1, 99)).2 = 99 then ((md_it (md_s1 N c l) (md_nf N) (x.1, 99)).1, x.2)
  else if md_no N (md_fb N x.1 l) = 0 then (md_s2 N l (md_it (md_s1 N c l) (md_nf N) (x.1, 99)).1, x.2)
  else (md_E (md_s2 N l (md_it (md_s1 N c l) (md_nf N) (x.1, 99)).1) l 6 (x.1.1 l 6 + 1), (x.2.1 + 1, va_up x.2.2 x.2.1 ((md_it (md_s1 N c l) (md_nf N) (x.1, 99)).2, md_no N (md_fb N x.1 l))))
/-- a flow forgets its stages -/
def md_fg (f : Nat) (R : Rw) : Rw := md_S (md_S (md_S (md_S R f 2 0) f 3 0) f 9 0) f 10 0
def md_cut (f : Nat) (b : Int32) (R : Rw) : Rw := md_fg f (md_S (md_S (md_S R f 6 (R.2.1 f 6 + 1)) f 1 (R.2.1 f 0)) f 0 (md_mx 1 (R.2.1 f 0 - R.2.1 f 0 * b / 128)))
def md_more (N : Nt) (a b : Int32) : Int32 := if 5 < a ∧ 5 < b then nI (N.1 7) * 2 * (md_mn a b - 5) else if 5 < a ∨ 5 < b then nI (N.1 7) else 0
def md_cl (N : Nt) (f : Nat) (R : Rw) : Rw := md_S (md_S R f 1 (md_mn 1024 (R.2.1 f 1 + md_more N (R.2.1 f 2) (R.2.1 f 3)))) f 0 ((R.2.1 f 0 + md_mn 1024 (R.2.1 f 1 + md_more N (R.2.1 f 2) (R.2.1 f 3))) / 2)
def md_wh (N : Nt) (f : Nat) : Nat → Rw → Rw
  | 0, R => R
  | k + 1, R => if R.2.1 f 9 < nI (N.1 5) then R else md_wh N f k (md_cl N f (md_S (md_S R f 9 (R.2.1 f 9 - nI (N.1 5))) f 2 (R.2.1 f 2 + 1)))
def md_rb (N : Nt) (f : Nat) (R : Rw) : Rw := if R.2.1 f 10 + 1 < nI (N.1 6) then md_S R f 10 (R.2.1 f 10 + 1) else md_cl N f (md_S (md_S R f 10 0) f 3 (R.2.1 f 3 + 1))
def md_rec (N : Nt) (f : Nat) (R : Rw) : Rw := if R.2.1 f 7 = 0 then R else md_rb N f (md_wh N f 5000 (md_S R f 9 (R.2.1 f 9 + R.2.1 f 12)))
/-- the parts of a tick -/
def md_t1 (N : Nt) (R : Rw) : Rw := md_it md_c1 (md_nf N) R
def md_tg (N : Nt) (R : Rw) (l f : Nat) : Int32 := (md_gv N (md_t1 N R) (fun f => md_rdy N (md_t1 N R) l f) l).1 f
def md_ta (N : Nt) (R : Rw) (l : Nat) : Int32 := nI (N.2.1 l 1) - nI (md_gv N (md_t1 N R) (fun f => md_rdy N (md_t1 N R) l f) l).2
def md_ca (a : Nat → Int32) (n : Nat) (R : Rw) : Rw := (fun l k => if k = 7 ∧ l < n then a l else R.1 l k, R.2)
def md_t2 (N : Nt) (R : Rw) : Rw := md_it (fun l => md_it (fun f => md_lv N l f (md_tg N R l f)) (md_nf N)) (md_nl N) (md_ca (md_ta N R) (md_nl N) (md_t1 N R))
def md_t3 (N : Nt) (R : Rw) : Rw := md_it (md_cs N (md_tg N R)) (md_nl N) (md_t2 N R)
def md_tc (N : Nt) (R : Rw) (l f : Nat) : Int32 := md_co N (md_tg N R) l f (md_it (md_cm N (md_tg N R) l) f (md_it (md_cs N (md_tg N R)) l (md_t2 N R)))
def md_t4 (N : Nt) (R : Rw) : Rw := md_it md_ask (md_nl N) (md_t3 N R)
def md_t5 (N : Nt) (R : Rw) : Rw × Ns := md_it (md_sm N (md_tc N R)) (md_nl N) (md_t4 N R, (0, fun _ => (0, 0)))
def md_t6 (N : Nt) (R : Rw) : Rw := md_it (fun k => md_cut ((md_t5 N R).2.2 k).1 ((md_t5 N R).2.2 k).2) (md_t5 N R).2.1 (md_t5 N R).1
def md_t7 (N : Nt) (R : Rw) : Rw := md_it (md_rec N) (md_nf N) (md_t6 N R)
def md_tk (N : Nt) (R : Rw) : Rw := ((md_t7 N R).1, (md_t7 N R).2.1, R.2.2 + 1)
