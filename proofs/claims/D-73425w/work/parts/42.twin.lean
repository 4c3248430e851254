/-! THE TWIN, pictured by the model -/
def md_ok (N : Nt) : Prop := (md_nl N ≤ 10 ∧ md_nf N ≤ 8) ∧
  (∀ l, l < md_nl N → N.2.1 l 0 < 2 ^ 30 ∧ (1 ≤ N.2.1 l 1 ∧ N.2.1 l 1 ≤ 64) ∧ N.2.1 l 2 ≤ 4 ∧ (1 ≤ N.2.1 l 3 ∧ N.2.1 l 3 ≤ 999) ∧ N.2.1 l 4 < N.2.1 l 3 ∧ 1 ≤ N.2.1 l 5 ∧ N.2.1 l 5 ≤ 1999) ∧
  (∀ f, f < md_nf N → N.2.2.1 f 0 < 2 ^ 30 ∧ (1 ≤ N.2.2.1 f 1 ∧ N.2.2.1 f 1 ≤ 1024) ∧ N.2.2.1 f 2 ≤ 1 ∧ (1 ≤ md_ho N f ∧ md_ho N f ≤ 5) ∧ (∀ i, i < md_ho N f → md_pa N f i < md_nl N) ∧ ∀ i j, i < j → j < md_ho N f → md_pa N f i ≠ md_pa N f j) ∧
  (1 ≤ N.1 2 ∧ N.1 2 ≤ 999) ∧ (1 ≤ N.1 3 ∧ N.1 3 ≤ 500) ∧ N.1 4 ≤ 4 ∧ (1 ≤ N.1 5 ∧ N.1 5 ≤ 999) ∧ (1 ≤ N.1 6 ∧ N.1 6 ≤ 99) ∧ (1 ≤ N.1 7 ∧ N.1 7 ≤ 99) ∧ N.1 8 ≤ 99999
theorem md_ok.nl {N : Nt} (h : md_ok N) : md_nl N ≤ 10 := h.1.1
theorem md_ok.nf {N : Nt} (h : md_ok N) : md_nf N ≤ 8 := h.1.2
theorem md_ok.num {N : Nt} (h : md_ok N) {k : Nat} (hk : k < 9) : N.1 k < 100000 := by
  obtain ⟨⟨h1, h2⟩, -, -, h3, h4, h5, h6, h7, h8, h9⟩ := h
  unfold md_nl at h1
  unfold md_nf at h2
  match k, hk with
  | 0, _ => omega
  | 1, _ => omega
  | 2, _ => omega
  | 3, _ => omega
  | 4, _ => omega
  | 5, _ => omega
  | 6, _ => omega
  | 7, _ => omega
  | 8, _ => omega
  | k + 9, h => omega
theorem md_ok.cap {N : Nt} (h : md_ok N) {l : Nat} (hl : l < md_nl N) : 1 ≤ N.2.1 l 1 ∧ N.2.1 l 1 ≤ 64 := (h.2.1 l hl).2.1
theorem md_ok.delay {N : Nt} (h : md_ok N) {l : Nat} (hl : l < md_nl N) : N.2.1 l 2 ≤ 4 := (h.2.1 l hl).2.2.1
theorem md_ok.ho {N : Nt} (h : md_ok N) {f : Nat} (hf : f < md_nf N) : 1 ≤ md_ho N f ∧ md_ho N f ≤ 5 := (h.2.2.1 f hf).2.2.2.1
theorem md_ok.pa {N : Nt} (h : md_ok N) {f i : Nat} (hf : f < md_nf N) (hi : i < md_ho N f) : md_pa N f i < md_nl N := (h.2.2.1 f hf).2.2.2.2.1 i hi
theorem md_ok.ne {N : Nt} (h : md_ok N) {f i j : Nat} (hf : f < md_nf N) (hi : i < md_ho N f) (hj : j < md_ho N f) (e : md_pa N f i = md_pa N f j) : i = j := by
  have h1 := (h.2.2.1 f hf).2.2.2.2.2
  rcases Nat.lt_trichotomy i j with h2 | h2 | h2
  · exact absurd e (h1 i j h2 hj)
  · exact h2
  · exact absurd e.symm (h1 j i h2 hi)
theorem md_hop_le (N : Nt) (f l : Nat) : md_hop N f l ≤ md_ho N f := md_fd_le _ _
theorem md_hop_is {N : Nt} {f l : Nat} (h : md_hop N f l < md_ho N f) : md_pa N f (md_hop N f l) = l := of_decide_eq_true (md_fd_is (p := fun i => decide (md_pa N f i = l)) h)
theorem md_hop_no {N : Nt} {f l i : Nat} (h : i < md_hop N f l) : md_pa N f i ≠ l := of_decide_eq_false (md_fd_no (p := fun i => decide (md_pa N f i = l)) h)
theorem md_hop_at {N : Nt} (h : md_ok N) {f i : Nat} (hf : f < md_nf N) (hi : i < md_ho N f) : md_hop N f (md_pa N f i) = i := by
  have h1 := md_hop_le N f (md_pa N f i)
  rcases Nat.lt_trichotomy (md_hop N f (md_pa N f i)) i with h2 | h2 | h2
  · exact h.ne hf (by omega) hi (md_hop_is (by omega))
  · exact h2
  · exact absurd rfl (md_hop_no h2)
def tw_nt (N : Nt) (t : TS) : Prop := (∀ k, k < 9 → t.2.2.1 3 k = nI (N.1 k)) ∧
  (∀ l, l < md_nl N → t.2.2.1 5 l = nI (N.2.1 l 0) ∧ t.2.2.1 6 l = nI (N.2.1 l 1) ∧ t.2.2.1 7 l = nI (N.2.1 l 2) ∧ t.2.2.1 8 l = nI (N.2.1 l 3) ∧ t.2.2.1 9 l = nI (N.2.1 l 4) ∧ t.2.2.1 10 l = nI (N.2.1 l 5)) ∧
  (∀ f, f < md_nf N → t.2.2.1 11 f = nI (N.2.2.1 f 0) ∧ t.2.2.1 12 f = nI (N.2.2.1 f 1) ∧ t.2.2.1 13 f = nI (N.2.2.1 f 2) ∧ t.2.2.1 14 f = nI (md_ho N f) ∧ ∀ i, i < md_ho N f → t.2.2.1 15 (5 * f + i) = nI (md_pa N f i))
def tw_rw (R : Rw) (g : Nat → Int32) : Prop := (∀ l k, l < 10 → k < 23 → g (24 * l + k) = R.1 l k) ∧ (∀ f k, f < 8 → k < 12 → g (240 + 12 * f + k) = R.2.1 f k) ∧ g 336 = R.2.2
/-- what a tick leaves as it was -/
def tw_sm (t0 t : TS) : Prop := (∀ k, k ≠ 38 → t.1 k = t0.1 k) ∧ t.2.1 = t0.2.1 ∧ (∀ k, k ≠ 26 → ¬ (33 ≤ k ∧ k ≤ 37) → t.2.2.1 k = t0.2.2.1 k) ∧ t.2.2.2 = t0.2.2.2
def TT (N : Nt) (t0 : TS) (R : Rw) (cn cr co : Nat → Int32) (ns : Ns) (t : TS) : Prop :=
  tw_rw R (t.2.2.1 26) ∧ (t.2.2.1 33 = cn ∧ t.2.2.1 34 = cr ∧ t.2.2.1 35 = co) ∧ (t.1 38 = nI ns.1 ∧ ∀ i, i < ns.1 → t.2.2.1 36 i = nI (ns.2 i).1 ∧ t.2.2.1 37 i = (ns.2 i).2) ∧ tw_nt N t ∧ tw_sm t0 t
theorem wp_gi {k : Nat} {Q : Int32 → TS → Prop} {t : TS} (h : Q (t.1 k) t) : wp (tw_gi k) Q t := ⟨_, _, rfl, h⟩
theorem wp_pi {k : Nat} {x : Int32} {Q : Unit → TS → Prop} {t : TS} (h : Q () (upd t.1 k x, t.2)) : wp (tw_pi k x) Q t := ⟨_, _, rfl, h⟩
theorem wp_ld {k j : Nat} {i : Int32} {Q : Int32 → TS → Prop} {t : TS} (hk : tw_fk k = 0) (hi : i = nI j) (hj : j < tw_n k) (hn : tw_n k < 2 ^ 31) (h : Q (t.2.2.1 k j) t) : wp (tw_ld k i) Q t := by
  refine ⟨_, _, ?_, h⟩
  unfold tw_ld
  rw [hi, if_pos ⟨hk, nI_in hj hn⟩, nI_clamp (by omega)]
theorem wp_st {k j : Nat} {i x : Int32} {Q : Unit → TS → Prop} {t : TS} (hk : tw_fk k = 0) (hi : i = nI j) (hj : j < tw_n k) (hn : tw_n k < 2 ^ 31) (h : Q () (t.1, t.2.1, va_up t.2.2.1 k (upd (t.2.2.1 k) j x), t.2.2.2)) : wp (tw_st k i x) Q t := by
  refine ⟨_, _, ?_, h⟩
  unfold tw_st
  rw [hi, if_pos ⟨hk, nI_in hj hn⟩, nI_clamp (by omega)]
theorem ix_24 (l k : Nat) : (24 : Int32) * nI l + nI k = nI (24 * l + k) := by rw [show (24 : Int32) = nI 24 from rfl, pk_mul, nI_add]
theorem ix_8 (l k : Nat) : (8 : Int32) * nI l + nI k = nI (8 * l + k) := by rw [show (8 : Int32) = nI 8 from rfl, pk_mul, nI_add]
theorem ix_5 (l k : Nat) : (5 : Int32) * nI l + nI k = nI (5 * l + k) := by rw [show (5 : Int32) = nI 5 from rfl, pk_mul, nI_add]
theorem ix_12 (f k : Nat) : ((240 : Int32) + (12 : Int32) * nI f) + nI k = nI (240 + 12 * f + k) := by rw [show (12 : Int32) = nI 12 from rfl, show (240 : Int32) = nI 240 from rfl, pk_mul, nI_add, nI_add]
theorem upd_eq (g : Nat → Int32) (k : Nat) (x : Int32) : upd g k x k = x := by unfold upd; rw [if_pos rfl]
theorem upd_ne {g : Nat → Int32} {j k : Nat} {x : Int32} (h : j ≠ k) : upd g k x j = g j := by unfold upd; rw [if_neg h]
theorem md_up_eq {α : Type} (g : Nat → α) (k : Nat) (x : α) : va_up g k x k = x := by unfold va_up; rw [if_pos rfl]
theorem md_up_ne {α : Type} {g : Nat → α} {j k : Nat} {x : α} (h : j ≠ k) : va_up g k x j = g j := by unfold va_up; rw [if_neg h]
theorem tw_rw.E {R : Rw} {g : Nat → Int32} {l k : Nat} {x : Int32} (h : tw_rw R g) (hl : l < 10) (hk : k < 23) : tw_rw (md_E R l k x) (upd g (24 * l + k) x) := by
  refine ⟨fun a b ha hb => ?_, fun a b ha hb => ?_, ?_⟩
  · unfold md_E md_u2 upd
    dsimp only
    by_cases e : a = l ∧ b = k
    · rw [if_pos e, if_pos (by omega)]
    · rw [if_neg e, if_neg (by omega)]
      exact h.1 a b ha hb
  · rw [upd_ne (by omega)]
    exact h.2.1 a b ha hb
  · rw [upd_ne (by omega)]
    exact h.2.2
theorem tw_rw.S {R : Rw} {g : Nat → Int32} {l k : Nat} {x : Int32} (h : tw_rw R g) (hl : l < 8) (hk : k < 12) : tw_rw (md_S R l k x) (upd g (240 + 12 * l + k) x) := by
  refine ⟨fun a b ha hb => ?_, fun a b ha hb => ?_, ?_⟩
  · rw [upd_ne (by omega)]
    exact h.1 a b ha hb
  · unfold md_S md_u2 upd
    dsimp only
    by_cases e : a = l ∧ b = k
    · rw [if_pos e, if_pos (by omega)]
    · rw [if_neg e, if_neg (by omega)]
      exact h.2.1 a b ha hb
  · rw [upd_ne (by omega)]
    exact h.2.2
theorem tw_rw.X {R : Rw} {g : Nat → Int32} {l : Nat} {x : Int32} (h : tw_rw R g) : tw_rw (md_S R l 12 x) g := by
  refine ⟨h.1, fun a b ha hb => ?_, h.2.2⟩
  unfold md_S md_u2
  dsimp only
  rw [if_neg (by omega)]
  exact h.2.1 a b ha hb
theorem tw_nt.kept {N : Nt} {t u : TS} (h : tw_nt N t) (h1 : ∀ k, 3 ≤ k → k ≤ 15 → u.2.2.1 k = t.2.2.1 k) : tw_nt N u := by
  unfold tw_nt
  rw [h1 3 (by omega) (by omega), h1 5 (by omega) (by omega), h1 6 (by omega) (by omega), h1 7 (by omega) (by omega), h1 8 (by omega) (by omega), h1 9 (by omega) (by omega), h1 10 (by omega) (by omega), h1 11 (by omega) (by omega), h1 12 (by omega) (by omega), h1 13 (by omega) (by omega), h1 14 (by omega) (by omega), h1 15 (by omega) (by omega)]
  exact h
section TTrows
variable {N : Nt} {t0 t : TS} {R : Rw} {cn cr co : Nat → Int32} {ns : Ns} {Q : Int32 → TS → Prop} {P : Unit → TS → Prop} {l f k : Nat} {x : Int32}
theorem TT.w26 {g : Nat → Int32} {R' : Rw} (h : TT N t0 R cn cr co ns t) (hr : tw_rw R' g) : TT N t0 R' cn cr co ns (t.1, t.2.1, va_up t.2.2.1 26 g, t.2.2.2) := by
  obtain ⟨h1, h2, h3, h4, h5⟩ := h
  have e : ∀ k, k ≠ 26 → va_up t.2.2.1 26 g k = t.2.2.1 k := fun k hk => md_up_ne hk
  refine ⟨?_, ?_, ?_, h4.kept fun k _ _ => e k (by omega), h5.1, h5.2.1, fun k hk hk2 => (e k hk).trans (h5.2.2.1 k hk hk2), h5.2.2.2⟩
  · dsimp only; rw [md_up_eq]; exact hr
  · dsimp only; rw [e 33 (by decide), e 34 (by decide), e 35 (by decide)]; exact h2
  · dsimp only; rw [e 36 (by decide), e 37 (by decide)]; exact h3
theorem TT.w33 {g : Nat → Int32} (h : TT N t0 R cn cr co ns t) : TT N t0 R g cr co ns (t.1, t.2.1, va_up t.2.2.1 33 g, t.2.2.2) := by
  obtain ⟨h1, h2, h3, h4, h5⟩ := h
  have e : ∀ k, k ≠ 33 → va_up t.2.2.1 33 g k = t.2.2.1 k := fun k hk => md_up_ne hk
  refine ⟨?_, ?_, ?_, h4.kept fun k _ _ => e k (by omega), h5.1, h5.2.1, fun k hk hk2 => (e k (by omega)).trans (h5.2.2.1 k hk hk2), h5.2.2.2⟩
  · dsimp only; rw [e 26 (by decide)]; exact h1
  · dsimp only; rw [e 34 (by decide), e 35 (by decide)]; exact ⟨md_up_eq _ _ _, h2.2⟩
  · dsimp only; rw [e 36 (by decide), e 37 (by decide)]; exact h3
theorem TT.w34 {g : Nat → Int32} (h : TT N t0 R cn cr co ns t) : TT N t0 R cn g co ns (t.1, t.2.1, va_up t.2.2.1 34 g, t.2.2.2) := by
  obtain ⟨h1, h2, h3, h4, h5⟩ := h
  have e : ∀ k, k ≠ 34 → va_up t.2.2.1 34 g k = t.2.2.1 k := fun k hk => md_up_ne hk
  refine ⟨?_, ?_, ?_, h4.kept fun k _ _ => e k (by omega), h5.1, h5.2.1, fun k hk hk2 => (e k (by omega)).trans (h5.2.2.1 k hk hk2), h5.2.2.2⟩
  · dsimp only; rw [e 26 (by decide)]; exact h1
  · dsimp only; rw [e 33 (by decide), e 35 (by decide)]; exact ⟨h2.1, md_up_eq _ _ _, h2.2.2⟩
  · dsimp only; rw [e 36 (by decide), e 37 (by decide)]; exact h3
theorem TT.w35 {g : Nat → Int32} (h : TT N t0 R cn cr co ns t) : TT N t0 R cn cr g ns (t.1, t.2.1, va_up t.2.2.1 35 g, t.2.2.2) := by
  obtain ⟨h1, h2, h3, h4, h5⟩ := h
  have e : ∀ k, k ≠ 35 → va_up t.2.2.1 35 g k = t.2.2.1 k := fun k hk => md_up_ne hk
  refine ⟨?_, ?_, ?_, h4.kept fun k _ _ => e k (by omega), h5.1, h5.2.1, fun k hk hk2 => (e k (by omega)).trans (h5.2.2.1 k hk hk2), h5.2.2.2⟩
  · dsimp only; rw [e 26 (by decide)]; exact h1
  · dsimp only; rw [e 33 (by decide), e 34 (by decide)]; exact ⟨h2.1, h2.2.1, md_up_eq _ _ _⟩
  · dsimp only; rw [e 36 (by decide), e 37 (by decide)]; exact h3
/-! reads of the row -/
theorem tt_E (h : TT N t0 R cn cr co ns t) (hl : l < 10) (hk : k < 23) (kk : Q (R.1 l k) t) : wp (tw_ld 26 ((24 : Int32) * nI l + nI k)) Q t := by
  refine wp_ld rfl (ix_24 l k) (show _ < 337 by omega) (by decide) ?_
  rw [h.1.1 l k hl hk]
  exact kk
theorem tt_Q (h : TT N t0 R cn cr co ns t) (hl : l < 10) (hk : f < 8) (kk : Q (R.1 l (15 + f)) t) : wp (tw_ld 26 (((24 : Int32) * nI l + (15 : Int32)) + nI f)) Q t := by
  refine wp_ld (j := 24 * l + (15 + f)) rfl (by rw [show (15 : Int32) = nI 15 from rfl, ix_24, nI_add, Nat.add_assoc]) (show _ < 337 by omega) (by decide) ?_
  rw [h.1.1 l (15 + f) hl (by omega)]
  exact kk
theorem tt_A (h : TT N t0 R cn cr co ns t) (hl : l < 10) (hk : f < 5) (kk : Q (R.1 l (10 + f)) t) : wp (tw_ld 26 (((24 : Int32) * nI l + (10 : Int32)) + nI f)) Q t := by
  refine wp_ld (j := 24 * l + (10 + f)) rfl (by rw [show (10 : Int32) = nI 10 from rfl, ix_24, nI_add, Nat.add_assoc]) (show _ < 337 by omega) (by decide) ?_
  rw [h.1.1 l (10 + f) hl (by omega)]
  exact kk
theorem tt_A1 (h : TT N t0 R cn cr co ns t) (hl : l < 10) (hk : f < 5) (kk : Q (R.1 l (10 + f)) t) : wp (tw_ld 26 ((((24 : Int32) * nI l + (10 : Int32)) + nI (f + 1)) - (1 : Int32))) Q t := by
  refine wp_ld (j := 24 * l + (10 + f)) rfl (by rw [show (10 : Int32) = nI 10 from rfl, ix_24, nI_add, ← Nat.add_assoc, nI_pred, Nat.add_assoc]) (show _ < 337 by omega) (by decide) ?_
  rw [h.1.1 l (10 + f) hl (by omega)]
  exact kk
theorem tt_S (h : TT N t0 R cn cr co ns t) (hl : f < 8) (hk : k < 12) (kk : Q (R.2.1 f k) t) : wp (tw_ld 26 (((240 : Int32) + (12 : Int32) * nI f) + nI k)) Q t := by
  refine wp_ld rfl (ix_12 f k) (show _ < 337 by omega) (by decide) ?_
  rw [h.1.2.1 f k hl hk]
  exact kk
theorem tt_S3 (h : TT N t0 R cn cr co ns t) (hl : f < 8) (kk : Q (R.2.1 f 3) t) : wp (tw_ld 26 ((((240 : Int32) + (12 : Int32) * nI f) + (2 : Int32)) + (1 : Int32))) Q t := by
  refine wp_ld (j := 240 + 12 * f + 3) rfl (by rw [show (2 : Int32) = nI 2 from rfl, ix_12, nI_1]) (show _ < 337 by omega) (by decide) ?_
  rw [h.1.2.1 f 3 hl (by decide)]
  exact kk
theorem tt_T (h : TT N t0 R cn cr co ns t) (kk : Q R.2.2 t) : wp (tw_ld 26 (336 : Int32)) Q t := by
  refine wp_ld (j := 336) rfl rfl (by decide) (by decide) ?_
  rw [h.1.2.2]
  exact kk
/-! writes of the row -/
theorem tt_wE (h : TT N t0 R cn cr co ns t) (hl : l < 10) (hk : k < 23) (kk : ∀ u, TT N t0 (md_E R l k x) cn cr co ns u → P () u) : wp (tw_st 26 ((24 : Int32) * nI l + nI k) x) P t :=
  wp_st rfl (ix_24 l k) (show _ < 337 by omega) (by decide) (kk _ (h.w26 (h.1.E hl hk)))
theorem tt_wQ (h : TT N t0 R cn cr co ns t) (hl : l < 10) (hk : f < 8) (kk : ∀ u, TT N t0 (md_E R l (15 + f) x) cn cr co ns u → P () u) : wp (tw_st 26 (((24 : Int32) * nI l + (15 : Int32)) + nI f) x) P t :=
  wp_st (j := 24 * l + (15 + f)) rfl (by rw [show (15 : Int32) = nI 15 from rfl, ix_24, nI_add, Nat.add_assoc]) (show _ < 337 by omega) (by decide) (kk _ (h.w26 (h.1.E hl (by omega))))
theorem tt_wA (h : TT N t0 R cn cr co ns t) (hl : l < 10) (hk : f < 5) (kk : ∀ u, TT N t0 (md_E R l (10 + f) x) cn cr co ns u → P () u) : wp (tw_st 26 (((24 : Int32) * nI l + (10 : Int32)) + nI f) x) P t :=
  wp_st (j := 24 * l + (10 + f)) rfl (by rw [show (10 : Int32) = nI 10 from rfl, ix_24, nI_add, Nat.add_assoc]) (show _ < 337 by omega) (by decide) (kk _ (h.w26 (h.1.E hl (by omega))))
theorem tt_wS (h : TT N t0 R cn cr co ns t) (hl : f < 8) (hk : k < 12) (kk : ∀ u, TT N t0 (md_S R f k x) cn cr co ns u → P () u) : wp (tw_st 26 (((240 : Int32) + (12 : Int32) * nI f) + nI k) x) P t :=
  wp_st rfl (ix_12 f k) (show _ < 337 by omega) (by decide) (kk _ (h.w26 (h.1.S hl hk)))
theorem tt_wS3 (h : TT N t0 R cn cr co ns t) (hl : f < 8) (kk : ∀ u, TT N t0 (md_S R f 3 x) cn cr co ns u → P () u) : wp (tw_st 26 ((((240 : Int32) + (12 : Int32) * nI f) + (2 : Int32)) + (1 : Int32)) x) P t :=
  wp_st (j := 240 + 12 * f + 3) rfl (by rw [show (2 : Int32) = nI 2 from rfl, ix_12, nI_1]) (show _ < 337 by omega) (by decide) (kk _ (h.w26 (h.1.S hl (by decide))))
theorem tt_wT (h : TT N t0 R cn cr co ns t) (kk : ∀ u, TT N t0 (R.1, R.2.1, x) cn cr co ns u → P () u) : wp (tw_st 26 (336 : Int32) x) P t := by
  refine wp_st (j := 336) rfl rfl (by decide) (by decide) (kk _ (h.w26 ⟨fun a b ha hb => ?_, fun a b ha hb => ?_, ?_⟩))
  · rw [upd_ne (by omega)]; exact h.1.1 a b ha hb
  · rw [upd_ne (by omega)]; exact h.1.2.1 a b ha hb
  · rw [upd_eq]
/-! the arrays of a tick -/
theorem tt_cn (h : TT N t0 R cn cr co ns t) (hl : l < 10) (hf : f < 8) (kk : Q (cn (8 * l + f)) t) : wp (tw_ld 33 ((8 : Int32) * nI l + nI f)) Q t :=
  wp_ld rfl (ix_8 l f) (show _ < 80 by omega) (by decide) (by rw [h.2.1.1]; exact kk)
theorem tt_cr (h : TT N t0 R cn cr co ns t) (hl : l < 10) (hf : f < 8) (kk : Q (cr (8 * l + f)) t) : wp (tw_ld 34 ((8 : Int32) * nI l + nI f)) Q t :=
  wp_ld rfl (ix_8 l f) (show _ < 80 by omega) (by decide) (by rw [h.2.1.2.1]; exact kk)
theorem tt_co (h : TT N t0 R cn cr co ns t) (hl : l < 10) (hf : f < 8) (kk : Q (co (8 * l + f)) t) : wp (tw_ld 35 ((8 : Int32) * nI l + nI f)) Q t :=
  wp_ld rfl (ix_8 l f) (show _ < 80 by omega) (by decide) (by rw [h.2.1.2.2]; exact kk)
theorem tt_wcn (h : TT N t0 R cn cr co ns t) (hl : l < 10) (hf : f < 8) (kk : ∀ u, TT N t0 R (upd cn (8 * l + f) x) cr co ns u → P () u) : wp (tw_st 33 ((8 : Int32) * nI l + nI f) x) P t :=
  wp_st rfl (ix_8 l f) (show _ < 80 by omega) (by decide) (by rw [h.2.1.1]; exact kk _ h.w33)
theorem tt_wcr (h : TT N t0 R cn cr co ns t) (hl : l < 10) (hf : f < 8) (kk : ∀ u, TT N t0 R cn (upd cr (8 * l + f) x) co ns u → P () u) : wp (tw_st 34 ((8 : Int32) * nI l + nI f) x) P t :=
  wp_st rfl (ix_8 l f) (show _ < 80 by omega) (by decide) (by rw [h.2.1.2.1]; exact kk _ h.w34)
theorem tt_wco (h : TT N t0 R cn cr co ns t) (hl : l < 10) (hf : f < 8) (kk : ∀ u, TT N t0 R cn cr (upd co (8 * l + f) x) ns u → P () u) : wp (tw_st 35 ((8 : Int32) * nI l + nI f) x) P t :=
  wp_st rfl (ix_8 l f) (show _ < 80 by omega) (by decide) (by rw [h.2.1.2.2]; exact kk _ h.w35)
/-! the net -/
theorem tt_num (h : TT N t0 R cn cr co ns t) (hk : k < 9) (kk : Q (nI (N.1 k)) t) : wp (tw_ld 3 (nI k)) Q t :=
  wp_ld rfl rfl (show k < 18 by omega) (by decide) (by rw [h.2.2.2.1.1 k hk]; exact kk)
theorem tt_links (h : TT N t0 R cn cr co ns t) (kk : Q (nI (md_nl N)) t) : wp fm_links Q t := wp_bd (tt_num (k := 0) h (by decide) (wp_rt kk))
theorem tt_flows (h : TT N t0 R cn cr co ns t) (kk : Q (nI (md_nf N)) t) : wp fm_flows Q t := wp_bd (tt_num (k := 1) h (by decide) (wp_rt kk))
theorem tt_cap (hN : md_ok N) (h : TT N t0 R cn cr co ns t) (hl : l < md_nl N) (kk : Q (nI (N.2.1 l 1)) t) : wp (tw_ld 6 (nI l)) Q t :=
  wp_ld rfl rfl (show l < 20 by have := hN.nl; omega) (by decide) (by rw [(h.2.2.2.1.2.1 l hl).2.1]; exact kk)
theorem tt_delay (hN : md_ok N) (h : TT N t0 R cn cr co ns t) (hl : l < md_nl N) (kk : Q (nI (N.2.1 l 2)) t) : wp (tw_ld 7 (nI l)) Q t :=
  wp_ld rfl rfl (show l < 20 by have := hN.nl; omega) (by decide) (by rw [(h.2.2.2.1.2.1 l hl).2.2.1]; exact kk)
theorem tt_ho (hN : md_ok N) (h : TT N t0 R cn cr co ns t) (hf : f < md_nf N) (kk : Q (nI (md_ho N f)) t) : wp (tw_ld 14 (nI f)) Q t :=
  wp_ld rfl rfl (show f < 16 by have := hN.nf; omega) (by decide) (by rw [(h.2.2.2.1.2.2 f hf).2.2.2.1]; exact kk)
theorem tt_pa (hN : md_ok N) (h : TT N t0 R cn cr co ns t) (hf : f < md_nf N) (hk : k < md_ho N f) (kk : Q (nI (md_pa N f k)) t) : wp (tw_ld 15 ((5 : Int32) * nI f + nI k)) Q t :=
  wp_ld rfl (ix_5 f k) (show _ < 80 by have := hN.nf; have := hN.ho hf; omega) (by decide) (by rw [(h.2.2.2.1.2.2 f hf).2.2.2.2 k hk]; exact kk)
theorem tt_pa1 (hN : md_ok N) (h : TT N t0 R cn cr co ns t) (hf : f < md_nf N) (hk : k < md_ho N f) (kk : Q (nI (md_pa N f k)) t) : wp (tw_ld 15 (((5 : Int32) * nI f + nI (k + 1)) - (1 : Int32))) Q t :=
  wp_ld rfl (by rw [ix_5, ← Nat.add_assoc, nI_pred]) (show _ < 80 by have := hN.nf; have := hN.ho hf; omega) (by decide) (by rw [(h.2.2.2.1.2.2 f hf).2.2.2.2 k hk]; exact kk)
theorem tt_pa0 (hN : md_ok N) (h : TT N t0 R cn cr co ns t) (hf : f < md_nf N) (kk : Q (nI (md_pa N f 0)) t) : wp (tw_ld 15 ((5 : Int32) * nI f)) Q t :=
  wp_ld (j := 5 * f + 0) rfl (by rw [show (5 : Int32) = nI 5 from rfl, pk_mul, Nat.add_zero]) (show _ < 80 by have := hN.nf; omega) (by decide) (by rw [(h.2.2.2.1.2.2 f hf).2.2.2.2 0 (hN.ho hf).1]; exact kk)
theorem tt_flowAt (kk : Q ((240 : Int32) + (12 : Int32) * nI f) t) : wp (fm_flowAt (nI f)) Q t := wp_rt kk
theorem tt_within {v a b : Int32} (kk : Q (md_wi v a b) t) : wp (fm_within v a b) Q t := by
  unfold fm_within fm_within_J19
  unfold md_wi at kk
  refine wp_if (fun h1 => wp_if (fun h2 => wp_rt ?_) (fun h2 => wp_rt ?_)) (fun h1 => wp_rt ?_)
  · rw [if_pos h1, if_pos h2] at kk; exact kk
  · rw [if_pos h1, if_neg h2] at kk; exact kk
  · rw [if_neg h1] at kk; exact kk
/-! the queue; a place on the way -/
theorem tt_queue (h : TT N t0 R cn cr co ns t) (hl : l < 10) (kk : Q (md_q R l) t) : wp (fm_queueOf (nI l)) Q t := by
  refine wp_forB (J := fun i w u => w = md_sum (fun f => R.1 l (15 + f)) i ∧ u = t) 8 (by decide) ⟨rfl, rfl⟩ rfl ?_ ?_
  · rintro i f w u hi ⟨rfl, rfl⟩ hk
    unfold fm_queueOf_L4
    refine wp_ifF (nI_ge hi (by decide)) (wp_bd (tt_Q h hl hi ?_))
    exact hk _ _ ⟨rfl, rfl⟩
  · rintro f w u ⟨rfl, rfl⟩
    unfold fm_queueOf_L4
    exact wp_ifT (Int32.le_refl _) (wp_rt kk)
/-- -1 if none -/
def md_ix (k n : Nat) : Int32 := if k = n then -1 else nI k
theorem tt_hop (hN : md_ok N) (h : TT N t0 R cn cr co ns t) (hf : f < md_nf N) (hl : l < md_nl N) (kk : Q (md_ix (md_hop N f l) (md_ho N f)) t) : wp (fm_hopOf (nI f) (nI l)) Q t := by
  have hH := hN.ho hf
  have hL := hN.nl
  have hle := md_hop_le N f l
  refine wp_for (J := fun i u => u = t) (md_hop N f l) (by omega) rfl rfl ?_ ?_
  · rintro i f' u hi rfl hk
    unfold fm_hopOf_L2
    have hp := hN.pa hf (show i < md_ho N f by omega)
    refine wp_bd (tt_ho hN h hf (wp_ifF (nI_ge (by omega) (by omega)) (wp_bd (tt_pa hN h hf (by omega) (wp_ifF ?_ (hk _ rfl))))))
    rw [nI_eq (by omega) (by omega)]
    exact md_hop_no hi
  · rintro f' u rfl
    unfold fm_hopOf_L2
    unfold md_ix at kk
    refine wp_bd (tt_ho hN h hf ?_)
    by_cases e : md_hop N f l = md_ho N f
    · rw [if_pos e] at kk
      rw [e]
      exact wp_ifT (Int32.le_refl _) (wp_rt kk)
    · rw [if_neg e] at kk
      refine wp_ifF (nI_ge (by omega) (by omega)) (wp_bd (tt_pa hN h hf (by omega) (wp_ifT ?_ (wp_rt kk))))
      rw [md_hop_is (by omega)]
end TTrows
