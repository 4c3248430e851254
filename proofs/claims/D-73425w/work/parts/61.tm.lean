/-! THE TWIN: what changes it -/
/-- the rows that are kept, with one more -/
def md_rm (P : Nat × (Nat → Rw)) (R : Rw) : Nat × (Nat → Rw) := if P.1 = 20 then (20, fun i => if i < 19 then P.2 (i + 1) else R) else (P.1 + 1, va_up P.2 P.1 R)
def md_tn (N : Nt) (n : Nat) (R : Rw) : Rw := md_it (fun _ => md_tk N) n R
theorem md_iv.tn {N : Nt} {m n : Nat} {R : Rw} (hN : md_ok N) (h : md_iv N m R) (hm : m + n ≤ 20001) : md_iv N (m + n) (md_tn N n R) := by
  induction n with
  | zero => exact h
  | succ n ih => exact (ih (by omega)).tk hN (show m + n ≤ 20000 by omega)
section Tm
variable {U : (Nat → Nat) × Nat × Int32 × Int32} {N : Nt} {R R' : Rw} {P : Nat × (Nat → Rw)} {I : Bool × Rw} {t t0 u : TS} {cn cr co : Nat → Int32} {ns : Ns} {Q : Int32 → TS → Prop} {V : Unit → TS → Prop} {a b c x : Int32}
theorem TT.oth (h : TT N t0 R cn cr co ns t) (h1 : ∀ q, (3 ≤ q ∧ q ≤ 15) ∨ q = 26 ∨ (33 ≤ q ∧ q ≤ 37) → u.2.2.1 q = t.2.2.1 q) (h2 : u.1 38 = t.1 38) : TT N u R cn cr co ns u := by
  obtain ⟨c1, c2, c3, c4, c5⟩ := h
  refine ⟨by rw [h1 26 (by omega)]; exact c1, by rw [h1 33 (by omega), h1 34 (by omega), h1 35 (by omega)]; exact c2, by rw [h1 36 (by omega), h1 37 (by omega), h2]; exact c3, c4.kept fun k k1 k2 => h1 k (by omega), tw_sm.rf u⟩
theorem TT.row (h : TT N t0 R cn cr co ns t) (hr : tw_rw R' (u.2.2.1 26)) (h1 : ∀ q, q ≠ 26 → u.2.2.1 q = t.2.2.1 q) (h2 : u.1 38 = t.1 38) : TT N u R' cn cr co ns u := by
  obtain ⟨c1, c2, c3, c4, c5⟩ := h
  refine ⟨hr, by rw [h1 33 (by omega), h1 34 (by omega), h1 35 (by omega)]; exact c2, by rw [h1 36 (by omega), h1 37 (by omega), h2]; exact c3, c4.kept fun k k1 k2 => h1 k (by omega), tw_sm.rf u⟩
theorem tw_rw.ext {g g' : Nat → Int32} (h : tw_rw R g) (e : ∀ k, k < 337 → g' k = g k) : tw_rw R g' :=
  ⟨fun l k hl hk => by rw [e _ (by omega)]; exact h.1 l k hl hk, fun f k hf hk => by rw [e _ (by omega)]; exact h.2.1 f k hf hk, by rw [e _ (by omega)]; exact h.2.2⟩
/-- a row is copied -/
theorem tt_copies {p q i k : Nat} {x y : Int32} (hp : tw_fk p = 0) (hq : tw_fk q = 0) (hpq : p ≠ q) (hi : i + 337 ≤ tw_n p) (hk : k + 337 ≤ tw_n q) (hn : tw_n p < 1000000) (hn2 : tw_n q < 1000000) (hx : x = nI i) (hy : y = nI k)
    (kk : ∀ u : TS, (∀ j, u.2.2.1 q j = if k ≤ j ∧ j < k + 337 then t.2.2.1 p (i + (j - k)) else t.2.2.1 q j) → (∀ r, r ≠ q → u.2.2.1 r = t.2.2.1 r) → u.1 = t.1 → u.2.1 = t.2.1 → u.2.2.2 = t.2.2.2 → V () u) : wp (fm_copies p x q y) V t := by
  subst hx hy
  unfold fm_copies
  refine wp_for (J := fun n u => (∀ j, u.2.2.1 q j = if k ≤ j ∧ j < k + n then t.2.2.1 p (i + (j - k)) else t.2.2.1 q j) ∧ (∀ r, r ≠ q → u.2.2.1 r = t.2.2.1 r) ∧ u.1 = t.1 ∧ u.2.1 = t.2.1 ∧ u.2.2.2 = t.2.2.2) 337 (by decide) ⟨fun j => by rw [if_neg (by omega)], fun _ _ => rfl, rfl, rfl, rfl⟩ rfl ?_ ?_
  · rintro n f u hn' ⟨h1, h2, h3, h4, h5⟩ hk'
    rw [fm_copies_L3]
    refine wp_ifF (nI_ge hn' (by decide)) (wp_bd (wp_ld (j := i + n) hp (nI_add i n) (by omega) (by omega) (wp_bd (wp_st (j := k + n) hq (nI_add k n) (by omega) (by omega) (hk' _ ⟨fun j => ?_, fun r hr => ?_, h3, h4, h5⟩)))))
    · dsimp only
      rw [md_up_eq]
      unfold upd
      rw [h2 p hpq, h1 j]
      by_cases e : j = k + n
      · rw [if_pos e, if_pos (by omega), show i + (j - k) = i + n by omega]
      · rw [if_neg e]
        by_cases e2 : k ≤ j ∧ j < k + n
        · rw [if_pos e2, if_pos (by omega)]
        · rw [if_neg e2, if_neg (by omega)]
    · dsimp only
      rw [md_up_ne hr]
      exact h2 r hr
  · rintro f u ⟨h1, h2, h3, h4, h5⟩
    rw [fm_copies_L3]
    exact wp_ifT (Int32.le_refl _) (wp_rt (kk u h1 h2 h3 h4 h5))
theorem tm_rem50 (hP : P.1 < 20) (h : TwA U N R P I t) (kk : ∀ u, TwA U N R (P.1 + 1, va_up P.2 P.1 R) I u → V () u) : wp fm_remembers_J50 V t := by
  obtain ⟨⟨cn, cr, co, ns, hT⟩, hB⟩ := h
  obtain ⟨b1, b2, b3, b4, b5, b6, b7, b8⟩ := id hB
  unfold fm_remembers_J50
  refine wp_bd (wp_gi ?_)
  refine wp_bd (tt_copies (p := 26) (q := 30) (i := 0) (k := 337 * P.1) rfl rfl (by decide) (by decide) (show _ ≤ 6740 by omega) (by decide) (by decide) rfl (by rw [b5, show (337 : Int32) = nI 337 from rfl, pk_mul]) fun u h1 h2 h3 h4 h5 => ?_)
  refine wp_bd (wp_gi ?_)
  refine wp_bd (wp_pi (wp_rt (kk _ ⟨⟨cn, cr, co, ns, ?_⟩, ?_⟩)))
  · refine hT.oth (fun q hq => h2 q (by omega)) ?_
    dsimp only
    rw [upd_ne (by decide), h3]
  · refine ⟨?_, ?_, ?_, ?_, ?_, ?_, ?_, fun i hi => ?_⟩
    · intro k hk; dsimp only; rw [h2 1 (by decide)]; exact b1 k hk
    · dsimp only; rw [upd_ne (by decide), h3]; exact b2
    · dsimp only; rw [upd_ne (by decide), h3]; exact b3
    · dsimp only; rw [upd_ne (by decide), h3]; exact b4
    · dsimp only; rw [upd_eq, h3, b5, nI_1]
    · dsimp only; rw [upd_ne (by decide), h3]; exact b6
    · intro q; dsimp only; rw [h2 29 (by decide)]; exact b7 q
    · dsimp only at hi ⊢
      by_cases e : i = P.1
      · rw [e, md_up_eq]
        refine hT.1.ext fun k hk => ?_
        rw [h1, if_pos (by omega)]
        exact congrArg (t.2.2.1 26) (by omega)
      · rw [md_up_ne e]
        refine (b8 i (by omega)).ext fun k hk => ?_
        rw [h1, if_neg (by omega)]
theorem tm_rem (hP : P.1 ≤ 20) (h : TwA U N R P I t) (kk : ∀ u, TwA U N R (md_rm P R) I u → V () u) : wp fm_remembers V t := by
  obtain ⟨⟨cn, cr, co, ns, hT⟩, hB⟩ := id h
  obtain ⟨b1, b2, b3, b4, b5, b6, b7, b8⟩ := id hB
  unfold fm_remembers
  unfold md_rm at kk
  refine wp_bd (wp_gi ?_)
  rw [b5]
  by_cases e : P.1 = 20
  · rw [if_pos e] at kk
    rw [e]
    refine wp_ifT rfl ?_
    refine wp_for (J := fun n u => (∀ j, u.2.2.1 30 j = if j < n then t.2.2.1 30 (337 + j) else t.2.2.1 30 j) ∧ (∀ r, r ≠ 30 → u.2.2.1 r = t.2.2.1 r) ∧ u.1 = t.1) 6403 (by decide) ⟨fun j => by rw [if_neg (by omega)], fun _ _ => rfl, rfl⟩ rfl ?_ ?_
    · rintro n f u hn ⟨h1, h2, h3⟩ hk
      rw [fm_remembers_L11]
      refine wp_ifF (nI_ge hn (by decide)) (wp_bd (wp_ld (j := 337 + n) rfl (by rw [show (337 : Int32) = nI 337 from rfl, nI_add]) (show _ < 6740 by omega) (by decide) (wp_bd (wp_st (j := n) rfl rfl (show _ < 6740 by omega) (by decide) (hk _ ⟨fun j => ?_, fun r hr => ?_, h3⟩)))))
      · dsimp only
        rw [md_up_eq]
        unfold upd
        rw [h1 (337 + n), h1 j, if_neg (show ¬ 337 + n < n by omega)]
        by_cases e : j = n
        · rw [if_pos e, if_pos (by omega), e]
        · rw [if_neg e]
          by_cases e2 : j < n
          · rw [if_pos e2, if_pos (by omega)]
          · rw [if_neg e2, if_neg (by omega)]
      · dsimp only; rw [md_up_ne hr]; exact h2 r hr
    · rintro f u ⟨h1, h2, h3⟩
      rw [fm_remembers_L11]
      refine wp_ifT (Int32.le_refl _) ?_
      refine wp_bd (wp_gi ?_)
      refine wp_bd (wp_pi ?_)
      refine tm_rem50 (P := (19, fun i => P.2 (i + 1))) (U := U) (N := N) (R := R) (I := I) (show 19 < 20 by decide) ⟨⟨cn, cr, co, ns, ?_⟩, ?_⟩ ?_
      · refine hT.oth (fun q hq => h2 q (by omega)) ?_
        dsimp only
        rw [upd_ne (by decide), h3]
      · refine ⟨?_, ?_, ?_, ?_, ?_, ?_, ?_, fun i hi => ?_⟩
        · intro k hk; dsimp only; rw [h2 1 (by decide)]; exact b1 k hk
        · dsimp only; rw [upd_ne (by decide), h3]; exact b2
        · dsimp only; rw [upd_ne (by decide), h3]; exact b3
        · dsimp only; rw [upd_ne (by decide), h3]; exact b4
        · dsimp only; rw [upd_eq, h3, b5, e]; rfl
        · dsimp only; rw [upd_ne (by decide), h3]; exact b6
        · intro q; dsimp only; rw [h2 29 (by decide)]; exact b7 q
        · dsimp only at hi ⊢
          refine (b8 (i + 1) (by omega)).ext fun k hk => ?_
          rw [h1, if_pos (by omega)]
          exact congrArg (t.2.2.1 30) (by omega)
      · intro v hv
        refine kk v ?_
        have ef : (fun i => if i < 19 then P.2 (i + 1) else R) = va_up (fun i => P.2 (i + 1)) 19 R ∨ True := Or.inr trivial
        obtain ⟨q1, d1, d2, d3, d4, d5, d6, d7, d8⟩ := hv
        refine ⟨q1, d1, d2, d3, d4, d5, d6, d7, fun i hi => ?_⟩
        have := d8 i hi
        dsimp only at this ⊢
        by_cases e3 : i = 19
        · rw [e3, if_neg (by decide)]
          rw [e3, md_up_eq] at this
          exact this
        · dsimp only at hi
          rw [if_pos (by omega)]
          rw [md_up_ne e3] at this
          exact this
  · rw [if_neg e] at kk
    refine wp_ifF (by rw [show (20 : Int32) = nI 20 from rfl, nI_eq (by omega) (by decide)]; exact e) ?_
    exact tm_rem50 (by omega) h kk
/-- the row is written -/
theorem TwA.wrow (h : TwA U N R P I t) (hT : TT N t R' cn cr co ns u) : TwA U N R' P I u := ⟨⟨cn, cr, co, ns, hT.base⟩, h.2.sm hT.2.2.2.2⟩
theorem tm_undo (h : TwA U N R P I t) (hP : P.1 ≤ 20) : wp fm_undo (fun r u => if P.1 = 0 then r = -1 ∧ TwA U N R P I u else r = nI (P.1 - 1) ∧ TwA U N (P.2 (P.1 - 1)) (P.1 - 1, P.2) I u) t := by
  unfold fm_undo
  refine tq_0 h fun u hu => ?_
  obtain ⟨⟨cn, cr, co, ns, hT⟩, hB⟩ := id hu
  obtain ⟨b1, b2, b3, b4, b5, b6, b7, b8⟩ := id hB
  refine wp_bd (wp_gi ?_)
  rw [b5]
  by_cases e : P.1 = 0
  · rw [e]
    refine wp_ifT rfl (wp_rt ?_)
    rw [if_pos rfl]
    exact ⟨rfl, hu⟩
  · refine wp_ifF (nI_ne0 (by omega) (by omega)) ?_
    refine wp_bd (wp_gi ?_)
    refine wp_bd (wp_pi ?_)
    refine wp_bd (wp_gi ?_)
    obtain ⟨m, hm⟩ : ∃ m, P.1 = m + 1 := ⟨P.1 - 1, by omega⟩
    have e31 : upd u.1 31 (u.1 31 - 1) 31 = nI m := by rw [upd_eq, b5, hm, nI_pred]
    refine wp_bd (tt_copies (p := 30) (q := 26) (i := 337 * m) (k := 0) rfl rfl (by decide) (show _ ≤ 6740 by omega) (by decide) (by decide) (by decide) (by dsimp only; rw [e31, show (337 : Int32) = nI 337 from rfl, pk_mul]) rfl fun v h1 h2 h3 h4 h5 => ?_)
    refine wp_bd (wp_gi (wp_rt ?_))
    rw [if_neg e, hm, Nat.add_sub_cancel]
    dsimp only at h1 h2 h3
    refine ⟨by rw [h3]; exact e31, ⟨cn, cr, co, ns, hT.row ((b8 m (by omega)).ext fun k hk => ?_) h2 (by rw [h3, upd_ne (by decide)])⟩, ?_, ?_, ?_, ?_, ?_, ?_, ?_, fun i hi => ?_⟩
    · rw [h1, if_pos (by omega)]; exact congrArg (u.2.2.1 30) (by omega)
    · intro k hk; rw [h2 1 (by decide)]; exact b1 k hk
    · rw [h3, upd_ne (by decide)]; exact b2
    · rw [h3, upd_ne (by decide)]; exact b3
    · rw [h3, upd_ne (by decide)]; exact b4
    · rw [h3]; exact e31
    · rw [h3, upd_ne (by decide)]; exact b6
    · intro q; rw [h2 29 (by decide)]; exact b7 q
    · rw [h2 30 (by decide)]; dsimp only at hi; exact b8 i (by omega)
theorem tm_keep (h : TwA U N R P I t) : wp fm_keep (fun r u => r = R.2.2 ∧ TwA U N R P (true, R) u) t := by
  unfold fm_keep
  refine tq_0 h fun u hu => ?_
  obtain ⟨⟨cn, cr, co, ns, hT⟩, hB⟩ := id hu
  obtain ⟨b1, b2, b3, b4, b5, b6, b7, b8⟩ := id hB
  refine wp_bd (tt_copies (p := 26) (q := 29) (i := 0) (k := 0) rfl rfl (by decide) (by decide) (by decide) (by decide) (by decide) rfl rfl fun v h1 h2 h3 h4 h5 => ?_)
  refine wp_bd ⟨(), _, rfl, ?_⟩
  have hT' : TT N (upd v.1 32 1, v.2) R cn cr co ns (upd v.1 32 1, v.2) := hT.oth (fun q hq => h2 q (by omega)) (by dsimp only; rw [upd_ne (by decide), h3])
  refine wp_bd (tt_T hT' (wp_rt ⟨rfl, ⟨cn, cr, co, ns, hT'⟩, ?_, ?_, ?_, ?_, ?_, ?_, fun _ => ?_, fun i hi => ?_⟩))
  · intro k hk; dsimp only; rw [h2 1 (by decide)]; exact b1 k hk
  · dsimp only; rw [upd_ne (by decide), h3]; exact b2
  · dsimp only; rw [upd_ne (by decide), h3]; exact b3
  · dsimp only; rw [upd_ne (by decide), h3]; exact b4
  · dsimp only; rw [upd_ne (by decide), h3]; exact b5
  · dsimp only; rw [upd_eq]; rfl
  · refine hT.1.ext fun k hk => ?_
    dsimp only
    rw [h1, if_pos (by omega)]; exact congrArg (u.2.2.1 26) (by omega)
  · dsimp only; rw [h2 30 (by decide)]; exact b8 i hi
theorem tm_back (h : TwA U N R P I t) : wp fm_back (fun r u => if I.1 = true then r = I.2.2.2 ∧ TwA U N I.2 (0, P.2) I u else r = -1 ∧ TwA U N R P I u) t := by
  unfold fm_back
  refine tq_0 h fun u hu => ?_
  obtain ⟨⟨cn, cr, co, ns, hT⟩, hB⟩ := id hu
  obtain ⟨b1, b2, b3, b4, b5, b6, b7, b8⟩ := id hB
  refine wp_bd (wp_gi ?_)
  rw [b6]
  by_cases e : I.1 = true
  · rw [e]
    refine wp_ifF (by decide) ?_
    refine wp_bd (tt_copies (p := 29) (q := 26) (i := 0) (k := 0) rfl rfl (by decide) (by decide) (by decide) (by decide) (by decide) rfl rfl fun v h1 h2 h3 h4 h5 => ?_)
    refine wp_bd (wp_pi ?_)
    have hT' : TT N (upd v.1 31 0, v.2) I.2 cn cr co ns (upd v.1 31 0, v.2) := hT.row ((b7 e).ext fun k hk => by dsimp only; rw [h1, if_pos (by omega)]; exact congrArg (u.2.2.1 29) (by omega)) h2 (by dsimp only; rw [upd_ne (by decide), h3])
    refine wp_bd (tt_T hT' (wp_rt ?_))
    rw [if_pos rfl]
    refine ⟨rfl, ⟨cn, cr, co, ns, hT'⟩, ?_, ?_, ?_, ?_, ?_, ?_, ?_, fun i hi => absurd hi (Nat.not_lt_zero _)⟩
    · intro k hk; dsimp only; rw [h2 1 (by decide)]; exact b1 k hk
    · dsimp only; rw [upd_ne (by decide), h3]; exact b2
    · dsimp only; rw [upd_ne (by decide), h3]; exact b3
    · dsimp only; rw [upd_ne (by decide), h3]; exact b4
    · dsimp only; rw [upd_eq]; rfl
    · dsimp only; rw [upd_ne (by decide), h3]; exact b6
    · intro q; dsimp only; rw [h2 29 (by decide)]; exact b7 q
  · have e' : I.1 = false := by rw [← Bool.not_eq_true]; exact e
    rw [e']
    refine wp_ifT rfl (wp_rt ?_)
    rw [if_neg (by decide)]
    exact ⟨rfl, hu⟩
end Tm
