/-! acts: what is answered, the row, the rows that are kept -/
abbrev Ac : Type := Int32 × Rw × Nat × (Nat → Rw)
def md_rate (N : Nt) (R : Rw) (P : Nat × (Nat → Rw)) (a b : Int32) : Ac := match md_op a (md_nf N) with
  | some f => if ¬ b < 1 ∧ b ≤ 1024 then (R.2.1 f 0, md_S (md_S R f 0 b) f 1 b, md_rm P R) else (-1, R, P)
  | none => (-1, R, P)
def md_turn (N : Nt) (R : Rw) (P : Nat × (Nat → Rw)) (a : Int32) : Ac := match md_op a (md_nf N) with
  | some f => (1 - R.2.1 f 7, md_S R f 7 (1 - R.2.1 f 7), md_rm P R)
  | none => (-1, R, P)
def md_bnds (N : Nt) (R : Rw) (P : Nat × (Nat → Rw)) (a b c : Int32) : Ac := match md_op a (md_nl N) with
  | some l => if (¬ b < 1 ∧ b ≤ 999) ∧ ¬ c < 0 ∧ c < b then (1, md_E (md_E R l 0 b) l 1 c, md_rm P R) else (0, R, P)
  | none => (0, R, P)
def md_size (N : Nt) (R : Rw) (P : Nat × (Nat → Rw)) (a b : Int32) : Ac := match md_op a (md_nl N) with
  | some l => if ¬ b < 1 ∧ b ≤ 1999 then (R.1 l 2, md_E R l 2 b, md_rm P R) else (-1, R, P)
  | none => (-1, R, P)
def md_tick (N : Nt) (R : Rw) (P : Nat × (Nat → Rw)) (m : Nat) (a : Int32) : Ac := match md_op (a - 1) 50 with
  | some j => if m + (j + 1) ≤ 9999 then ((md_tn N (j + 1) R).2.2, md_tn N (j + 1) R, md_rm P R) else (-2, R, P)
  | none => (-1, R, P)
theorem md_op_1 (a : Int32) {n : Nat} (hn : n < 2 ^ 30) : (md_op (a - 1) n = none ∧ (a < 1 ∨ nI n < a)) ∨ ∃ j, j < n ∧ a = nI (j + 1) ∧ md_op (a - 1) n = some j := by
  by_cases h1 : a < 1
  · refine Or.inl ⟨?_, Or.inl h1⟩
    unfold md_op
    refine if_pos ?_
    by_cases h2 : a = -2147483648
    · rw [h2]
      refine Or.inr ?_
      rw [show ((-2147483648 : Int32) - 1) = nI 2147483647 from by decide]
      exact nI_le (by omega) (by decide)
    · refine Or.inl ?_
      rw [Int32.lt_iff_toInt_lt] at h1 ⊢
      have h3 : a.toInt ≠ -2147483648 := fun q => h2 (Int32.toInt_inj.mp q)
      have h4 := Int32.le_toInt a
      have h5 := Int32.toInt_lt a
      rw [Int32.toInt_sub, show (1 : Int32).toInt = 1 from rfl, show (0 : Int32).toInt = 0 from rfl] at *
      rw [Int.bmod_eq_of_le] <;> omega
  · obtain ⟨i, hi, rfl⟩ := nI_of (x := a) (fun q => h1 (Int32.lt_trans q (by decide)))
    have h2 : ¬ i < 1 := fun q => h1 (nI_lt (b := 1) q (by decide))
    obtain ⟨j, rfl⟩ : ∃ j, i = j + 1 := ⟨i - 1, by omega⟩
    rw [nI_pred]
    by_cases h3 : j < n
    · exact Or.inr ⟨j, h3, rfl, md_op_lt (by omega) j h3⟩
    · refine Or.inl ⟨?_, Or.inr (nI_lt (by omega) hi)⟩
      unfold md_op
      exact if_pos (Or.inr (nI_le (by omega) (by omega)))
section Tn
variable {U : (Nat → Nat) × Nat × Int32 × Int32} {N : Nt} {R R' : Rw} {P : Nat × (Nat → Rw)} {I : Bool × Rw} {t t0 u : TS} {cn cr co : Nat → Int32} {ns : Ns} {Q : Int32 → TS → Prop} {V : Unit → TS → Prop} {a b c x : Int32}
theorem tm_rate (hN : md_ok N) (hP : P.1 ≤ 20) (h : TwA U N R P I t) : wp (fm_rate a b) (fun r u => r = (md_rate N R P a b).1 ∧ TwA U N (md_rate N R P a b).2.1 (md_rate N R P a b).2.2 I u) t := by
  have hF := hN.nf
  unfold fm_rate fm_rate_J25
  refine tq_0 h fun u hu => ?_
  obtain ⟨⟨cn, cr, co, ns, hT⟩, hB⟩ := id hu
  unfold md_rate
  refine wp_bd (tt_isFlow hN hT (fun e => ?_) (fun f hf ea e => ?_))
  · rw [e]; exact wp_ifT rfl (wp_rt ⟨rfl, hu⟩)
  · rw [e, ea]
    refine wp_ifF (by decide) ?_
    dsimp only
    refine wp_if (fun hc => ?_) (fun hc => wp_if (fun hc2 => ?_) (fun hc2 => ?_))
    · rw [if_neg (fun q => q.1 hc)]; exact wp_rt ⟨rfl, hu⟩
    · rw [if_pos ⟨hc, hc2⟩]
      refine wp_bd (tm_rem hP hu fun u hu => ?_)
      obtain ⟨⟨cn, cr, co, ns, hT⟩, hB⟩ := id hu
      refine wp_bd (tt_flowAt (wp_bd (tt_S (k := 0) hT (by omega) (by decide) ?_)))
      refine wp_bd (tt_flowAt (wp_bd (tt_wS (k := 0) hT (by omega) (by decide) fun u' hT' => ?_)))
      exact wp_bd (tt_flowAt (wp_bd (tt_wS (k := 1) hT' (by omega) (by decide) fun u' hT' => wp_rt ⟨rfl, hu.wrow hT'⟩)))
    · rw [if_neg (fun q => hc2 q.2)]; exact wp_rt ⟨rfl, hu⟩
theorem tm_turn (hN : md_ok N) (hP : P.1 ≤ 20) (h : TwA U N R P I t) : wp (fm_turn a) (fun r u => r = (md_turn N R P a).1 ∧ TwA U N (md_turn N R P a).2.1 (md_turn N R P a).2.2 I u) t := by
  have hF := hN.nf
  unfold fm_turn
  refine tq_0 h fun u hu => ?_
  obtain ⟨⟨cn, cr, co, ns, hT⟩, hB⟩ := id hu
  unfold md_turn
  refine wp_bd (tt_isFlow hN hT (fun e => ?_) (fun f hf ea e => ?_))
  · rw [e]; exact wp_ifT rfl (wp_rt ⟨rfl, hu⟩)
  · rw [e, ea]
    refine wp_ifF (by decide) ?_
    refine wp_bd (tm_rem hP hu fun u hu => ?_)
    obtain ⟨⟨cn, cr, co, ns, hT⟩, hB⟩ := id hu
    refine wp_bd (tt_flowAt (wp_bd (tt_flowAt (wp_bd (tt_S (k := 7) hT (by omega) (by decide) ?_)))))
    refine wp_bd (tt_wS (k := 7) hT (by omega) (by decide) fun u' hT' => ?_)
    refine wp_bd (tt_flowAt (wp_bd (tt_S (k := 7) hT' (by omega) (by decide) (wp_rt ⟨?_, hu.wrow hT'⟩))))
    rw [md_Se]
theorem tm_bnds (hN : md_ok N) (hP : P.1 ≤ 20) (h : TwA U N R P I t) : wp (fm_bounds a b c) (fun r u => r = (md_bnds N R P a b c).1 ∧ TwA U N (md_bnds N R P a b c).2.1 (md_bnds N R P a b c).2.2 I u) t := by
  have hL := hN.nl
  unfold fm_bounds fm_bounds_J34
  refine tq_0 h fun u hu => ?_
  obtain ⟨⟨cn, cr, co, ns, hT⟩, hB⟩ := id hu
  unfold md_bnds
  refine wp_bd (tt_isLink hN hT (fun e => ?_) (fun l hl ea e => ?_))
  · rw [e]; exact wp_ifT rfl (wp_rz (Or.inl rfl) ⟨rfl, hu⟩)
  · rw [e, ea]
    refine wp_ifF (by decide) ?_
    dsimp only
    refine wp_if (fun h1 => ?_) (fun h1 => wp_if (fun h2 => ?_) (fun h2 => wp_if (fun h3 => ?_) (fun h3 => wp_if (fun h4 => ?_) (fun h4 => ?_))))
    · rw [if_neg (fun q => q.1.1 h1)]; exact wp_rz (Or.inl rfl) ⟨rfl, hu⟩
    · rw [if_neg (fun q => i32_nlt.mpr q.1.2 h2)]; exact wp_rz (Or.inl rfl) ⟨rfl, hu⟩
    · rw [if_neg (fun q => q.2.1 h3)]; exact wp_rz (Or.inl rfl) ⟨rfl, hu⟩
    · rw [if_pos ⟨⟨h1, i32_nlt.mp h2⟩, h3, h4⟩]
      refine wp_bd (tm_rem hP hu fun u hu => ?_)
      obtain ⟨⟨cn, cr, co, ns, hT⟩, hB⟩ := id hu
      refine wp_bd (tt_wE (k := 0) hT (by omega) (by decide) fun u' hT' => ?_)
      exact wp_bd (tt_wE (k := 1) hT' (by omega) (by decide) fun u' hT' => wp_rz (Or.inr rfl) ⟨rfl, hu.wrow hT'⟩)
    · rw [if_neg (fun q => h4 q.2.2)]; exact wp_rz (Or.inl rfl) ⟨rfl, hu⟩
theorem tm_size (hN : md_ok N) (hP : P.1 ≤ 20) (h : TwA U N R P I t) : wp (fm_size a b) (fun r u => r = (md_size N R P a b).1 ∧ TwA U N (md_size N R P a b).2.1 (md_size N R P a b).2.2 I u) t := by
  have hL := hN.nl
  unfold fm_size fm_size_J25
  refine tq_0 h fun u hu => ?_
  obtain ⟨⟨cn, cr, co, ns, hT⟩, hB⟩ := id hu
  unfold md_size
  refine wp_bd (tt_isLink hN hT (fun e => ?_) (fun l hl ea e => ?_))
  · rw [e]; exact wp_ifT rfl (wp_rt ⟨rfl, hu⟩)
  · rw [e, ea]
    refine wp_ifF (by decide) ?_
    dsimp only
    refine wp_if (fun hc => ?_) (fun hc => wp_if (fun hc2 => ?_) (fun hc2 => ?_))
    · rw [if_neg (fun q => q.1 hc)]; exact wp_rt ⟨rfl, hu⟩
    · rw [if_pos ⟨hc, hc2⟩]
      refine wp_bd (tm_rem hP hu fun u hu => ?_)
      obtain ⟨⟨cn, cr, co, ns, hT⟩, hB⟩ := id hu
      refine wp_bd (tt_E (k := 2) hT (by omega) (by decide) ?_)
      exact wp_bd (tt_wE (k := 2) hT (by omega) (by decide) fun u' hT' => wp_rt ⟨rfl, hu.wrow hT'⟩)
    · rw [if_neg (fun q => hc2 q.2)]; exact wp_rt ⟨rfl, hu⟩
theorem tm_tick {m : Nat} (hN : md_ok N) (hI : md_iv N m R) (hm : m ≤ 9999) (hP : P.1 ≤ 20) (h : TwA U N R P I t) : wp (fm_tick a) (fun r u => r = (md_tick N R P m a).1 ∧ TwA U N (md_tick N R P m a).2.1 (md_tick N R P m a).2.2 I u) t := by
  unfold fm_tick fm_tick_J16
  refine tq_0 h fun u hu => ?_
  obtain ⟨⟨cn, cr, co, ns, hT⟩, hB⟩ := id hu
  unfold md_tick
  rcases md_op_1 a (n := 50) (by decide) with ⟨e1, e2⟩ | ⟨j, hj, rfl, e1⟩
  · rw [e1]
    refine wp_if (fun hc => wp_rt ⟨rfl, hu⟩) (fun hc => ?_)
    rcases e2 with e2 | e2
    · exact absurd e2 hc
    · exact wp_ifF (i32_nle.mpr e2) (wp_rt ⟨rfl, hu⟩)
  · rw [e1]
    dsimp only
    refine wp_ifF (nI_nlt (b := 1) (by omega) (by omega)) (wp_ifT (nI_le (b := 50) (by omega) (by decide)) ?_)
    refine wp_bd (tt_T hT ?_)
    rw [hI.1, nI_add]
    by_cases hc : m + (j + 1) ≤ 9999
    · rw [if_pos hc]
      refine wp_ifT (nI_le (b := 9999) hc (by decide)) ?_
      refine wp_bd (tm_rem hP hu fun u hu => ?_)
      obtain ⟨⟨cn, cr, co, ns, hT⟩, hB⟩ := id hu
      refine wp_for (J := fun i v => ∃ cn cr co ns, TT N u (md_tn N i R) cn cr co ns v) (j + 1) (by omega) ⟨cn, cr, co, ns, hT⟩ rfl ?_ ?_
      · rintro i f v hi ⟨cn, cr, co, ns, hT⟩ hk
        rw [fm_tick_L43]
        refine wp_ifF (nI_ge hi (by omega)) ?_
        exact wp_bd (tt_tick hN (hI.tn hN (n := i) (by omega)) (by omega) hT fun v cn cr co ns hT _ => hk v ⟨cn, cr, co, ns, hT⟩)
      · rintro f v ⟨cn, cr, co, ns, hT⟩
        rw [fm_tick_L43]
        exact wp_ifT (Int32.le_refl _) (wp_bd (tt_T hT (wp_rt ⟨rfl, hu.wrow hT⟩)))
    · rw [if_neg hc]
      exact wp_ifF (nI_ge (a := 9999) (by omega) (by omega)) (wp_rt ⟨rfl, hu⟩)
end Tn
