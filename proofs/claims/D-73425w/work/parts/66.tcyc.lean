/-! THE TWIN: who waits for whom -/
/-- what the search for cycles leaves as it was -/
def tw_fc (t u : TS) : Prop := (∀ k, k ≠ 39 → k ≠ 40 → k ≠ 41 → u.2.2.1 k = t.2.2.1 k) ∧ (∀ k, k ≠ 42 → u.1 k = t.1 k) ∧ u.2.1 = t.2.1 ∧ u.2.2.2 = t.2.2.2
theorem tw_fc.rf (t : TS) : tw_fc t t := ⟨fun _ _ _ _ => rfl, fun _ _ => rfl, rfl, rfl⟩
theorem tw_fc.tr {t u v : TS} (h1 : tw_fc t u) (h2 : tw_fc u v) : tw_fc t v := ⟨fun k a b c => (h2.1 k a b c).trans (h1.1 k a b c), fun k a => (h2.2.1 k a).trans (h1.2.1 k a), h2.2.2.1.trans h1.2.2.1, h2.2.2.2.trans h1.2.2.2⟩
theorem tw_fc.w {t : TS} {q : Nat} {g : Nat → Int32} (hq : q = 39 ∨ q = 40 ∨ q = 41) : tw_fc t (t.1, t.2.1, va_up t.2.2.1 q g, t.2.2.2) := ⟨fun k a b c => md_up_ne (by omega), fun _ _ => rfl, rfl, rfl⟩
theorem tw_fc.p {t : TS} {x : Int32} : tw_fc t (upd t.1 42 x, t.2) := ⟨fun _ _ _ _ => rfl, fun k hk => upd_ne hk, rfl, rfl⟩
theorem TT.fc {N : Nt} {t0 t u : TS} {R : Rw} {cn cr co : Nat → Int32} {ns : Ns} (h : TT N t0 R cn cr co ns t) (hf : tw_fc t u) : TT N u R cn cr co ns u := h.oth (fun q hq => hf.1 q (by omega) (by omega) (by omega)) (hf.2.1 38 (by decide))
theorem TwB.fc {U : (Nat → Nat) × Nat × Int32 × Int32} {P : Nat × (Nat → Rw)} {I : Bool × Rw} {t u : TS} (h : TwB U P I t) (hf : tw_fc t u) : TwB U P I u :=
  h.kept (hf.1 1 (by decide) (by decide) (by decide)) (hf.1 29 (by decide) (by decide) (by decide)) (hf.1 30 (by decide) (by decide) (by decide)) (hf.2.1 2 (by decide)) (hf.2.1 24 (by decide)) (hf.2.1 25 (by decide)) (hf.2.1 31 (by decide)) (hf.2.1 32 (by decide))
theorem TwA.fc {U : (Nat → Nat) × Nat × Int32 × Int32} {N : Nt} {R : Rw} {P : Nat × (Nat → Rw)} {I : Bool × Rw} {t u : TS} (h : TwA U N R P I t) (hf : tw_fc t u) : TwA U N R P I u := by
  obtain ⟨⟨cn, cr, co, ns, hT⟩, hB⟩ := h
  exact ⟨⟨cn, cr, co, ns, hT.fc hf⟩, hB.fc hf⟩
theorem TwS.fc {k : Nat} (hk : k = 27 ∨ k = 28) {U : (Nat → Nat) × Nat × Int32 × Int32} {N : Nt} {R X : Rw} {P : Nat × (Nat → Rw)} {I : Bool × Rw} {t u : TS} (h : TwS k U N R P I X t) (hf : tw_fc t u) : TwS k U N R P I X u := by
  obtain ⟨⟨cn, cr, co, ns, hT⟩, hB, hR⟩ := h
  exact ⟨⟨cn, cr, co, ns, hT.fc hf⟩, hB.fc hf, by rw [hf.1 k (by omega) (by omega) (by omega)]; exact hR⟩
theorem wp_un2 {σ α : Type} {n : Nat} {F : (Int32 → Int32 → σ → Option (α × σ)) → Int32 → Int32 → σ → Option (α × σ)} {z : Int32 → Int32 → σ → Option (α × σ)} {Q : α → σ → Prop} {t : σ} {v w : Int32} (h : wp (F (tw_lp F z n) v w) Q t) : wp (tw_lp F z (n + 1) v w) Q t := h
section Tc
variable {N : Nt} {t t0 : TS} {R : Rw} {cn cr co : Nat → Int32} {ns : Ns} {Q : Int32 → TS → Prop} {V : Unit → TS → Prop} {l f n : Nat} {a b : Int32}
theorem md_ix99 {k n : Nat} (hk : k = 99 ∨ k < 99) (hn : n < 99) : md_ix k 99 = nI n ↔ k = n := by
  unfold md_ix
  split
  · next e =>
    refine ⟨fun q => absurd q.symm (by rw [show (-1 : Int32) = -nI 1 from rfl]; exact nI_neg1 (by omega)), fun q => by omega⟩
  · exact nI_eq (by omega) (by omega)
theorem tt_nx (hN : md_ok N) (h : TT N t0 R cn cr co ns t) (hf : f < md_nf N) (hl : l < md_nl N) (kk : Q (md_ix (md_nx N f l) 99) t) : wp (fm_nextOf (nI f) (nI l)) Q t := by
  have hH := hN.ho hf
  have hle := md_hop_le N f l
  have hL := hN.nl
  unfold fm_nextOf fm_nextOf_J24 fm_nextOf_J40
  unfold md_nx at kk
  refine wp_bd (tt_hop hN h hf hl ?_)
  by_cases e : md_hop N f l = md_ho N f
  · rw [if_pos (Or.inl e), md_ix, if_pos rfl] at kk
    rw [md_ix, if_pos e]
    exact wp_ifT rfl (wp_rt kk)
  · rw [md_ixn (by omega)]
    refine wp_ifF (by rw [show (-1 : Int32) = -nI 1 from rfl]; exact nI_neg1 (by omega)) (wp_bd (tt_ho hN h hf ?_))
    obtain ⟨m, hm⟩ : ∃ m, md_ho N f = m + 1 := ⟨md_ho N f - 1, by omega⟩
    rw [show nI (md_ho N f) - 1 = nI m by rw [hm, nI_pred]]
    by_cases e2 : md_hop N f l + 1 = md_ho N f
    · rw [if_pos (Or.inr e2), md_ix, if_pos rfl] at kk
      exact wp_ifT (by rw [show md_hop N f l = m by omega]) (wp_rt kk)
    · rw [if_neg (by omega)] at kk
      have hp := hN.pa hf (show md_hop N f l + 1 < md_ho N f by omega)
      rw [md_ix, if_neg (by omega)] at kk
      refine wp_ifF (by rw [nI_eq (by omega) (by omega)]; omega) ?_
      refine wp_bd (wp_ld (j := 5 * f + (md_hop N f l + 1)) rfl (by rw [ix_5, nI_1, Nat.add_assoc]) (show _ < 80 by have := hN.nf; omega) (by decide) ?_)
      rw [(h.2.2.2.1.2.2 f hf).2.2.2.2 _ (by omega)]
      exact wp_rt kk
theorem tt_wt (hN : md_ok N) (h : TT N t0 R cn cr co ns t) (hl : l < md_nl N) (hf : f < md_nf N) (hn : n < md_nl N) (kk : Q (md_bi (md_wt N R l f n)) t) : wp (fm_isWaiting (nI l) (nI f) (nI n)) Q t := by
  have hL := hN.nl
  have hF := hN.nf
  unfold fm_isWaiting fm_isWaiting_J47 fm_isWaiting_J48
  have hx := md_nx_lt hN (l := l) hf
  have no : ¬ (R.1 l 10 = 1 ∧ 0 < R.1 l (15 + f) ∧ md_nx N f l = n ∧ R.1 n 10 = 1) → Q 0 t := fun q => by rw [md_wt, decide_eq_false q] at kk; exact kk
  have ye : (R.1 l 10 = 1 ∧ 0 < R.1 l (15 + f) ∧ md_nx N f l = n ∧ R.1 n 10 = 1) → Q 1 t := fun q => by rw [md_wt, decide_eq_true q] at kk; exact kk
  refine wp_bd (tt_asked h (by omega) ?_)
  by_cases e1 : R.1 l 10 = 1
  · rw [if_pos e1]
    refine wp_ifF (by decide) (wp_bd (tt_Q h (by omega) (by omega) ?_))
    refine wp_if (fun hc => wp_rz (Or.inl rfl) (no fun q => i32_nlt.mpr hc q.2.1)) (fun hc => wp_bd (tt_nx hN h hf hl ?_))
    by_cases e3 : md_nx N f l = n
    · refine wp_ifT ((md_ix99 (by omega) (by omega)).mpr e3) (wp_bd (tt_asked h (by omega) ?_))
      by_cases e4 : R.1 n 10 = 1
      · rw [if_pos e4]
        exact wp_ifF (by decide) (wp_rz (Or.inr rfl) (ye ⟨e1, i32_nle.mp hc, e3, e4⟩))
      · rw [if_neg e4]
        exact wp_ifT rfl (wp_rz (Or.inl rfl) (no fun q => e4 q.2.2.2))
    · exact wp_ifF (fun q => e3 ((md_ix99 (by omega) (by omega)).mp q)) (wp_rz (Or.inl rfl) (no fun q => e3 q.2.2.1))
  · rw [if_neg e1]
    exact wp_ifT rfl (wp_rz (Or.inl rfl) (no fun q => e1 q.1))
def md_em2 (N : Nt) (R : Rw) (b : Bool) : Nat → Nat → Bool := if b then md_e1 N else md_e0 N R
/-- each one's bits -/
theorem tt_lw (m : Bool) (hN : md_ok N) (h : TT N t0 R cn cr co ns t) (kk : ∀ u, TT N u R cn cr co ns u → tw_fc t u → (∀ l, l < md_nl N → u.2.2.1 39 l = md_bs (md_em2 N R m l) (md_nl N)) → V () u) : wp (fm_laysWaits (md_bi m)) V t := by
  have hL := hN.nl
  have hF := hN.nf
  unfold fm_laysWaits
  refine wp_for (J := fun i u => TT N u R cn cr co ns u ∧ tw_fc t u ∧ ∀ l, l < i → u.2.2.1 39 l = md_bs (md_em2 N R m l) (md_nl N)) (md_nl N) (by omega) ⟨h.base, tw_fc.rf t, fun l hl => absurd hl (Nat.not_lt_zero _)⟩ rfl ?_ ?_
  · rintro l g u hl ⟨hT, hc, h1⟩ hk
    rw [fm_laysWaits_L2]
    refine wp_bd (tt_links hT (wp_ifF (nI_ge hl (by omega)) (wp_bd (wp_st (j := l) rfl rfl (show l < 10 by omega) (by decide) ?_))))
    have hc2 : tw_fc u (u.1, u.2.1, va_up u.2.2.1 39 (upd (u.2.2.1 39) l 0), u.2.2.2) := tw_fc.w (Or.inl rfl)
    have hT2 := hT.fc hc2
    have hc3 := hc.tr hc2
    have z : ∀ i, (u.1, u.2.1, va_up u.2.2.1 39 (upd (u.2.2.1 39) l 0), u.2.2.2).2.2.1 39 i = upd (u.2.2.1 39) l 0 i := fun i => by dsimp only; rw [md_up_eq]
    generalize (u.1, u.2.1, va_up u.2.2.1 39 (upd (u.2.2.1 39) l 0), u.2.2.2) = v at hT2 hc3 z
    refine wp_for (J := fun i u => TT N u R cn cr co ns u ∧ tw_fc t u ∧ (∀ l', l' < l → u.2.2.1 39 l' = md_bs (md_em2 N R m l') (md_nl N)) ∧ ∀ n, n < 32 → (bt (u.2.2.1 39 l) n = true ↔ ∃ f, f < i ∧ md_nx N f l = n ∧ (m = true ∨ md_wt N R l f n = true))) (md_nf N) (by omega) ⟨hT2, hc3, fun l' hl' => by rw [z, upd_ne (by omega)]; exact h1 l' hl', fun n hn => by rw [z, upd_eq, b_0]; exact ⟨(fun q => by cases q), (fun q => absurd q.choose_spec.1 (Nat.not_lt_zero _))⟩⟩ rfl ?_ ?_
    · rintro f g' u hf ⟨hT, hc, h1, h2⟩ hk'
      have hx := md_nx_lt hN (l := l) hf
      rw [fm_laysWaits_L19]
      unfold fm_laysWaits_J69
      have same : ¬ (md_nx N f l < 99 ∧ (m = true ∨ md_wt N R l f (md_nx N f l) = true)) → wp (g' (nI f + 1)) V u := fun q => by
        refine hk' u ⟨hT, hc, h1, fun n hn => (h2 n hn).trans ⟨fun ⟨f', r1, r2⟩ => ⟨f', by omega, r2⟩, fun ⟨f', r1, r2, r3⟩ => ?_⟩⟩
        by_cases e : f' = f
        · subst e
          refine absurd ⟨?_, ?_⟩ q
          · omega
          · rw [r2]; exact r3
        · exact ⟨f', by omega, r2, r3⟩
      have add : md_nx N f l < 99 → (m = true ∨ md_wt N R l f (md_nx N f l) = true) → wp (fm_laysWaits_J56 (nI l) (nI (md_nx N f l)) g' (nI f)) V u := fun q1 q2 => by
        unfold fm_laysWaits_J56 fm_laysWaits_J69
        refine wp_bd (wp_ld (j := l) rfl rfl (show l < 10 by omega) (by decide) (wp_bd (wp_st (j := l) rfl rfl (show l < 10 by omega) (by decide) ?_)))
        rw [sh_1 _ (by omega)]
        have hc2 : tw_fc u (u.1, u.2.1, va_up u.2.2.1 39 (upd (u.2.2.1 39) l (u.2.2.1 39 l ||| nI (2 ^ md_nx N f l))), u.2.2.2) := tw_fc.w (Or.inl rfl)
        refine hk' _ ⟨hT.fc hc2, hc.tr hc2, fun l' hl' => ?_, fun n hn => ?_⟩
        · dsimp only; rw [md_up_eq, upd_ne (by omega)]; exact h1 l' hl'
        · dsimp only
          rw [md_up_eq, upd_eq, b_or, bt_pow _ (by omega) n hn, Bool.or_eq_true, h2 n hn, decide_eq_true_eq]
          constructor
          · rintro (⟨f', r1, r2⟩ | r)
            · exact ⟨f', by omega, r2⟩
            · exact ⟨f, by omega, r.symm, by rw [r]; exact q2⟩
          · rintro ⟨f', r1, r2, r3⟩
            by_cases e : f' = f
            · subst e; exact Or.inr r2.symm
            · exact Or.inl ⟨f', by omega, r2, r3⟩
      refine wp_bd (tt_flows hT (wp_ifF (nI_ge hf (by omega)) (wp_bd (tt_nx hN hT hf hl ?_))))
      by_cases e : md_nx N f l = 99
      · rw [e, md_ix, if_pos rfl]
        exact wp_ifT rfl (same (by omega))
      · rw [md_ix, if_neg e]
        refine wp_ifF (by rw [show (-1 : Int32) = -nI 1 from rfl]; exact nI_neg1 (by omega)) ?_
        cases m with
        | true => exact wp_ifF (by decide) (add (by omega) (Or.inl rfl))
        | false =>
          refine wp_ifT rfl (wp_bd (tt_wt hN hT hl hf (by omega) ?_))
          by_cases e2 : md_wt N R l f (md_nx N f l) = true
          · rw [e2]; exact wp_ifF (by decide) (add (by omega) (Or.inr e2))
          · rw [Bool.not_eq_true] at e2
            rw [e2]
            refine wp_ifT rfl (same ?_)
            rw [e2]
            rintro ⟨-, q | q⟩ <;> cases q
    · rintro g' u ⟨hT, hc, h1, h2⟩
      rw [fm_laysWaits_L19]
      refine wp_bd (tt_flows hT (wp_ifT (Int32.le_refl _) (hk u ⟨hT, hc, fun l' hl' => ?_⟩)))
      by_cases e : l' = l
      · subst e
        refine bs_of hL fun n hn => (h2 n hn).trans ?_
        unfold md_em2
        constructor
        · rintro ⟨f, r1, r2, r3⟩
          have hx := md_nx_lt hN (l := l') r1
          refine ⟨by omega, ?_⟩
          cases m with
          | true => exact md_ex_iff.mpr ⟨f, r1, decide_eq_true r2⟩
          | false =>
            refine md_ex_iff.mpr ⟨f, r1, ?_⟩
            rcases r3 with r3 | r3
            · cases r3
            · exact r3
        · rintro ⟨r1, r2⟩
          cases m with
          | true =>
            obtain ⟨f, r3, r4⟩ := md_ex_iff.mp r2
            exact ⟨f, r3, of_decide_eq_true r4, Or.inl rfl⟩
          | false =>
            obtain ⟨f, r3, r4⟩ := md_ex_iff.mp r2
            exact ⟨f, r3, (of_decide_eq_true r4).2.2.1, Or.inr r4⟩
      · exact h1 l' (by omega)
  · rintro g u ⟨hT, hc, h1⟩
    rw [fm_laysWaits_L2]
    exact wp_bd (tt_links hT (wp_ifT (Int32.le_refl _) (wp_rt (kk u hT hc h1))))
/-- the steps to a link -/
theorem tt_ls {ed : Nat → Nat → Bool} {to : Nat} (hN : md_ok N) (ht : to < md_nl N) (h : TT N t0 R cn cr co ns t) (ha : ∀ l, l < md_nl N → t.2.2.1 39 l = md_bs (ed l) (md_nl N))
    (kk : ∀ u, TT N u R cn cr co ns u → tw_fc t u → (∀ k, k ≠ 40 → u.2.2.1 k = t.2.2.1 k) → u.1 = t.1 → (∀ l, l < md_nl N → u.2.2.1 40 l = md_ix (md_ds ed (md_nl N) to (md_nl N) l) 99) → V () u) : wp (fm_laysSteps (nI to)) V t := by
  have hL := hN.nl
  have put : ∀ (u : TS) (l : Nat) (x : Int32), (TT N u R cn cr co ns u ∧ tw_fc t u ∧ (∀ k, k ≠ 40 → u.2.2.1 k = t.2.2.1 k) ∧ u.1 = t.1) → (TT N (u.1, u.2.1, va_up u.2.2.1 40 (upd (u.2.2.1 40) l x), u.2.2.2) R cn cr co ns (u.1, u.2.1, va_up u.2.2.1 40 (upd (u.2.2.1 40) l x), u.2.2.2) ∧ tw_fc t (u.1, u.2.1, va_up u.2.2.1 40 (upd (u.2.2.1 40) l x), u.2.2.2) ∧ (∀ k, k ≠ 40 → (u.1, u.2.1, va_up u.2.2.1 40 (upd (u.2.2.1 40) l x), u.2.2.2).2.2.1 k = t.2.2.1 k) ∧ (u.1, u.2.1, va_up u.2.2.1 40 (upd (u.2.2.1 40) l x), u.2.2.2).1 = t.1) := by
    intro u l x ⟨q1, q2, q3, q4⟩
    have hc2 : tw_fc u (u.1, u.2.1, va_up u.2.2.1 40 (upd (u.2.2.1 40) l x), u.2.2.2) := tw_fc.w (Or.inr (Or.inl rfl))
    exact ⟨q1.fc hc2, q2.tr hc2, fun k hk => by dsimp only; rw [md_up_ne hk]; exact q3 k hk, q4⟩
  unfold fm_laysSteps
  refine wp_for (J := fun i u => (TT N u R cn cr co ns u ∧ tw_fc t u ∧ (∀ k, k ≠ 40 → u.2.2.1 k = t.2.2.1 k) ∧ u.1 = t.1) ∧ ∀ l, l < i → u.2.2.1 40 l = -1) (md_nl N) (by omega) ⟨⟨h.base, tw_fc.rf t, fun _ _ => rfl, rfl⟩, fun l hl => absurd hl (Nat.not_lt_zero _)⟩ rfl ?_ ?_
  · rintro l g u hl ⟨hA, h1⟩ hk
    rw [fm_laysSteps_L2]
    refine wp_bd (tt_links hA.1 (wp_ifF (nI_ge hl (by omega)) (wp_bd (wp_st (j := l) rfl rfl (show l < 10 by omega) (by decide) (hk _ ⟨put u l _ hA, fun l' hl' => ?_⟩)))))
    dsimp only
    rw [md_up_eq]
    unfold upd
    split
    · rfl
    · exact h1 l' (by omega)
  rintro g u ⟨hA, h1⟩
  rw [fm_laysSteps_L2]
  refine wp_bd (tt_links hA.1 (wp_ifT (Int32.le_refl _) ?_))
  refine wp_wh1 (I := fun k x u => ∃ r, r + k = md_nl N ∧ x = nI (r + 1) ∧ (TT N u R cn cr co ns u ∧ tw_fc t u ∧ (∀ k, k ≠ 40 → u.2.2.1 k = t.2.2.1 k) ∧ u.1 = t.1) ∧ ∀ l, l < md_nl N → u.2.2.1 40 l = md_ix (md_ds ed (md_nl N) to r l) 99) (md_nl N) (by omega) ⟨0, Nat.zero_add _, rfl, hA, fun l hl => h1 l hl⟩ ?_
  rintro k g x u ⟨r, hr, rfl, hA, h1⟩ hk
  rw [fm_laysSteps_L25]
  by_cases er : r = md_nl N
  · refine wp_bd (tt_links hA.1 (wp_ifT (nI_lt (by omega) (by omega)) (wp_rt ?_)))
    rw [er] at h1
    exact kk u hA.1 hA.2.1 hA.2.2.1 hA.2.2.2 h1
  refine wp_bd (tt_links hA.1 (wp_ifF (nI_nlt (by omega) (by omega)) ?_))
  refine wp_for (J := fun i u => (TT N u R cn cr co ns u ∧ tw_fc t u ∧ (∀ k, k ≠ 40 → u.2.2.1 k = t.2.2.1 k) ∧ u.1 = t.1) ∧ ∀ l, l < md_nl N → u.2.2.1 40 l = md_ix (md_ds ed (md_nl N) to (if l < i then r + 1 else r) l) 99) (md_nl N) (by omega) ⟨hA, fun l hl => by rw [if_neg (Nat.not_lt_zero _)]; exact h1 l hl⟩ rfl ?_ ?_
  · rintro l g' u hl ⟨hA, h1⟩ hk'
    have hT := hA.1
    have hds := md_ds_le (ed := ed) (n := md_nl N) (to := to) (r := r) (a := l)
    rw [fm_laysSteps_L35]
    refine wp_bd (tt_links hT (wp_ifF (nI_ge hl (by omega)) (wp_bd (wp_ld (j := l) rfl rfl (show l < 10 by omega) (by decide) ?_))))
    rw [h1 l hl, if_neg (Nat.lt_irrefl l)]
    have keep : md_ds ed (md_nl N) to (r + 1) l = md_ds ed (md_nl N) to r l → wp (fm_laysSteps_J163 g' (nI l)) V u := fun e => by
      unfold fm_laysSteps_J163
      refine hk' u ⟨hA, fun l' hl' => ?_⟩
      rw [h1 l' hl']
      by_cases e2 : l' = l
      · rw [e2, if_neg (Nat.lt_irrefl l), if_pos (Nat.lt_succ_self l), e]
      · by_cases e3 : l' < l
        · rw [if_pos e3, if_pos (by omega)]
        · rw [if_neg e3, if_neg (by omega)]
    by_cases e : md_ds ed (md_nl N) to r l = 99
    · rw [e, md_ix, if_pos rfl]
      refine wp_ifT rfl ?_
      -- at the end of the search: whether it is reached
      have fin : ∀ q : Bool, q = md_dq ed (md_nl N) to r (md_ds ed (md_nl N) to r) l → wp (fm_laysSteps_J151 (md_bi q) g' (nI l) (nI (r + 1))) V u := fun q hq => by
        unfold fm_laysSteps_J151
        cases q with
        | false =>
          refine wp_ifT rfl (keep ?_)
          rw [md_ds, if_neg (by rw [← hq]; exact fun z => nomatch z.2)]
        | true =>
          refine wp_ifF (by decide) (wp_bd (wp_st (j := l) rfl rfl (show l < 10 by omega) (by decide) ?_))
          unfold fm_laysSteps_J163
          refine hk' _ ⟨put u l _ hA, fun l' hl' => ?_⟩
          dsimp only
          rw [md_up_eq]
          by_cases e2 : l' = l
          · rw [e2, upd_eq, if_pos (Nat.lt_succ_self l), md_ds, if_pos ⟨e, hq.symm⟩, md_ix, if_neg (by omega)]
          · rw [upd_ne e2, h1 l' hl']
            by_cases e3 : l' < l
            · rw [if_pos e3, if_pos (by omega)]
            · rw [if_neg e3, if_neg (by omega)]
      have look : u.2.2.1 39 l = md_bs (ed l) (md_nl N) := by rw [hA.2.2.1 39 (by decide)]; exact ha l hl
      by_cases e0 : r = 0
      · subst e0
        refine wp_ifT rfl (wp_bd (wp_ld (j := l) rfl rfl (show l < 10 by omega) (by decide) ?_))
        rw [look, bt_test _ (show to < 32 by omega), bt_bs hL (by omega), decide_eq_true ht, Bool.true_and]
        have go : ∀ q : Bool, q = ed l to → wp (fm_laysSteps_J80 g' (nI l) (nI (0 + 1)) (nI to) (md_bi q)) V u := fun q hq => by
          unfold fm_laysSteps_J80
          refine wp_un2 (n := 999999) ?_
          rw [fm_laysSteps_L85]
          refine wp_bd (tt_links hT (wp_if (fun _ => ?_) (fun _ => wp_ifT (by decide) ?_)))
          · exact fin q (by rw [md_dq, if_pos rfl]; exact hq)
          · exact fin q (by rw [md_dq, if_pos rfl]; exact hq)
        unfold fm_laysSteps_J79
        by_cases e4 : ed l to = true
        · rw [if_pos e4]
          exact wp_ifT rfl (go true e4.symm)
        · rw [if_neg e4]
          exact wp_ifF (by decide) (go false (by rw [Bool.not_eq_true] at e4; exact e4.symm))
      · refine wp_ifF (by rw [show (1 : Int32) = nI 1 from rfl, nI_eq (by omega) (by decide)]; omega) ?_
        unfold fm_laysSteps_J79 fm_laysSteps_J80
        have hno := md_ds_no (show 1 ≤ r by omega) e
        refine wp_forB (J := fun i w v => w = md_bi (md_ex (fun b => decide (md_ds ed (md_nl N) to r b = r) && ed l b) i) ∧ v = u) (md_nl N) (by omega) ⟨rfl, rfl⟩ rfl ?_ ?_
        · rintro b g'' w v hb ⟨rfl, rfl⟩ hk2
          rw [fm_laysSteps_L85]
          refine wp_bd (tt_links hT (wp_ifF (nI_ge hb (by omega)) (wp_ifF (nI_ge (a := 1) (by omega) (by omega)) ?_)))
          have nxt : md_ex (fun b => decide (md_ds ed (md_nl N) to r b = r) && ed l b) (b + 1) = (md_ex (fun b => decide (md_ds ed (md_nl N) to r b = r) && ed l b) b || (decide (md_ds ed (md_nl N) to r b = r) && ed l b)) := by
            rw [Bool.eq_iff_iff, Bool.or_eq_true, md_ex_iff, md_ex_iff]
            constructor
            · rintro ⟨i, hi, q⟩
              by_cases e5 : i = b
              · subst e5; exact Or.inr q
              · exact Or.inl ⟨i, by omega, q⟩
            · rintro (⟨i, hi, q⟩ | q)
              · exact ⟨i, by omega, q⟩
              · exact ⟨b, by omega, q⟩
          rw [nxt] at hk2
          cases hx : md_ex (fun b => decide (md_ds ed (md_nl N) to r b = r) && ed l b) b with
          | true =>
            rw [hx] at hk2
            refine wp_ifF (by decide) ?_
            unfold fm_laysSteps_J138 fm_laysSteps_J143
            exact hk2 _ _ ⟨rfl, rfl⟩
          | false =>
            rw [hx, Bool.false_or] at hk2
            have y0 : (decide (md_ds ed (md_nl N) to r b = r) && ed l b) = false → wp (fm_laysSteps_J142 g'' (nI b)) V v := fun q => by
              unfold fm_laysSteps_J142 fm_laysSteps_J143
              rw [q] at hk2
              exact hk2 _ _ ⟨rfl, rfl⟩
            refine wp_ifT rfl (wp_bd (wp_ld (j := l) rfl rfl (show l < 10 by omega) (by decide) ?_))
            rw [look, bt_test _ (show b < 32 by omega), bt_bs hL (by omega), decide_eq_true hb, Bool.true_and]
            cases he : ed l b with
            | false =>
              rw [show (if false = true then (1 : Int32) else 0) = 0 from rfl]
              refine wp_ifF (by decide) ?_
              exact y0 (by rw [he, Bool.and_false])
            | true =>
              rw [if_pos rfl]
              refine wp_ifT rfl ?_
              by_cases eb : b = to
              · subst eb; rw [hno] at he; cases he
              · refine wp_ifF (by rw [nI_eq (by omega) (by omega)]; exact eb) (wp_bd (wp_ld (j := b) rfl rfl (show b < 10 by omega) (by decide) ?_))
                rw [h1 b hb, nI_pred]
                have hb1 := md_ds_le (ed := ed) (n := md_nl N) (to := to) (r := r) (a := b)
                have hb2 := md_ds_le (ed := ed) (n := md_nl N) (to := to) (r := r + 1) (a := b)
                have mix : md_ds ed (md_nl N) to (if b < l then r + 1 else r) b = r ↔ md_ds ed (md_nl N) to r b = r := by
                  split
                  · by_cases e6 : md_ds ed (md_nl N) to r b = 99
                    · rw [md_ds, e6]
                      split <;> omega
                    · rw [md_ds_keep e6]
                  · exact Iff.rfl
                have hb3 : md_ds ed (md_nl N) to (if b < l then r + 1 else r) b = 99 ∨ md_ds ed (md_nl N) to (if b < l then r + 1 else r) b < 99 := by
                  split <;> omega
                by_cases e7 : md_ds ed (md_nl N) to r b = r
                · refine wp_ifT ((md_ix99 hb3 (by omega)).mpr (mix.mpr e7)) ?_
                  unfold fm_laysSteps_J138 fm_laysSteps_J143
                  rw [decide_eq_true e7, he] at hk2
                  exact hk2 _ _ ⟨rfl, rfl⟩
                · exact wp_ifF (fun q => e7 (mix.mp ((md_ix99 hb3 (by omega)).mp q))) (y0 (by rw [decide_eq_false e7]; rfl))
        · rintro g'' w v ⟨rfl, rfl⟩
          rw [fm_laysSteps_L85]
          exact wp_bd (tt_links hT (wp_ifT (Int32.le_refl _) (fin _ (by rw [md_dq, if_neg e0]))))
    · rw [md_ix, if_neg e]
      exact wp_ifF (by rw [show (-1 : Int32) = -nI 1 from rfl]; exact nI_neg1 (by omega)) (keep (md_ds_keep e))
  · rintro g' u ⟨hA, h1⟩
    rw [fm_laysSteps_L35]
    refine wp_bd (tt_links hA.1 (wp_ifT (Int32.le_refl _) ?_))
    refine hk (k - 1) _ u (by omega) ⟨r + 1, by omega, nI_1 (r + 1), hA, fun l hl => ?_⟩
    have := h1 l hl
    rw [if_pos hl] at this
    exact this
/-- which ones lie on cycles -/
theorem tt_cy {ed : Nat → Nat → Bool} (hN : md_ok N) (h : TT N t0 R cn cr co ns t) (ha : ∀ l, l < md_nl N → t.2.2.1 39 l = md_bs (ed l) (md_nl N))
    (kk : ∀ u, TT N u R cn cr co ns u → tw_fc t u → (∀ k, k ≠ 40 → u.2.2.1 k = t.2.2.1 k) → u.1 = t.1 → Q (md_cy ed (md_nl N)) u) : wp fm_inCyclesNow Q t := by
  have hL := hN.nl
  unfold fm_inCyclesNow
  refine wp_forB (J := fun i w u => w = md_bs (fun l => decide (md_ds ed (md_nl N) l (md_nl N) l ≠ 99)) i ∧ TT N u R cn cr co ns u ∧ tw_fc t u ∧ (∀ k, k ≠ 40 → u.2.2.1 k = t.2.2.1 k) ∧ u.1 = t.1) (md_nl N) (by omega) ⟨rfl, h.base, tw_fc.rf t, fun _ _ => rfl, rfl⟩ rfl ?_ ?_
  · rintro l g w u hl ⟨rfl, hT, hc, hA, h1⟩ hk
    rw [fm_inCyclesNow_L4]
    unfold fm_inCyclesNow_J33
    refine wp_bd (tt_links hT (wp_ifF (nI_ge hl (by omega)) (wp_bd (tt_ls (ed := ed) hN hl hT (fun l' hl' => by rw [hA 39 (by decide)]; exact ha l' hl') fun v hT2 hc2 hA2 h2 h3 => ?_))))
    refine wp_bd (wp_ld (j := l) rfl rfl (show l < 10 by omega) (by decide) ?_)
    rw [h3 l hl]
    have hds := md_ds_le (ed := ed) (n := md_nl N) (to := l) (r := md_nl N) (a := l)
    have hB : TT N v R cn cr co ns v ∧ tw_fc t v ∧ (∀ k, k ≠ 40 → v.2.2.1 k = t.2.2.1 k) ∧ v.1 = t.1 := ⟨hT2, hc.tr hc2, fun k hk => (hA2 k hk).trans (hA k hk), h2.trans h1⟩
    by_cases e : md_ds ed (md_nl N) l (md_nl N) l = 99
    · rw [e, md_ix, if_pos rfl]
      refine wp_ifT rfl (hk _ _ ⟨?_, hB⟩)
      rw [md_bs, if_neg (by rw [decide_eq_true_eq]; exact fun q => q e)]
    · rw [md_ix, if_neg e]
      refine wp_ifF (by rw [show (-1 : Int32) = -nI 1 from rfl]; exact nI_neg1 (by omega)) (hk _ _ ⟨?_, hB⟩)
      rw [md_bs, if_pos (by rw [decide_eq_true_eq]; exact e), sh_1 l (by omega)]
  · rintro g w u ⟨rfl, hT, hc, hA, h1⟩
    rw [fm_inCyclesNow_L4]
    exact wp_bd (tt_links hT (wp_ifT (Int32.le_refl _) (wp_rt (kk u hT hc hA h1))))
end Tc
