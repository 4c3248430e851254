/-! a tick keeps the law of a row -/
theorem md_t5_iv {N : Nt} {m : Nat} {R : Rw} (hN : md_ok N) (h : md_iv N m R) (hm : m ≤ 20000) : (∀ a, a < md_nl N → md_il (64 * (m + 1)) ((md_t5 N R).1.1 a)) ∧ (md_t5 N R).1.2 = (md_t3 N R).2 ∧ (∀ a, (md_t5 N R).1.1 a 3 = (md_t3 N R).1 a 3) ∧ md_in N (md_t5 N R).2 ∧ (md_t5 N R).2.1 ≤ 10 := by
  obtain ⟨h1, h2, h3, h4, h5, h6⟩ := md_t3_iv hN h hm
  obtain ⟨a1, a2, a3⟩ := md_t4_at h2
  obtain ⟨b1, b2, b3, b4, b5⟩ := md_t5_at hN (Nat.le_refl _) a1 (X := md_t5 N R) rfl
  have := hN.nl
  exact ⟨b1, b2.trans a2, fun a => (b3 a).trans (a3 a), b4, by omega⟩
theorem md_t6_iv {N : Nt} {m : Nat} {R : Rw} (hN : md_ok N) (h : md_iv N m R) (hm : m ≤ 20000) : (md_t6 N R).1 = (md_t5 N R).1.1 ∧ (md_t6 N R).2.2 = nI m ∧ (∀ f, f < md_nf N → md_if m ((md_t6 N R).2.1 f) ∧ (md_t6 N R).2.1 f 12 = md_tg N R (md_pa N f 0) f) ∧ ∀ b k, k = 4 ∨ k = 5 ∨ k = 7 ∨ k = 8 ∨ 10 < k → (md_t6 N R).2.1 b k = (md_t3 N R).2.1 b k := by
  obtain ⟨h1, h2, h3, h4, h5, h6⟩ := md_t3_iv hN h hm
  obtain ⟨b1, b2, b3, b4, b5⟩ := md_t5_iv hN h hm
  unfold md_t6
  have key : ∀ n, n ≤ (md_t5 N R).2.1 → (md_it (fun k => md_cut ((md_t5 N R).2.2 k).1 ((md_t5 N R).2.2 k).2) n (md_t5 N R).1).1 = (md_t5 N R).1.1 ∧ (md_it (fun k => md_cut ((md_t5 N R).2.2 k).1 ((md_t5 N R).2.2 k).2) n (md_t5 N R).1).2.2 = nI m ∧ (∀ f, f < md_nf N → md_if m ((md_it (fun k => md_cut ((md_t5 N R).2.2 k).1 ((md_t5 N R).2.2 k).2) n (md_t5 N R).1).2.1 f)) ∧ ∀ b k, k = 4 ∨ k = 5 ∨ k = 7 ∨ k = 8 ∨ 10 < k → (md_it (fun k => md_cut ((md_t5 N R).2.2 k).1 ((md_t5 N R).2.2 k).2) n (md_t5 N R).1).2.1 b k = (md_t3 N R).2.1 b k := by
    intro n hn
    induction n with
    | zero => exact ⟨rfl, (congrArg Prod.snd b2).trans h1, fun f hf => by show md_if m ((md_t5 N R).1.2.1 f); rw [b2]; exact h3 f hf, fun b k _ => congrFun (congrFun (congrArg Prod.fst b2) b) k⟩
    | succ n ih =>
      obtain ⟨i1, i2, i3, i4⟩ := ih (by omega)
      rw [md_it]
      generalize md_it (fun k => md_cut ((md_t5 N R).2.2 k).1 ((md_t5 N R).2.2 k).2) n (md_t5 N R).1 = X at i1 i2 i3 i4
      obtain ⟨c1, c2, c3, c4⟩ := md_cut_o (f := ((md_t5 N R).2.2 n).1) (b := ((md_t5 N R).2.2 n).2) (R := X)
      obtain ⟨g1, b', hb', eb⟩ := b4 n (by omega)
      refine ⟨c1.trans i1, c2.trans i2, fun f hf => md_cut_if eb hb' (i3 f hf), fun b k hk => ?_⟩
      by_cases e : b = ((md_t5 N R).2.2 n).1
      · rw [e, c4 k hk, i4 _ k hk]
      · rw [c3 b k e, i4 b k hk]
  obtain ⟨i1, i2, i3, i4⟩ := key _ (Nat.le_refl _)
  exact ⟨i1, i2, fun f hf => ⟨i3 f hf, by rw [i4 f 12 (by omega)]; exact h5 f hf⟩, i4⟩
theorem md_t7_n {N : Nt} {m : Nat} {R : Rw} (hN : md_ok N) (h : md_iv N m R) (hm : m ≤ 20000) (n : Nat) (hn : n ≤ md_nf N) : (md_it (md_rec N) n (md_t6 N R)).1 = (md_t5 N R).1.1 ∧ (md_it (md_rec N) n (md_t6 N R)).2.2 = nI m ∧ (∀ f, f < n → md_if (m + 1) ((md_it (md_rec N) n (md_t6 N R)).2.1 f)) ∧ (∀ f k, n ≤ f → (md_it (md_rec N) n (md_t6 N R)).2.1 f k = (md_t6 N R).2.1 f k) ∧ ∀ b k, 10 < k → (md_it (md_rec N) n (md_t6 N R)).2.1 b k = (md_t6 N R).2.1 b k := by
  obtain ⟨h1, h2, h3, h4⟩ := md_t6_iv hN h hm
  induction n with
  | zero => exact ⟨h1, h2, fun f hf => absurd hf (Nat.not_lt_zero _), fun _ _ _ => rfl, fun _ _ _ => rfl⟩
  | succ n ih =>
    obtain ⟨i1, i2, i3, i4, i5⟩ := ih (by omega)
    rw [md_it]
    generalize md_it (md_rec N) n (md_t6 N R) = X at i1 i2 i3 i4 i5
    have e : X.2.1 n = (md_t6 N R).2.1 n := funext fun k => i4 n k (Nat.le_refl _)
    obtain ⟨q1, q2⟩ := h3 n (by omega)
    have hp := hN.pa (show n < md_nf N by omega) (hN.ho (by omega)).1
    obtain ⟨c, g1, g2, -, -⟩ := md_tg_b hN h hp
    have g3 : c n ≤ md_sn c (md_nf N) := md_sn_le (by omega)
    obtain ⟨r1, r2, r3, r4, r5⟩ := md_rec_at hN (f := n) (R := X) (d := c n) hm (by rw [e]; exact q1) (by rw [e, q2, g1]) (by omega)
    refine ⟨r2.trans i1, r3.trans i2, fun f hf => ?_, fun f k hf => ?_, fun b k hk => ?_⟩
    · by_cases e2 : f = n
      · rw [e2]; exact r1
      · have : (md_rec N n X).2.1 f = X.2.1 f := funext fun k => r4 f k e2
        rw [this]; exact i3 f (by omega)
    · rw [r4 f k (by omega), i4 f k (by omega)]
    · by_cases e2 : b = n
      · rw [e2, r5 k hk, i5 n k hk]
      · rw [r4 b k e2, i5 b k hk]
theorem md_iv.tk {N : Nt} {m : Nat} {R : Rw} (hN : md_ok N) (h : md_iv N m R) (hm : m ≤ 20000) : md_iv N (m + 1) (md_tk N R) := by
  obtain ⟨h1, h2, h3, h4, h5, h6⟩ := md_t3_iv hN h hm
  obtain ⟨b1, b2, b3, b4, b5⟩ := md_t5_iv hN h hm
  obtain ⟨c1, c2, c3, c4⟩ := md_t6_iv hN h hm
  obtain ⟨d1, d2, d3, d4, d5⟩ := md_t7_n hN h hm (md_nf N) (Nat.le_refl _)
  refine ⟨?_, fun l hl => ?_, fun f hf => d3 f hf, ?_⟩
  · show R.2.2 + 1 = _
    rw [h.1, nI_1]
  · show md_il (64 * (m + 1)) ((md_t7 N R).1 l)
    rw [show (md_t7 N R).1 = (md_t5 N R).1.1 from d1]
    exact b1 l hl
  · show md_sum (fun l => (md_t7 N R).1 l 3) (md_nl N) = md_sum (fun f => (md_t7 N R).2.1 f 11) (md_nf N)
    rw [show (md_t7 N R).1 = (md_t5 N R).1.1 from d1, md_sum_congr fun l _ => b3 l, h4]
    exact md_sum_congr fun f _ => ((d5 f 11 (by decide)).trans (c4 f 11 (by decide))).symm
theorem md_iv.is {N : Nt} {m : Nat} {R : Rw} (h : md_iv N m R) (hm : m ≤ 20000) : md_is N R := fun f hf => by
  obtain ⟨h7, h8, h0, ⟨a, ha1, ha, ea⟩, ⟨c, hc, h3⟩, h9⟩ := h.2.2.1 f hf
  exact ⟨h7, h8, h0, ⟨a, ha, ea⟩, ⟨c, by omega, h3⟩, h9⟩
/-! the twin's tick -/
theorem md_ca_0 {a : Nat → Int32} {R : Rw} : md_ca a 0 R = R := by
  unfold md_ca
  congr 1
  funext l k
  rw [if_neg (by omega)]
theorem md_ca_s {a : Nat → Int32} {n : Nat} {R : Rw} : md_E (md_ca a n R) n 7 (a n) = md_ca a (n + 1) R := by
  unfold md_E md_ca md_u2
  dsimp only
  congr 1
  funext l k
  grind
theorem md_gv_congr {N : Nt} {R R' : Rw} {rd : Nat → Int32} {l : Nat} (h : R'.1 l (10 + N.2.1 l 2) = R.1 l (10 + N.2.1 l 2)) : md_gv N R' rd l = md_gv N R rd l := by
  unfold md_gv
  rw [h]
section TTall
variable {N : Nt} {t0 t : TS} {R : Rw} {cn cr co : Nat → Int32} {ns : Ns} {P : Unit → TS → Prop}
theorem TT.z38 {g : Nat → Nat × Int32} (h : TT N t0 R cn cr co ns t) : TT N t0 R cn cr co (0, g) (upd t.1 38 0, t.2) := by
  obtain ⟨h1, h2, h3, h4, h5⟩ := h
  refine ⟨h1, h2, ⟨?_, fun i hi => absurd hi (Nat.not_lt_zero _)⟩, h4, fun k hk => ?_, h5.2⟩
  · dsimp only; rw [upd_eq]; rfl
  · dsimp only; rw [upd_ne hk]; exact h5.1 k hk
theorem tt_tick {m : Nat} (hN : md_ok N) (hI : md_iv N m R) (hm : m ≤ 20000) (h : TT N t0 R cn cr co ns t) (kk : ∀ u cn cr co ns, TT N t0 (md_tk N R) cn cr co ns u → (∀ l f, l < md_nl N → f < md_nf N → co (8 * l + f) = md_tc N R l f) → P () u) : wp fm_tickGoes P t := by
  have hF := hN.nf
  have hL := hN.nl
  refine tt_t1 hN (hI.is hm) h fun u hu => wp_bd (tt_can hN hu fun u cn cr co hu hd => ?_)
  refine wp_for (J := fun i u => ∃ cr', TT N t0 (md_ca (md_ta N R) i (md_t1 N R)) cn cr' co ns u ∧ (∀ l f, l < i → f < md_nf N → cr' (8 * l + f) = md_tg N R l f) ∧ (∀ l f, i ≤ l → l < md_nl N → f < md_nf N → cr' (8 * l + f) = 0)) (md_nl N) (by omega) ⟨cr, by rw [md_ca_0]; exact hu, fun l f hl => absurd hl (Nat.not_lt_zero _), fun l f _ hl hf => (hd l f hl hf).2.1⟩ rfl ?_ ?_
  · rintro l g u hl ⟨cr', hu, q1, q2⟩ hk
    rw [fm_tickGoes_L69]
    refine wp_bd (tt_links hu (wp_ifF (nI_ge hl (by omega)) ?_))
    refine wp_bd (tt_car (rd := fun f => md_rdy N (md_t1 N R) l f) hN hl hu (fun f hf => (hd l f hl hf).1) (fun f hf => q2 l f (Nat.le_refl _) hl hf) fun u cr'' hu r1 r2 => hk u ⟨cr'', ?_, fun a f ha hf => ?_, fun a f ha hal hf => ?_⟩)
    · rw [md_gv_congr (R := md_t1 N R) ((md_ca_at (N := N)).1 l _ (by omega))] at hu
      rw [← md_ca_s]
      exact hu
    · by_cases e : a = l
      · rw [e, r1 f hf, md_gv_congr (R := md_t1 N R) ((md_ca_at (N := N)).1 l _ (by omega))]
        rfl
      · rw [r2 a f e hf]; exact q1 a f (by omega) hf
    · rw [r2 a f (by omega) hf]; exact q2 a f (by omega) hal hf
  rintro g u ⟨cr', hu, hcr, -⟩
  rw [fm_tickGoes_L69]
  refine wp_bd (tt_links hu (wp_ifT (Int32.le_refl _) ?_))
  refine wp_bd (tt_off (G := md_tg N R) hN hu hcr (fun l f hl hf hz => md_tg_z hN hI hl hf hz) fun u hu => ?_)
  have hu : TT N t0 (md_t2 N R) cn cr' co ns u := hu
  refine wp_bd (wp_pi ?_)
  have hu := hu.z38 (g := fun _ => (0, 0))
  -- what comes
  refine wp_for (J := fun i u => ∃ co', TT N t0 (md_it (md_cs N (md_tg N R)) i (md_t2 N R)) cn cr' co' (0, fun _ => (0, 0)) u ∧ (∀ l f, l < i → f < md_nf N → co' (8 * l + f) = md_tc N R l f) ∧ (∀ l f, i ≤ l → l < md_nl N → f < md_nf N → co' (8 * l + f) = 0)) (md_nl N) (by omega) ⟨co, hu, fun l f hl => absurd hl (Nat.not_lt_zero _), fun l f _ hl hf => (hd l f hl hf).2.2⟩ rfl ?_ ?_
  · rintro l g u hl ⟨co', hu, q1, q2⟩ hk
    rw [fm_tickGoes_L99]
    refine wp_bd (tt_links hu (wp_ifF (nI_ge hl (by omega)) ?_))
    obtain ⟨c, g1, g2, -, -⟩ := md_tg_b hN hI hl
    refine wp_bd (tt_cms (G := md_tg N R) hN hl hu (fun f hf => hcr l f hl hf) (fun f hf hz => md_tg_z hN hI hl hf hz) (fun f hf => ⟨c f, by have := md_sn_le (c := c) hf; omega, g1 f⟩) (fun f hf => q2 l f (Nat.le_refl _) hl hf) fun u co'' hu r1 r2 => hk u ⟨co'', hu, fun a f ha hf => ?_, fun a f ha hal hf => ?_⟩)
    · by_cases e : a = l
      · rw [e, r1 f hf]; rfl
      · rw [r2 a f e hf]; exact q1 a f (by omega) hf
    · rw [r2 a f (by omega) hf]; exact q2 a f (by omega) hal hf
  rintro g u ⟨co', hu, hco, -⟩
  rw [fm_tickGoes_L99]
  refine wp_bd (tt_links hu (wp_ifT (Int32.le_refl _) ?_))
  have hu : TT N t0 (md_t3 N R) cn cr' co' (0, fun _ => (0, 0)) u := hu
  -- asks
  refine wp_for (J := fun i u => TT N t0 (md_it md_ask i (md_t3 N R)) cn cr' co' (0, fun _ => (0, 0)) u) (md_nl N) (by omega) hu rfl ?_ ?_
  · rintro l g u hl hu hk
    rw [fm_tickGoes_L120]
    refine wp_bd (tt_links hu (wp_ifF (nI_ge hl (by omega)) ?_))
    exact wp_bd (tt_asks hu (by omega) fun u hu => hk u hu)
  rintro g u hu
  rw [fm_tickGoes_L120]
  refine wp_bd (tt_links hu (wp_ifT (Int32.le_refl _) ?_))
  have hu : TT N t0 (md_t4 N R) cn cr' co' (0, fun _ => (0, 0)) u := hu
  -- samples
  obtain ⟨a1, a2, a3⟩ := md_t4_at (md_t3_iv hN hI hm).2.1
  refine wp_for (J := fun i u => TT N t0 (md_it (md_sm N (md_tc N R)) i (md_t4 N R, (0, fun _ => (0, 0)))).1 cn cr' co' (md_it (md_sm N (md_tc N R)) i (md_t4 N R, (0, fun _ => (0, 0)))).2 u) (md_nl N) (by omega) hu rfl ?_ ?_
  · rintro l g u hl hu hk
    rw [fm_tickGoes_L141]
    have hn := (md_t5_at hN (n := l) (by omega) a1 rfl).2.2.2.2
    refine wp_bd (tt_links hu (wp_ifF (nI_ge hl (by omega)) ?_))
    exact wp_bd (tt_smp (C := md_tc N R) hN hl hu (fun f hf => hco l f hl hf) (by omega) fun u hu => hk u hu)
  rintro g u hu
  rw [fm_tickGoes_L141]
  refine wp_bd (tt_links hu (wp_ifT (Int32.le_refl _) ?_))
  have hu : TT N t0 (md_t5 N R).1 cn cr' co' (md_t5 N R).2 u := hu
  obtain ⟨b1, b2, b3, b4, b5⟩ := md_t5_iv hN hI hm
  refine wp_bd (tt_cut hu (by omega) (fun i hi => by have := (b4 i hi).1; omega) fun u hu => ?_)
  have hu : TT N t0 (md_t6 N R) cn cr' co' (md_t5 N R).2 u := hu
  obtain ⟨c1, c2, c3, c4⟩ := md_t6_iv hN hI hm
  -- stages
  refine wp_for (J := fun i u => TT N t0 (md_it (md_rec N) i (md_t6 N R)) cn cr' co' (md_t5 N R).2 u) (md_nf N) (by omega) hu rfl ?_ ?_
  · rintro f g u hf hu hk
    obtain ⟨d1, d2, d3, d4, d5⟩ := md_t7_n hN hI hm f (by omega)
    rw [md_it] at hk
    generalize md_it (md_rec N) f (md_t6 N R) = X at hu hk d1 d2 d3 d4 d5
    obtain ⟨⟨e7, e8, e0, ⟨n1, hn1, hn1', e1⟩, ⟨n3, hn3, e3⟩, e9⟩, e12⟩ := c3 f hf
    rw [fm_tickGoes_L166]
    unfold fm_tickGoes_J187
    refine wp_bd (tt_flows hu (wp_ifF (nI_ge hf (by omega)) ?_))
    refine wp_bd (tt_isOn hu (by omega) ?_)
    rw [d4 f 7 (Nat.le_refl _)]
    have hp := hN.pa hf (hN.ho hf).1
    obtain ⟨c, g1, g2, -, -⟩ := md_tg_b hN hI hp
    have g3 : c f ≤ md_sn c (md_nf N) := md_sn_le hf
    rcases e7 with h0 | h0
    · rw [h0]
      refine wp_ifT (by decide) (hk u ?_)
      rw [md_rec, if_pos (by rw [d4 f 7 (Nat.le_refl _)]; exact h0)]
      exact hu
    · rw [h0]
      refine wp_ifF (by decide) ?_
      refine wp_bd (tt_rec hN hf hu (by rw [d4 f 7 (Nat.le_refl _), h0]; decide) ⟨n1, hn1', by rw [d4 f 1 (Nat.le_refl _)]; exact e1⟩ ⟨n3, by omega, by rw [d4 f 3 (Nat.le_refl _)]; exact e3⟩ (by rw [d4 f 9 (Nat.le_refl _)]; exact e9) ⟨c f, by omega, by rw [d4 f 12 (Nat.le_refl _), e12, g1]⟩ (by rw [d4 f 12 (Nat.le_refl _), e12]; exact hcr _ f hp hf) fun u hu => hk u hu)
  rintro g u hu
  rw [fm_tickGoes_L166]
  refine wp_bd (tt_flows hu (wp_ifT (Int32.le_refl _) ?_))
  refine wp_bd (tt_T hu ?_)
  refine wp_bd (tt_wT hu fun u hu => wp_rt (kk u cn cr' co' (md_t5 N R).2 ?_ hco))
  rw [(md_t7_n hN hI hm (md_nf N) (Nat.le_refl _)).2.1, ← hI.1] at hu
  exact hu
end TTall
