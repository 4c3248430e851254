section TTsmp
variable {N : Nt} {t0 t : TS} {R : Rw} {cn cr co : Nat → Int32} {ns : Ns} {Q : Int32 → TS → Prop} {P : Unit → TS → Prop} {l f k : Nat} {x : Int32}
theorem tt_fb (h : TT N t0 R cn cr co ns t) (hl : l < 10) (kk : Q (md_fb N R l) t) : wp (fm_feedbackOf (nI l)) Q t := by
  unfold fm_feedbackOf
  refine wp_bd (tt_queue h hl ?_)
  refine wp_bd (tt_num (k := 3) h (by decide) ?_)
  refine wp_bd (tt_num (k := 4) h (by decide) ?_)
  refine wp_bd (tt_E (k := 9) h hl (by decide) ?_)
  exact wp_rt kk
theorem md_dv (N : Nt) : nI (N.1 3) * ((1 : Int32) + (2 : Int32) * nI (N.1 4)) = nI (N.1 3 * (1 + 2 * N.1 4)) := by rw [show (2 : Int32) = nI 2 from rfl, show (1 : Int32) = nI 1 from rfl, pk_mul, nI_add, pk_mul]
theorem md_dvb {N : Nt} (hN : md_ok N) : 1 ≤ N.1 3 * (1 + 2 * N.1 4) ∧ N.1 3 * (1 + 2 * N.1 4) ≤ 4500 := by
  obtain ⟨-, -, -, -, h3, h4, -⟩ := hN
  refine ⟨Nat.mul_pos h3.1 (by omega), ?_⟩
  exact Nat.le_trans (Nat.mul_le_mul h3.2 (show 1 + 2 * N.1 4 ≤ 9 by omega)) (by decide)
theorem tt_no (hN : md_ok N) (h : TT N t0 R cn cr co ns t) (kk : Q (md_no N x) t) : wp (fm_noticeOf x) Q t := by
  unfold fm_noticeOf fm_noticeOf_J36
  unfold md_no at kk
  have hd := md_dvb hN
  refine wp_if (fun hc => ?_) (fun hc => ?_)
  · rw [if_pos hc] at kk
    refine wp_bd (tt_num (k := 3) h (by decide) ?_)
    refine wp_bd (tt_num (k := 4) h (by decide) ?_)
    refine wp_bd (wp_nz (by rw [md_dv]; exact nI_ne0 (by omega) (by omega)) ?_)
    exact wp_bd (tt_within (wp_rt kk))
  · rw [if_neg hc] at kk
    exact wp_rt kk
theorem md_s1_at {C : Nat → Nat → Int32} (i : Nat) : (∀ a b, b ≠ 8 → (md_it (md_s1 N C l) i (R, 99)).1.1 a b = R.1 a b) ∧ (md_it (md_s1 N C l) i (R, 99)).1.2 = R.2 ∧ ((md_it (md_s1 N C l) i (R, 99)).2 = 99 ∨ (md_it (md_s1 N C l) i (R, 99)).2 < i) := by
  induction i with
  | zero => exact ⟨fun _ _ _ => rfl, rfl, Or.inl rfl⟩
  | succ n ih =>
    obtain ⟨h1, h2, h3⟩ := ih
    refine ⟨fun a b hb => ?_, h2, ?_⟩
    · show (md_E _ l 8 _).1 a b = _
      rw [md_Ek hb]
      exact h1 a b hb
    · show (if _ then n else _) = 99 ∨ (if _ then n else _) < n + 1
      split
      · exact Or.inr (Nat.lt_succ_self n)
      · rcases h3 with h | h
        · exact Or.inl h
        · exact Or.inr (Nat.lt_succ_of_lt h)
theorem tt_push {m : Nat} {a b : Int32} (h : TT N t0 R cn cr co ns t) (hn : ns.1 < 80) (ha : a = nI m) (kk : ∀ u, TT N t0 R cn cr co (ns.1 + 1, va_up ns.2 ns.1 (m, b)) u → P () u) :
    wp (tw_bd (tw_gi 38) fun x41 => tw_bd (tw_st 36 x41 a) fun _ => tw_bd (tw_gi 38) fun x47 => tw_bd (tw_st 37 x47 b) fun _ => tw_bd (tw_gi 38) fun x53 => tw_bd (tw_pi 38 (x53 + (1 : Int32))) fun _ => tw_rt ()) P t := by
  obtain ⟨h1, h2, h3, h4, h5⟩ := h
  refine wp_bd (wp_gi (wp_bd (wp_st (j := ns.1) rfl h3.1 hn (by decide) (wp_bd (wp_gi (wp_bd (wp_st (j := ns.1) rfl h3.1 hn (by decide) (wp_bd (wp_gi (wp_bd (wp_pi (wp_rt (kk _ ?_)))))))))))))
  have e : ∀ (g g' : Nat → Int32) (k : Nat), k ≠ 36 → k ≠ 37 → va_up (va_up t.2.2.1 36 g) 37 g' k = t.2.2.1 k := fun g g' k hk hk' => by rw [md_up_ne hk', md_up_ne hk]
  refine ⟨?_, ?_, ⟨?_, fun i hi => ?_⟩, h4.kept fun k _ _ => e _ _ k (by omega) (by omega), fun k hk => ?_, h5.2.1, fun k hk hk2 => (e _ _ k (by omega) (by omega)).trans (h5.2.2.1 k hk hk2), h5.2.2.2⟩
  · dsimp only; rw [e _ _ 26 (by decide) (by decide)]; exact h1
  · dsimp only; rw [e _ _ 33 (by decide) (by decide), e _ _ 34 (by decide) (by decide), e _ _ 35 (by decide) (by decide)]; exact h2
  · dsimp only; rw [upd_eq, h3.1, nI_1]
  · dsimp only at hi ⊢
    rw [md_up_eq, md_up_ne (show 36 ≠ 37 by decide), md_up_eq, md_up_ne (show 37 ≠ 36 by decide)]
    by_cases e2 : i = ns.1
    · rw [e2, upd_eq, upd_eq, md_up_eq]
      exact ⟨ha, rfl⟩
    · rw [upd_ne e2, upd_ne e2, md_up_ne e2]
      exact h3.2 i (by omega)
  · dsimp only
    rw [upd_ne hk]
    exact h5.1 k hk
theorem tt_smp {C : Nat → Nat → Int32} (hN : md_ok N) (hl : l < md_nl N) (h : TT N t0 R cn cr co ns t) (hC : ∀ f, f < md_nf N → co (8 * l + f) = C l f) (hn : ns.1 < 80)
    (kk : ∀ u, TT N t0 (md_sm N C l (R, ns)).1 cn cr co (md_sm N C l (R, ns)).2 u → P () u) : wp (fm_samples (nI l)) P t := by
  have hF := hN.nf
  have hL := hN.nl
  unfold fm_samples
  refine wp_forB (J := fun i w u => w = md_ix (md_it (md_s1 N C l) i (R, 99)).2 99 ∧ TT N t0 (md_it (md_s1 N C l) i (R, 99)).1 cn cr co ns u) (md_nf N) (by omega) ⟨rfl, h⟩ rfl ?_ ?_
  · rintro f g w u hf ⟨rfl, hu⟩ hk
    have hat := (md_s1_at (N := N) (R := R) (C := C) (l := l) f).2.2
    rw [md_it] at hk
    generalize md_it (md_s1 N C l) f (R, 99) = y at hu hk hat
    rw [fm_samples_L10]
    unfold fm_samples_J69
    refine wp_bd (tt_flows hu (wp_ifF (nI_ge hf (by omega)) ?_))
    refine wp_bd (tt_E (k := 8) hu (by omega) (by decide) ?_)
    refine wp_bd (tt_co hu (by omega) (by omega) ?_)
    rw [hC f hf]
    refine wp_bd (tt_wE (k := 8) hu (by omega) (by decide) fun u hu => ?_)
    rw [md_s1] at hk
    dsimp only at hk
    by_cases e : y.2 = 99
    · rw [md_ix, if_pos e]
      refine wp_ifT rfl ?_
      refine wp_bd (tt_E (k := 8) hu (by omega) (by decide) ?_)
      rw [md_Ee]
      refine wp_bd (tt_num (k := 2) hu (by decide) ?_)
      refine wp_if (fun hc => hk _ _ ⟨?_, hu⟩) (fun hc => hk _ _ ⟨?_, hu⟩)
      · rw [if_neg (fun q => q.2 hc), md_ix, if_pos e]
      · rw [if_pos ⟨e, hc⟩, md_ix, if_neg (by omega)]
    · rw [md_ix, if_neg e]
      refine wp_ifF (nI_neg1 (by omega)) (hk _ _ ⟨?_, hu⟩)
      rw [if_neg (fun q => e q.1), md_ix, if_neg e]
  · rintro g w u ⟨rfl, hu⟩
    obtain ⟨a1, a2, a3⟩ := md_s1_at (N := N) (R := R) (C := C) (l := l) (md_nf N)
    rw [md_sm] at kk
    dsimp only at kk
    generalize md_it (md_s1 N C l) (md_nf N) (R, 99) = y at hu kk a1 a2 a3
    rw [fm_samples_L10]
    refine wp_bd (tt_flows hu (wp_ifT (Int32.le_refl _) ?_))
    by_cases e : y.2 = 99
    · rw [if_pos e] at kk
      rw [md_ix, if_pos e]
      exact wp_ifT rfl (wp_rt (kk _ hu))
    · rw [if_neg e] at kk
      rw [md_ix, if_neg e]
      have hq : md_q y.1 l = md_q R l := md_q_congr fun f _ => a1 l (15 + f) (by omega)
      have hfb : md_fb N (md_E y.1 l 8 (y.1.1 l 8 - y.1.1 l 8 / nI (N.1 2) * nI (N.1 2))) l = md_fb N R l := by
        unfold md_fb
        rw [md_q_congr (R := y.1) (fun f _ => md_Ek (by omega)), md_Ek (by decide), hq, a1 l 9 (by decide)]
      have hnum := hN.2.2.2.1
      refine wp_ifF (nI_neg1 (by omega)) ?_
      refine wp_bd (tt_E (k := 8) hu (by omega) (by decide) ?_)
      refine wp_bd (tt_num (k := 2) hu (by decide) ?_)
      refine wp_bd (wp_nz (nI_ne0 (by omega) (by omega)) ?_)
      refine wp_bd (tt_wE (k := 8) hu (by omega) (by decide) fun u hu => ?_)
      refine wp_bd (tt_fb hu (by omega) ?_)
      rw [hfb]
      refine wp_bd (tt_no hN hu ?_)
      refine wp_bd (tt_E (k := 5) hu (by omega) (by decide) ?_)
      refine wp_bd (tt_wE (k := 5) hu (by omega) (by decide) fun u hu => ?_)
      refine wp_bd (tt_queue hu (by omega) ?_)
      refine wp_bd (tt_wE (k := 9) hu (by omega) (by decide) fun u hu => ?_)
      rw [md_Ek (show 5 ≠ 8 by decide), md_q_congr (R := y.1) (fun f _ => by rw [md_Ek (by omega), md_Ek (by omega)])] at hu
      by_cases e0 : md_no N (md_fb N R l) = 0
      · rw [if_pos e0] at kk
        exact wp_ifT e0 (wp_rt (kk _ hu))
      · rw [if_neg e0] at kk
        refine wp_ifF e0 ?_
        refine wp_bd (tt_E (k := 6) hu (by omega) (by decide) ?_)
        refine wp_bd (tt_wE (k := 6) hu (by omega) (by decide) fun u hu => ?_)
        rw [md_Ek (show 6 ≠ 9 by decide), md_Ek (show 6 ≠ 5 by decide), md_Ek (show 6 ≠ 8 by decide), a1 l 6 (by decide)] at hu
        exact tt_push hu hn rfl fun u hu => kk _ hu
/-- notices -/
theorem tt_cut (h : TT N t0 R cn cr co ns t) (hn : ns.1 ≤ 80) (hf : ∀ i, i < ns.1 → (ns.2 i).1 < 8) (kk : ∀ u, TT N t0 (md_it (fun k => md_cut (ns.2 k).1 (ns.2 k).2) ns.1 R) cn cr co ns u → P () u) : wp fm_takesNotices P t := by
  unfold fm_takesNotices
  refine wp_for (J := fun i u => TT N t0 (md_it (fun k => md_cut (ns.2 k).1 (ns.2 k).2) i R) cn cr co ns u) ns.1 (by omega) h rfl ?_ ?_
  · rintro i g u hi hu hk
    have hf' := hf i hi
    obtain ⟨n1, n2⟩ := hu.2.2.1.2 i hi
    rw [md_it] at hk
    generalize md_it (fun k => md_cut (ns.2 k).1 (ns.2 k).2) i R = R' at hu hk
    rw [fm_takesNotices_L2]
    refine wp_bd (wp_gi ?_)
    rw [hu.2.2.1.1]
    refine wp_ifF (nI_ge hi (by omega)) ?_
    refine wp_bd (wp_ld (j := i) rfl rfl (show i < 80 by omega) (by decide) ?_)
    rw [n1]
    refine wp_bd (tt_flowAt ?_)
    refine wp_bd (tt_S (k := 6) hu hf' (by decide) ?_)
    refine wp_bd (tt_wS (k := 6) hu hf' (by decide) fun v hv => ?_)
    refine wp_bd (tt_S (k := 0) hv hf' (by decide) ?_)
    refine wp_bd (tt_wS (k := 1) hv hf' (by decide) fun v hv => ?_)
    refine wp_bd (tt_S (k := 0) hv hf' (by decide) ?_)
    refine wp_bd (tt_S (k := 0) hv hf' (by decide) ?_)
    obtain ⟨m1, m2⟩ := hv.2.2.1.2 i hi
    refine wp_bd (wp_ld (j := i) rfl rfl (show i < 80 by omega) (by decide) ?_)
    rw [m2]
    refine wp_bd (wp_nz (by decide) ?_)
    rw [md_Sk (show 0 ≠ 6 by decide)] at hv
    rw [md_Sk (show 0 ≠ 1 by decide), md_Sk (show 0 ≠ 6 by decide)]
    have fin : ∀ w : Int32, w = md_mx 1 (R'.2.1 (ns.2 i).1 0 - R'.2.1 (ns.2 i).1 0 * (ns.2 i).2 / 128) → wp (fm_takesNotices_J95 (240 + 12 * nI (ns.2 i).1) g (nI i) w) P v := by
      intro w hw
      unfold fm_takesNotices_J95
      refine wp_bd (tt_wS (k := 0) hv hf' (by decide) fun v hv => ?_)
      refine wp_bd (tt_wS (k := 2) hv hf' (by decide) fun v hv => ?_)
      refine wp_bd (tt_wS3 hv hf' fun v hv => ?_)
      refine wp_bd (tt_wS (k := 9) hv hf' (by decide) fun v hv => ?_)
      refine wp_bd (tt_wS (k := 10) hv hf' (by decide) fun v hv => ?_)
      rw [hw] at hv
      exact hk _ hv
    refine wp_if (fun hc => fin _ ?_) (fun hc => fin _ ?_)
    · rw [md_mx]
      by_cases e : 1 < R'.2.1 (ns.2 i).1 0 - R'.2.1 (ns.2 i).1 0 * (ns.2 i).2 / 128
      · rw [if_pos e]
      · rw [if_neg e]
        exact Int32.le_antisymm (i32_nlt.mp e) hc
    · rw [md_mx, if_neg (fun q => hc (Int32.le_of_lt q))]
  · rintro g u hu
    rw [fm_takesNotices_L2]
    refine wp_bd (wp_gi ?_)
    rw [hu.2.2.1.1]
    exact wp_ifT (Int32.le_refl _) (wp_rt (kk u hu))
end TTsmp
