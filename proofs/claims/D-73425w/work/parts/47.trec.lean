/-! stages -/
theorem md_SS {R : Rw} {f k : Nat} {x y : Int32} : md_S (md_S R f k x) f k y = md_S R f k y := by
  unfold md_S md_u2
  dsimp only
  congr 2
  funext a b
  split
  · rfl
  · rfl
theorem nI_5lt {n : Nat} (hn : n < 2 ^ 31) (h : (5 : Int32) < nI n) : 5 < n := (nI_ltI (a := 5) (by decide) hn).mp h
theorem md_more_b {N : Nt} (hN : md_ok N) {a b : Int32} (hb : ∃ n, n ≤ 20001 ∧ b = nI n) : ∃ m, m ≤ 4000000 ∧ md_more N a b = nI m := by
  obtain ⟨n, hn, rfl⟩ := hb
  have h7 := hN.2.2.2.2.2.2.2.2.1
  have big : ∀ j, 5 < j → j ≤ 20001 → ∃ m, m ≤ 4000000 ∧ nI (N.1 7) * 2 * (nI j - 5) = nI m := by
    intro j h1 h2
    refine ⟨N.1 7 * 2 * (j - 5), ?_, ?_⟩
    · exact Nat.le_trans (Nat.mul_le_mul (show N.1 7 * 2 ≤ 198 by omega) (show j - 5 ≤ 20000 by omega)) (by decide)
    · rw [show (2 : Int32) = nI 2 from rfl, show (5 : Int32) = nI 5 from rfl, pk_sub (by omega), pk_mul, pk_mul]
  unfold md_more
  split
  · next hc =>
    have h5 := nI_5lt (by omega) hc.2
    unfold md_mn
    split
    · exact big n h5 hn
    · next hc2 =>
      obtain ⟨j, hj, rfl⟩ := nI_of (x := a) (fun q => by
        have h1 : (5 : Int32) < 0 := Int32.lt_trans hc.1 q
        exact absurd h1 (by decide))
      have h6 := (nI_leI (by omega) (by omega)).mp (i32_nlt.mp hc2)
      exact big j (nI_5lt hj hc.1) (by omega)
  · split
    · exact ⟨N.1 7, by omega, rfl⟩
    · exact ⟨0, by omega, rfl⟩
theorem md_mn_b {m : Nat} (h : m < 2 ^ 31) : ∃ n, n ≤ 1024 ∧ n ≤ m ∧ (1 ≤ m → 1 ≤ n) ∧ md_mn 1024 (nI m) = nI n := by
  unfold md_mn
  split
  · next hc => exact ⟨m, Nat.le_of_lt ((nI_ltI (b := 1024) h (by decide)).mp hc), Nat.le_refl _, fun h => h, rfl⟩
  · next hc => exact ⟨1024, Nat.le_refl _, (nI_leI (a := 1024) (by decide) h).mp (i32_nlt.mp hc), fun _ => by decide, rfl⟩
theorem md_cl_at {N : Nt} {f : Nat} {R : Rw} : (md_cl N f R).1 = R.1 ∧ (md_cl N f R).2.2 = R.2.2 ∧ (∀ a b, a ≠ f → (md_cl N f R).2.1 a b = R.2.1 a b) ∧ ∀ b, b ≠ 0 → b ≠ 1 → (md_cl N f R).2.1 f b = R.2.1 f b :=
  ⟨rfl, rfl, fun a b h => by rw [md_cl, md_Sf h, md_Sf h], fun b h0 h1 => by rw [md_cl, md_Sk h0, md_Sk h1]⟩
theorem md_cl_1 {N : Nt} (hN : md_ok N) {f : Nat} {R : Rw} (h1 : ∃ n, n ≤ 1024 ∧ R.2.1 f 1 = nI n) (h3 : ∃ n, n ≤ 20001 ∧ R.2.1 f 3 = nI n) : ∃ n, n ≤ 1024 ∧ (md_cl N f R).2.1 f 1 = nI n := by
  obtain ⟨a, ha, e1⟩ := h1
  obtain ⟨m, hm, e2⟩ := md_more_b hN (a := R.2.1 f 2) h3
  obtain ⟨n, hn, -, -, e3⟩ := md_mn_b (m := a + m) (by omega)
  refine ⟨n, hn, ?_⟩
  rw [md_cl, md_Sk (by decide), md_Se, e1, e2, nI_add, e3]
section TTrec
variable {N : Nt} {t0 t : TS} {R : Rw} {cn cr co : Nat → Int32} {ns : Ns} {Q : Int32 → TS → Prop} {P : Unit → TS → Prop} {l f k : Nat} {x : Int32}
theorem tt_cl (hN : md_ok N) (hf : f < 8) (h : TT N t0 R cn cr co ns t) (h1 : ∃ n, n ≤ 1024 ∧ R.2.1 f 1 = nI n) (h3 : ∃ n, n ≤ 20001 ∧ R.2.1 f 3 = nI n) (kk : ∀ u, TT N t0 (md_cl N f R) cn cr co ns u → P () u) : wp (fm_climbs (nI f)) P t := by
  obtain ⟨m, hm, em⟩ := md_more_b hN (a := R.2.1 f 2) h3
  obtain ⟨a, ha, ea⟩ := h1
  have fin : ∀ w, w = md_more N (R.2.1 f 2) (R.2.1 f 3) → wp (fm_climbs_J89 (240 + 12 * nI f) w) P t := by
    intro w hw
    unfold fm_climbs_J89
    refine wp_bd (tt_S (k := 1) h hf (by decide) ?_)
    refine wp_bd (tt_within ?_)
    rw [ea, hw, em, nI_add, md_wi_mn (by omega), ← nI_add, ← em, ← ea]
    refine wp_bd (tt_wS (k := 1) h hf (by decide) fun u hu => ?_)
    refine wp_bd (tt_S (k := 0) hu hf (by decide) ?_)
    refine wp_bd (tt_S (k := 1) hu hf (by decide) ?_)
    refine wp_bd (wp_nz (by decide) ?_)
    refine wp_bd (tt_wS (k := 0) hu hf (by decide) fun u hu => wp_rt (kk u ?_))
    rw [md_Se, md_Sk (by decide)] at hu
    exact hu
  unfold fm_climbs
  refine wp_bd (tt_flowAt ?_)
  refine wp_bd (tt_S (k := 2) h hf (by decide) ?_)
  refine wp_bd (tt_S3 h hf ?_)
  have j80 : ¬ (5 < R.2.1 f 2 ∧ 5 < R.2.1 f 3) → (5 < R.2.1 f 2 ∨ 5 < R.2.1 f 3) → wp (fm_climbs_J80 (240 + 12 * nI f)) P t := by
    intro q1 q2
    unfold fm_climbs_J80
    exact wp_bd (tt_num (k := 7) h (by decide) (fin _ (by rw [md_more, if_neg q1, if_pos q2])))
  have j69 : ¬ (5 < R.2.1 f 2 ∧ 5 < R.2.1 f 3) → wp (fm_climbs_J69 (R.2.1 f 2) (240 + 12 * nI f) (R.2.1 f 3)) P t := by
    intro q1
    unfold fm_climbs_J69
    refine wp_if (fun hc => j80 q1 (Or.inl hc)) (fun hc => wp_if (fun hc2 => fin _ ?_) (fun hc2 => j80 q1 (Or.inr (i32_nle.mp hc2))))
    rw [md_more, if_neg q1, if_neg (by rintro (q | q); exact hc q; exact i32_nlt.mpr hc2 q)]
  refine wp_if (fun hc => j69 fun q => i32_nlt.mpr hc q.1) (fun hc => wp_if (fun hc2 => j69 fun q => i32_nlt.mpr hc2 q.2) (fun hc2 => ?_))
  refine wp_bd (tt_num (k := 7) h (by decide) ?_)
  have hb := And.intro (i32_nle.mp hc) (i32_nle.mp hc2)
  unfold fm_climbs_J61
  refine wp_if (fun hc3 => fin _ ?_) (fun hc3 => fin _ ?_)
  · rw [md_more, if_pos hb, md_mn]
    by_cases e : R.2.1 f 3 < R.2.1 f 2
    · rw [if_pos e]
    · rw [if_neg e, Int32.le_antisymm hc3 (i32_nlt.mp e)]
  · rw [md_more, if_pos hb, md_mn, if_neg (fun q => hc3 (Int32.le_of_lt q))]
theorem md_wh_stop {N : Nt} {f k : Nat} {R : Rw} (h : R.2.1 f 9 < nI (N.1 5)) : md_wh N f k R = R := by
  cases k with
  | zero => rfl
  | succ k => rw [md_wh, if_pos h]
theorem tt_rec (hN : md_ok N) (hf : f < md_nf N) (h : TT N t0 R cn cr co ns t) (hon : ¬ R.2.1 f 7 = 0) (h1 : ∃ n, n ≤ 1024 ∧ R.2.1 f 1 = nI n) (h3 : ∃ n, n ≤ 20000 ∧ R.2.1 f 3 = nI n) (h9 : ∃ n, n ≤ 1000 ∧ R.2.1 f 9 = nI n) (h12 : ∃ n, n ≤ 64 ∧ R.2.1 f 12 = nI n) (hcr : cr (8 * md_pa N f 0 + f) = R.2.1 f 12)
    (kk : ∀ u, TT N t0 (md_rec N f R) cn cr co ns u → P () u) : wp (fm_recovers (nI f)) P t := by
  have hF := hN.nf
  have hf8 : f < 8 := by omega
  have hp := hN.pa hf (hN.ho hf).1
  have hL := hN.nl
  have h5 := hN.2.2.2.2.2.2.1
  have h6 := hN.2.2.2.2.2.2.2.1
  obtain ⟨a, ha, ea⟩ := h9
  obtain ⟨b, hb, eb⟩ := h12
  obtain ⟨c, hc, ec⟩ := h3
  unfold fm_recovers
  refine wp_bd (tt_flowAt ?_)
  refine wp_bd (tt_S (k := 9) h hf8 (by decide) ?_)
  refine wp_bd (tt_pa0 hN h hf ?_)
  refine wp_bd (tt_cr h (by omega) hf8 ?_)
  rw [hcr]
  refine wp_bd (tt_wS (k := 9) h hf8 (by decide) fun u hu => ?_)
  rw [md_rec, if_neg hon] at kk
  generalize hRf : md_wh N f 5000 (md_S R f 9 (R.2.1 f 9 + R.2.1 f 12)) = Rf at kk
  refine wp_wh0 (I := fun k u => ∃ (R' : Rw) (a : Nat), TT N t0 R' cn cr co ns u ∧ R'.2.1 f 9 = nI a ∧ a ≤ k ∧ k ≤ 5000 ∧ (∃ n, n ≤ 1024 ∧ R'.2.1 f 1 = nI n) ∧ R'.2.1 f 3 = nI c ∧ md_wh N f k R' = Rf) 5000 (by decide) ⟨_, a + b, hu, by rw [md_Se, ea, eb, nI_add], by omega, Nat.le_refl _, by rw [md_Sk (by decide)]; exact h1, by rw [md_Sk (by decide)]; exact ec, hRf⟩ ?_
  rintro k g u ⟨R', a', hu, e9, hak, hk5, e1, e3, hwh⟩ hk
  rw [fm_recovers_L35]
  refine wp_bd (tt_S (k := 9) hu hf8 (by decide) ?_)
  refine wp_bd (tt_num (k := 5) hu (by decide) ?_)
  by_cases hc9 : R'.2.1 f 9 < nI (N.1 5)
  · rw [md_wh_stop hc9] at hwh
    refine wp_ifT hc9 ?_
    refine wp_bd (tt_S (k := 10) hu hf8 (by decide) ?_)
    refine wp_bd (tt_wS (k := 10) hu hf8 (by decide) fun v hv => ?_)
    refine wp_bd (tt_S (k := 10) hv hf8 (by decide) ?_)
    rw [md_Se]
    refine wp_bd (tt_num (k := 6) hv (by decide) ?_)
    rw [← hwh, md_rb] at kk
    refine wp_if (fun hc6 => ?_) (fun hc6 => ?_)
    · rw [if_neg (i32_nlt.mpr hc6)] at kk
      refine wp_bd (tt_wS (k := 10) hv hf8 (by decide) fun v hv => ?_)
      rw [md_SS] at hv
      refine wp_bd (tt_S3 hv hf8 ?_)
      refine wp_bd (tt_wS3 hv hf8 fun v hv => ?_)
      rw [md_Sk (by decide)] at hv
      refine wp_bd (tt_cl hN hf8 hv ?_ ?_ fun v hv => wp_rt (kk v hv))
      · rw [md_Sk (by decide), md_Sk (by decide)]; exact e1
      · exact ⟨c + 1, by omega, by rw [md_Se, e3, nI_1]⟩
    · rw [if_pos (i32_nle.mp hc6)] at kk
      exact wp_rt (kk v hv)
  · refine wp_ifF hc9 ?_
    rw [e9] at hc9
    have hge := (nI_leI (by omega) (by omega)).mp (i32_nlt.mp hc9)
    obtain ⟨j, rfl⟩ : ∃ j, k = j + 1 := ⟨k - 1, by omega⟩
    rw [md_wh, if_neg (by rw [e9]; exact hc9)] at hwh
    refine wp_bd (tt_S (k := 9) hu hf8 (by decide) ?_)
    refine wp_bd (tt_num (k := 5) hu (by decide) ?_)
    refine wp_bd (tt_wS (k := 9) hu hf8 (by decide) fun v hv => ?_)
    refine wp_bd (tt_S (k := 2) hv hf8 (by decide) ?_)
    refine wp_bd (tt_wS (k := 2) hv hf8 (by decide) fun v hv => ?_)
    rw [md_Sk (by decide)] at hv
    have g1 : ∃ n, n ≤ 1024 ∧ (md_S (md_S R' f 9 (R'.2.1 f 9 - nI (N.1 5))) f 2 (R'.2.1 f 2 + 1)).2.1 f 1 = nI n := by rw [md_Sk (by decide), md_Sk (by decide)]; exact e1
    have g3 : (md_S (md_S R' f 9 (R'.2.1 f 9 - nI (N.1 5))) f 2 (R'.2.1 f 2 + 1)).2.1 f 3 = nI c := by rw [md_Sk (by decide), md_Sk (by decide)]; exact e3
    refine wp_bd (tt_cl hN hf8 hv g1 ⟨c, by omega, g3⟩ fun v hv => hk j v (by omega) ⟨_, a' - N.1 5, hv, ?_, by omega, by omega, md_cl_1 hN g1 ⟨c, by omega, g3⟩, ?_, hwh⟩)
    · rw [md_cl_at.2.2.2 9 (by decide) (by decide), md_Sk (by decide), md_Se, e9, pk_sub hge]
    · rw [md_cl_at.2.2.2 3 (by decide) (by decide)]; exact g3
end TTrec
