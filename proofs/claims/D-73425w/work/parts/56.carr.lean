/-! what comes, samples -/
theorem md_its_c {m n : Int32} : (if m < n then m else n) = md_mn m n := by
  unfold md_mn
  by_cases h1 : m < n
  · rw [if_pos h1, if_neg (fun q => Int32.lt_irrefl (Int32.lt_trans h1 q))]
  · rw [if_neg h1]
    by_cases h2 : n < m
    · rw [if_pos h2]
    · rw [if_neg h2]
      exact Int32.le_antisymm (i32_nlt.mp h1) (i32_nlt.mp h2)
theorem md_fb_b {N : Nt} {m l : Nat} {R : Rw} (hN : md_ok N) (h : md_il m (R.1 l)) : ∃ a b, a ≤ 10000 ∧ b ≤ 10000 ∧ md_fb N R l = nI a - nI b := by
  obtain ⟨s, hs, es⟩ := h.q
  obtain ⟨-, -, ⟨p, hp, ep⟩, -⟩ := h
  obtain ⟨-, -, -, -, h3, h4, -⟩ := hN
  unfold md_fb
  rw [es, ep]
  rcases Nat.lt_or_ge s p with q | q
  · have hw : N.1 4 * (p - s) ≤ 4 * 1999 := Nat.mul_le_mul h4 (by omega)
    refine ⟨s, N.1 3 + N.1 4 * (p - s), by omega, by omega, ?_⟩
    rw [← nI_add, ← pk_mul, ← pk_sub (show s ≤ p by omega)]
    grind
  · have hw : N.1 4 * (s - p) ≤ 4 * 1999 := Nat.mul_le_mul h4 (by omega)
    refine ⟨s + N.1 4 * (s - p), N.1 3, by omega, by omega, ?_⟩
    rw [← nI_add, ← pk_mul, ← pk_sub q]
    grind
/-- a notice, by longs -/
theorem md_no_l {N : Nt} (hN : md_ok N) {n : Nat} (h0 : 0 < n) (hn : n ≤ 10000) : ((if (if (((64 : Int64) * ((nI n).toInt64)) / ((nI (N.1 3) * ((1 : Int32) + ((2 : Int32) * nI (N.1 4)))).toInt64)) < (63 : Int64) then (((64 : Int64) * ((nI n).toInt64)) / ((nI (N.1 3) * ((1 : Int32) + ((2 : Int32) * nI (N.1 4)))).toInt64)) else (63 : Int64)) < (1 : Int64) then (1 : Int64) else (if (((64 : Int64) * ((nI n).toInt64)) / ((nI (N.1 3) * ((1 : Int32) + ((2 : Int32) * nI (N.1 4)))).toInt64)) < (63 : Int64) then (((64 : Int64) * ((nI n).toInt64)) / ((nI (N.1 3) * ((1 : Int32) + ((2 : Int32) * nI (N.1 4)))).toInt64)) else (63 : Int64))).toInt32) = md_no N (nI n) := by
  have hd := md_dvb hN
  have hp : (0 : Int32) < nI n := nI_lt (a := 0) h0 (by omega)
  unfold md_no
  rw [if_pos hp, md_dv]
  generalize N.1 3 * (1 + 2 * N.1 4) = d at hd
  rw [nI_l (by omega), nI_l (by omega), show (64 : Int64) = lN 64 from rfl, show (63 : Int64) = lN 63 from rfl, show (1 : Int64) = lN 1 from rfl, lN_mul, pk_lDiv (by omega) (by omega) (by omega), show (64 : Int32) = nI 64 from rfl, pk_mul, pk_div (by omega) (by omega) (by omega), Nat.mul_comm n 64]
  have hq : 64 * n / d ≤ 640000 := Nat.le_trans (Nat.div_le_self _ _) (by omega)
  generalize 64 * n / d = q at hq
  unfold md_wi
  rw [show (1 : Int32) = nI 1 from rfl, show (63 : Int32) = nI 63 from rfl]
  rcases Nat.lt_or_ge q 63 with h1 | h1
  · rw [if_pos ((pk_lLT (by omega) (by decide)).mpr h1)]
    rcases Nat.lt_or_ge q 1 with h2 | h2
    · rw [if_pos ((pk_lLT (by omega) (by decide)).mpr h2), if_neg (nI_ge h2 (by decide))]
      rfl
    · rw [if_neg (fun e => absurd ((pk_lLT (by omega) (by decide)).mp e) (by omega)), if_pos (nI_le h2 (by omega)), if_pos (nI_le (by omega) (by decide)), lN_i]
  · rw [if_neg (fun e => absurd ((pk_lLT (by omega) (by decide)).mp e) (by omega)), if_neg (by decide), if_pos (nI_le (by omega) (by omega))]
    rcases Nat.lt_or_ge 63 q with h2 | h2
    · rw [if_neg (nI_ge h2 (by omega))]
      rfl
    · rw [if_pos (nI_le h2 (by decide)), show q = 63 by omega]
      rfl
section TKarr
variable {o tb b : Nat} {N : Nt} {la fa : Nat → Nat} {F0 : Nat → Value} {h0 h : Hp} {R R' : Rw} {rd gv co : Nat → Int32} {ns : Ns} {Q : Int32 → Hp → Prop} {P : Unit → Hp → Prop} {A : Nat → Hp → Prop} {l f k j : Nat} {x : Int32}
theorem tk_arr {G : Nat → Nat → Int32} (H : TK o N tb la fa b F0 h0 R rd gv co ns h) (hl : l < md_nl N) (hG : ∀ f, f < md_nf N → gv (8 * l + f) = G l f) (hz : ∀ f, f < md_nf N → G l f ≠ 0 → md_hop N f l < md_ho N f)
    (kk : ∀ u co', TK o N tb la fa b F0 h0 (md_cs N G l R) rd gv co' ns u → (∀ f, f < md_nf N → co' (8 * l + f) = md_co N G l f (md_it (md_cm N G l) f R)) → (∀ l' f, l' ≠ l → f < md_nf N → co' (8 * l' + f) = co (8 * l' + f)) → P () u) : wp (gw_on 0 o (fx_X1_arrives o b (nI l))) P h := by
  have hL := H.1.1.nl
  have hF := H.1.1.nf
  obtain ⟨F, e⟩ := H.root
  refine w_on e ?_
  unfold fx_X1_arrives
  refine wp_bd (tk_ends H ?_)
  refine wp_bd (tk_end H (by omega) ?_)
  refine wp_for (J := fun i u => ∃ co', TK o N tb la fa b F0 h0 (md_it (md_cm N G l) i R) rd gv co' ns u ∧ (∀ f, f < i → co' (8 * l + f) = md_co N G l f (md_it (md_cm N G l) f R)) ∧ (∀ l' f, l' ≠ l → f < md_nf N → co' (8 * l' + f) = co (8 * l' + f))) (md_nf N) (by omega) ⟨co, H, fun f hf => absurd hf (Nat.not_lt_zero _), fun _ _ _ _ => rfl⟩ rfl ?_ ?_
  · rintro f g u hf ⟨co', H, h1, h2⟩ hk
    rw [md_it] at hk
    have newc : ∀ y, y = md_co N G l f (md_it (md_cm N G l) f R) → ∀ c : Nat → Int32, c (8 * l + f) = y → (∀ i, i ≠ 8 * l + f → c i = co' i) → ((∀ f', f' < f + 1 → c (8 * l + f') = md_co N G l f' (md_it (md_cm N G l) f' R)) ∧ (∀ l' f, l' ≠ l → f < md_nf N → c (8 * l' + f) = co (8 * l' + f))) := by
      intro y hy c hc hc'
      refine ⟨fun f' hf' => ?_, fun l' f' hl' hf' => by rw [hc' _ (by omega)]; exact h2 l' f' hl' hf'⟩
      by_cases e2 : f' = f
      · rw [e2, hc, hy]
      · rw [hc' _ (by omega)]; exact h1 f' (by omega)
    generalize md_it (md_cm N G l) f R = R' at H hk newc
    rw [fx_X1_arrives_L10]
    unfold fx_X1_arrives_J195
    refine wp_bd (tk_told H ?_)
    refine wp_bd (tk_nf H ?_)
    refine wp_ifF (nI_ge hf (by omega)) ?_
    refine wp_bd (tk_co H ?_)
    refine wp_bd (tk_stc H (by omega) (by omega) fun u H => ?_)
    refine wp_bd (tk_gv H ?_)
    refine wp_bd (tk_ldg H (by omega) (by omega) ?_)
    rw [hG f hf]
    rw [md_cm] at hk
    by_cases e : G l f = 0
    · rw [if_pos e] at hk
      exact wp_ifT e (hk _ ⟨_, H, newc 0 (by rw [md_co, if_pos e]) _ (upd_eq _ _ _) fun i hi => upd_ne hi⟩)
    · have hh := hz f hf e
      rw [if_neg e] at hk
      refine wp_ifF e ?_
      refine wp_bd (tk_told H ?_)
      refine wp_bd (tk_flows H ?_)
      refine wp_bd (tk_flow H hf ?_)
      refine wp_bd (tk_last H hf hl hh ?_)
      by_cases e1 : md_hop N f l + 1 = md_ho N f
      · rw [if_pos e1] at hk ⊢
        refine wp_ifF (by decide) ?_
        refine wp_bd (tk_snds H ?_)
        refine wp_bd (tk_snd H (by omega) ?_)
        refine wp_bd (tk_gS 3 5 H hf (by decide) ?_)
        refine wp_bd (tk_gv H ?_)
        refine wp_bd (tk_ldg H (by omega) (by omega) ?_)
        rw [hG f hf]
        exact wp_bd (tk_pS 3 5 H hf (by decide) fun u H => hk _ ⟨_, H, newc 0 (by rw [md_co, if_neg e, if_pos e1]) _ (upd_eq _ _ _) fun i hi => upd_ne hi⟩)
      · rw [if_neg e1] at hk ⊢
        refine wp_ifT rfl ?_
        refine wp_bd (tk_co H ?_)
        refine wp_bd (tk_gv H ?_)
        refine wp_bd (tk_ldg H (by omega) (by omega) ?_)
        rw [hG f hf]
        refine wp_bd (tk_gE 3 2 H hl (by decide) ?_)
        refine wp_bd (tk_onq H hl ?_)
        rw [md_its_c, show md_mn (if (0 : Int32) < R'.1 l 2 - md_q R' l then R'.1 l 2 - md_q R' l else 0) (G l f) = md_its R' l (G l f) from rfl]
        refine wp_bd (tk_stc H (by omega) (by omega) fun u H => ?_)
        refine wp_bd (tk_cells H (by omega) ?_)
        refine wp_bd (tk_ldQ H hl (by omega) ?_)
        refine wp_bd (tk_co H ?_)
        refine wp_bd (tk_ldc H (by omega) (by omega) ?_)
        rw [upd_eq]
        refine wp_bd (tk_pQ H hl (by omega) fun u H => ?_)
        refine wp_bd (tk_gE 5 3 H hl (by decide) ?_)
        refine wp_bd (tk_gv H ?_)
        refine wp_bd (tk_ldg H (by omega) (by omega) ?_)
        refine wp_bd (tk_co H ?_)
        refine wp_bd (tk_ldc H (by omega) (by omega) ?_)
        rw [hG f hf, upd_eq]
        refine wp_bd (tk_pE 5 3 H hl (by decide) fun u H => ?_)
        refine wp_bd (tk_snds H ?_)
        refine wp_bd (tk_snd H (by omega) ?_)
        refine wp_bd (tk_gS 5 11 H hf (by decide) ?_)
        refine wp_bd (tk_gv H ?_)
        refine wp_bd (tk_ldg H (by omega) (by omega) ?_)
        refine wp_bd (tk_co H ?_)
        refine wp_bd (tk_ldc H (by omega) (by omega) ?_)
        rw [hG f hf, upd_eq]
        refine wp_bd (tk_pS 5 11 H hf (by decide) fun u H => ?_)
        rw [md_Ek (show 3 ≠ 15 + f by omega)] at H
        exact hk _ ⟨_, H, newc _ (by rw [md_co, if_neg e, if_neg e1]) _ (upd_eq _ _ _) fun i hi => by rw [upd_ne hi, upd_ne hi]⟩
  · rintro g u ⟨co', H, h1, h2⟩
    rw [fx_X1_arrives_L10]
    rw [md_cs, md_pk] at kk
    refine wp_bd (tk_told H ?_)
    refine wp_bd (tk_nf H ?_)
    refine wp_ifT (Int32.le_refl _) ?_
    refine wp_bd (tk_gE 6 4 H hl (by decide) ?_)
    refine wp_bd (tk_onq H hl ?_)
    exact wp_bd (tk_pE 6 4 H hl (by decide) fun u H => wp_rt (kk u co' H h1 h2))
theorem tk_fb (H : TK o N tb la fa b F0 h0 R rd gv co ns h) (hl : l < md_nl N) (kk : Q (md_fb N R l) h) : wp (gw_on 2 b (fx_X3_feedback b (nI l))) Q h := by
  have hL := H.1.1.nl
  obtain ⟨F, e⟩ := H.st
  refine w_on e ?_
  unfold fx_X3_feedback
  refine wp_bd (tk_ends H ?_)
  refine wp_bd (tk_end H (by omega) ?_)
  refine wp_bd (tk_onq H hl ?_)
  refine wp_bd (tk_t H ?_)
  refine wp_bd (tk_num (k := 3) H (by decide) ?_)
  refine wp_bd (tk_t H ?_)
  refine wp_bd (tk_num (k := 4) H (by decide) ?_)
  refine wp_bd (tk_ends H ?_)
  refine wp_bd (tk_end H (by omega) ?_)
  refine wp_bd (tk_gE 11 9 H hl (by decide) ?_)
  exact wp_rt kk
theorem tk_no {a c : Nat} (H : TK o N tb la fa b F0 h0 R rd gv co ns h) (hx : x = nI a - nI c) (ha : a ≤ 10000) (hc : c ≤ 10000) (kk : Q (md_no N x) h) : wp (gw_on 2 b (fx_X3_noticeOf b x)) Q h := by
  obtain ⟨F, e⟩ := H.st
  refine w_on e ?_
  unfold fx_X3_noticeOf fx_X3_noticeOf_J46
  rcases Nat.lt_or_ge c a with q | q
  · rw [hx, pk_sub (by omega)] at kk ⊢
    have hd := md_dvb H.1.1
    refine wp_ifT (nI_lt (a := 0) (by omega) (by omega)) ?_
    refine wp_bd (tk_t H ?_)
    refine wp_bd (tk_num (k := 3) H (by decide) ?_)
    refine wp_bd (tk_t H ?_)
    refine wp_bd (tk_num (k := 4) H (by decide) ?_)
    refine wp_bd (wp_nl (by rw [md_dv, nI_l (by omega), show (0 : Int64) = lN 0 from rfl, pk_lEQ (by omega) (by decide)]; omega) ?_)
    refine wp_rt ?_
    rw [md_no_l H.1.1 (by omega) (by omega)]
    exact kk
  · have hle : ¬ (0 : Int32) < x := by
      rw [hx]
      intro e2
      rcases Nat.lt_or_ge a c with q2 | q2
      · exact Int32.lt_irrefl (Int32.lt_trans e2 (pk_sneg (by omega) q2))
      · rw [show a = c by omega, pk_sub (Nat.le_refl _), Nat.sub_self] at e2
        exact absurd e2 (by decide)
    refine wp_ifF hle (wp_rt ?_)
    unfold md_no at kk
    rw [if_neg hle] at kk
    exact kk
end TKarr
