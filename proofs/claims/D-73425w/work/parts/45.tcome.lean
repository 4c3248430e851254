/-! what is read behind a write -/
theorem md_E1 {R : Rw} {l k a b : Nat} {x : Int32} : (md_E R l k x).1 a b = if a = l ∧ b = k then x else R.1 a b := rfl
theorem md_Ek {R : Rw} {l k a b : Nat} {x : Int32} (h : b ≠ k) : (md_E R l k x).1 a b = R.1 a b := if_neg fun q => h q.2
theorem md_Ee {R : Rw} {l k : Nat} {x : Int32} : (md_E R l k x).1 l k = x := if_pos ⟨rfl, rfl⟩
theorem md_S1 {R : Rw} {l k a b : Nat} {x : Int32} : (md_S R l k x).2.1 a b = if a = l ∧ b = k then x else R.2.1 a b := rfl
theorem md_Sk {R : Rw} {l k a b : Nat} {x : Int32} (h : b ≠ k) : (md_S R l k x).2.1 a b = R.2.1 a b := if_neg fun q => h q.2
theorem md_Sf {R : Rw} {l k a b : Nat} {x : Int32} (h : a ≠ l) : (md_S R l k x).2.1 a b = R.2.1 a b := if_neg fun q => h q.1
theorem md_Se {R : Rw} {l k : Nat} {x : Int32} : (md_S R l k x).2.1 l k = x := if_pos ⟨rfl, rfl⟩
theorem md_it_inv {σ : Type} {f : Nat → σ → σ} {s : σ} {n : Nat} (P : σ → Prop) (h0 : P s) (hs : ∀ i s, i < n → P s → P (f i s)) : P (md_it f n s) := by
  induction n with
  | zero => exact h0
  | succ n ih => exact hs n _ (Nat.lt_succ_self n) (ih fun i s hi => hs i s (Nat.lt_succ_of_lt hi))
theorem md_sum_congr {g h : Nat → Int32} {n : Nat} (e : ∀ i, i < n → g i = h i) : md_sum g n = md_sum h n := by
  induction n with
  | zero => rfl
  | succ n ih => rw [md_sum, md_sum, ih fun i hi => e i (Nat.lt_succ_of_lt hi), e n (Nat.lt_succ_self n)]
theorem md_q_congr {R R' : Rw} {l : Nat} (h : ∀ f, f < 8 → R'.1 l (15 + f) = R.1 l (15 + f)) : md_q R' l = md_q R l := md_sum_congr h
section TTcome
variable {N : Nt} {t0 t : TS} {R : Rw} {cn cr co : Nat → Int32} {ns : Ns} {Q : Int32 → TS → Prop} {P : Unit → TS → Prop} {l f k : Nat} {x : Int32}
theorem md_ixn {k n : Nat} (h : k < n) : md_ix k n = nI k := if_neg (Nat.ne_of_lt h)
theorem tt_off {G : Nat → Nat → Int32} (hN : md_ok N) (h : TT N t0 R cn cr co ns t) (hG : ∀ l f, l < md_nl N → f < md_nf N → cr (8 * l + f) = G l f) (hz : ∀ l f, l < md_nl N → f < md_nf N → G l f ≠ 0 → md_hop N f l < md_ho N f)
    (kk : ∀ u, TT N t0 (md_it (fun l => md_it (fun f => md_lv N l f (G l f)) (md_nf N)) (md_nl N) R) cn cr co ns u → P () u) : wp fm_takesOff P t := by
  have hF := hN.nf
  have hL := hN.nl
  unfold fm_takesOff
  refine wp_for (J := fun i u => TT N t0 (md_it (fun l => md_it (fun f => md_lv N l f (G l f)) (md_nf N)) i R) cn cr co ns u) (md_nl N) (by omega) h rfl ?_ ?_
  · rintro l g u hl hu hk
    rw [fm_takesOff_L2]
    refine wp_bd (tt_links hu (wp_ifF (nI_ge hl (by omega)) ?_))
    rw [md_it] at hk
    generalize md_it (fun l => md_it (fun f => md_lv N l f (G l f)) (md_nf N)) l R = R' at hu hk
    refine wp_for (J := fun i u => TT N t0 (md_it (fun f => md_lv N l f (G l f)) i R') cn cr co ns u) (md_nf N) (by omega) hu rfl ?_ ?_
    · rintro f g' u hf hu hk'
      rw [md_it] at hk'
      generalize md_it (fun f => md_lv N l f (G l f)) f R' = R2 at hu hk'
      rw [fm_takesOff_L12]
      unfold fm_takesOff_J119
      refine wp_bd (tt_flows hu (wp_ifF (nI_ge hf (by omega)) (wp_bd (tt_cr hu (by omega) (by omega) ?_))))
      rw [hG l f hl hf]
      by_cases e : G l f = 0
      · rw [md_lv, if_pos e] at hk'
        exact wp_ifT e (hk' _ hu)
      · rw [md_lv, if_neg e] at hk'
        have hh := hz l f hl hf e
        have hH := hN.ho hf
        refine wp_ifF e (wp_bd (tt_hop hN hu hf hl ?_))
        rw [md_ixn hh]
        by_cases e0 : md_hop N f l = 0
        · rw [if_pos e0] at hk'
          rw [e0]
          refine wp_ifT (by decide) ?_
          refine wp_bd (tt_flowAt ?_)
          refine wp_bd (tt_S (k := 8) hu (by omega) (by decide) ?_)
          refine wp_bd (tt_wS (k := 8) hu (by omega) (by decide) fun u hu => ?_)
          refine wp_bd (tt_flowAt ?_)
          refine wp_bd (tt_S (k := 4) hu (by omega) (by decide) ?_)
          refine wp_bd (tt_wS (k := 4) hu (by omega) (by decide) fun u hu => hk' _ ?_)
          rw [md_Sk (by decide)] at hu
          exact ⟨hu.1.X, hu.2⟩
        · rw [if_neg e0] at hk'
          obtain ⟨j, hj⟩ : ∃ j, md_hop N f l = j + 1 := ⟨md_hop N f l - 1, by omega⟩
          rw [hj] at hk' ⊢
          have hp := hN.pa hf (show j < md_ho N f by omega)
          refine wp_ifF (nI_nle (by omega) (by omega)) (wp_bd (tt_pa1 hN hu hf (by omega) (wp_bd (tt_Q hu (by omega) (by omega) (wp_bd (tt_wQ hu (by omega) (by omega) fun u hu => hk' _ hu))))))
    · rintro g' u hu
      rw [fm_takesOff_L12]
      exact wp_bd (tt_flows hu (wp_ifT (Int32.le_refl _) (hk _ hu)))
  · rintro g u hu
    rw [fm_takesOff_L2]
    exact wp_bd (tt_links hu (wp_ifT (Int32.le_refl _) (wp_rt (kk u hu))))
theorem i32_nle {a b : Int32} : ¬ a ≤ b ↔ b < a := Int32.not_le
theorem i32_nlt {a b : Int32} : ¬ a < b ↔ b ≤ a := Int32.not_lt
theorem md_wi_its {n : Nat} {w : Int32} (h : n < 2 ^ 31) : md_wi (nI n) 0 w = md_mn w (nI n) := by
  unfold md_wi md_mn
  rw [if_pos (nI_pos' h)]
  by_cases h1 : nI n < w
  · rw [if_pos (Int32.le_of_lt h1), if_pos h1]
  · rw [if_neg h1]
    by_cases h2 : nI n ≤ w
    · rw [if_pos h2]
      exact Int32.le_antisymm h2 (i32_nlt.mp h1)
    · rw [if_neg h2]
theorem tt_cms {G : Nat → Nat → Int32} (hN : md_ok N) (hl : l < md_nl N) (h : TT N t0 R cn cr co ns t) (hG : ∀ f, f < md_nf N → cr (8 * l + f) = G l f) (hz : ∀ f, f < md_nf N → G l f ≠ 0 → md_hop N f l < md_ho N f) (hb : ∀ f, f < md_nf N → ∃ n, n ≤ 64 ∧ G l f = nI n) (hco : ∀ f, f < md_nf N → co (8 * l + f) = 0)
    (kk : ∀ u co', TT N t0 (md_cs N G l R) cn cr co' ns u → (∀ f, f < md_nf N → co' (8 * l + f) = md_co N G l f (md_it (md_cm N G l) f R)) → (∀ l' f, l' ≠ l → f < md_nf N → co' (8 * l' + f) = co (8 * l' + f)) → P () u) : wp (fm_comesTo (nI l)) P t := by
  have hF := hN.nf
  have hL := hN.nl
  unfold fm_comesTo
  refine wp_for (J := fun i u => ∃ co', TT N t0 (md_it (md_cm N G l) i R) cn cr co' ns u ∧ (∀ f, f < md_nf N → co' (8 * l + f) = if f < i then md_co N G l f (md_it (md_cm N G l) f R) else 0) ∧ (∀ l' f, l' ≠ l → f < md_nf N → co' (8 * l' + f) = co (8 * l' + f))) (md_nf N) (by omega) ⟨co, h, fun f hf => by rw [if_neg (Nat.not_lt_zero _)]; exact hco f hf, fun _ _ _ _ => rfl⟩ rfl ?_ ?_
  · rintro f g u hf ⟨co', hu, h1, h2⟩ hk
    have hH := hN.ho hf
    rw [md_it] at hk
    have same : md_co N G l f (md_it (md_cm N G l) f R) = 0 → ∀ f', f' < md_nf N → co' (8 * l + f') = if f' < f + 1 then md_co N G l f' (md_it (md_cm N G l) f' R) else 0 := by
      intro e f' hf'
      rw [h1 f' hf']
      by_cases e2 : f' = f
      · rw [e2, if_neg (by omega), if_pos (by omega), e]
      · by_cases e3 : f' < f
        · rw [if_pos e3, if_pos (by omega)]
        · rw [if_neg e3, if_neg (by omega)]
    have newc : ∀ f', f' < md_nf N → upd co' (8 * l + f) (md_co N G l f (md_it (md_cm N G l) f R)) (8 * l + f') = if f' < f + 1 then md_co N G l f' (md_it (md_cm N G l) f' R) else 0 := by
      intro f' hf'
      by_cases e2 : f' = f
      · rw [e2, upd_eq, if_pos (by omega)]
      · rw [upd_ne (by omega), h1 f' hf']
        by_cases e3 : f' < f
        · rw [if_pos e3, if_pos (by omega)]
        · rw [if_neg e3, if_neg (by omega)]
    generalize hR' : md_it (md_cm N G l) f R = R' at hu hk same newc
    rw [fm_comesTo_L2]
    unfold fm_comesTo_J170
    refine wp_bd (tt_flows hu (wp_ifF (nI_ge hf (by omega)) (wp_bd (tt_cr hu (by omega) (by omega) ?_))))
    rw [hG f hf]
    rw [md_cm] at hk
    by_cases e : G l f = 0
    · rw [if_pos e] at hk
      exact wp_ifT e (hk _ ⟨co', hu, same (by rw [md_co, if_pos e]), h2⟩)
    · have hh := hz f hf e
      rw [if_neg e] at hk
      refine wp_ifF e (wp_bd (tt_hop hN hu hf hl (wp_bd (tt_ho hN hu hf ?_))))
      rw [md_ixn hh]
      obtain ⟨m, hm⟩ : ∃ m, md_ho N f = m + 1 := ⟨md_ho N f - 1, by omega⟩
      rw [show nI (md_ho N f) - 1 = nI m by rw [hm, nI_pred]]
      by_cases e1 : md_hop N f l + 1 = md_ho N f
      · rw [if_pos e1] at hk
        refine wp_ifT (by rw [show md_hop N f l = m by omega]) ?_
        refine wp_bd (tt_flowAt ?_)
        refine wp_bd (tt_S (k := 5) hu (by omega) (by decide) ?_)
        exact wp_bd (tt_wS (k := 5) hu (by omega) (by decide) fun u hu => hk _ ⟨co', hu, same (by rw [md_co, if_neg e, if_pos e1]), h2⟩)
      · rw [if_neg e1] at hk
        have hcm : md_co N G l f R' = md_its R' l (G l f) := by rw [md_co, if_neg e, if_neg e1]
        obtain ⟨n, hn, hGn⟩ := hb f hf
        have key : ∀ w : Int32, w = md_mx 0 (R'.1 l 2 - md_q R' l) → wp (fm_comesTo_J96 (G l f) (nI l) (nI f) g w) P u := by
          intro w hw
          unfold fm_comesTo_J96 fm_comesTo_J170
          refine wp_bd (tt_within ?_)
          rw [hGn, md_wi_its (by omega), hw, ← hGn, show md_mn (md_mx 0 (R'.1 l 2 - md_q R' l)) (G l f) = md_its R' l (G l f) from rfl]
          refine wp_bd (tt_Q hu (by omega) (by omega) ?_)
          refine wp_bd (tt_wQ hu (by omega) (by omega) fun u hu => ?_)
          refine wp_bd (tt_wco hu (by omega) (by omega) fun u hu => ?_)
          refine wp_bd (tt_E (k := 3) hu (by omega) (by decide) ?_)
          refine wp_bd (tt_wE (k := 3) hu (by omega) (by decide) fun u hu => ?_)
          refine wp_bd (tt_flowAt ?_)
          refine wp_bd (tt_S (k := 11) hu (by omega) (by decide) ?_)
          rw [hcm] at newc
          refine wp_bd (tt_wS (k := 11) hu (by omega) (by decide) fun u hu => ?_)
          rw [md_Ek (by omega)] at hu
          refine hk _ ⟨_, hu, newc, fun l' f' hl' hf' => ?_⟩
          rw [upd_ne (by omega)]
          exact h2 l' f' hl' hf'
        refine wp_ifF (by rw [nI_eq (by omega) (by omega)]; omega) ?_
        refine wp_bd (tt_E (k := 2) hu (by omega) (by decide) ?_)
        refine wp_bd (tt_queue hu (by omega) ?_)
        refine wp_if (fun hc => key _ ?_) (fun hc => key _ ?_)
        · rw [md_mx, if_neg (i32_nlt.mpr hc)]
        · rw [md_mx, if_pos (i32_nle.mp hc)]
  · rintro g u ⟨co', hu, h1, h2⟩
    rw [fm_comesTo_L2]
    unfold fm_comesTo_J222
    rw [md_cs, md_pk] at kk
    refine wp_bd (tt_flows hu (wp_ifT (Int32.le_refl _) ?_))
    refine wp_bd (tt_queue hu (by omega) ?_)
    refine wp_bd (tt_E (k := 4) hu (by omega) (by decide) ?_)
    refine wp_if (fun hc => ?_) (fun hc => ?_)
    · refine wp_bd (tt_E (k := 4) hu (by omega) (by decide) (wp_bd (tt_wE (k := 4) hu (by omega) (by decide) fun u hu => wp_rt (kk u co' ?_ (fun f hf => by rw [h1 f hf, if_pos hf]) h2))))
      rw [md_mx, if_neg (i32_nlt.mpr hc)]
      exact hu
    · refine wp_bd (tt_wE (k := 4) hu (by omega) (by decide) fun u hu => wp_rt (kk u co' ?_ (fun f hf => by rw [h1 f hf, if_pos hf]) h2))
      rw [md_mx, if_pos (i32_nle.mp hc)]
      exact hu
theorem wp_un {σ α : Type} {n : Nat} {F : (Int32 → σ → Option (α × σ)) → Int32 → σ → Option (α × σ)} {z : Int32 → σ → Option (α × σ)} {Q : α → σ → Prop} {t : σ} {v : Int32} (h : wp (F (tw_lp F z n) v) Q t) : wp (tw_lp F z (n + 1) v) Q t := h
theorem tt_asks (h : TT N t0 R cn cr co ns t) (hl : l < 10) (kk : ∀ u, TT N t0 (md_ask l R) cn cr co ns u → P () u) : wp (fm_asks (nI l)) P t := by
  unfold fm_asks
  refine wp_bd (tt_queue h hl (wp_bd (tt_E (k := 10) h hl (by decide) (wp_un (n := 999999) ?_))))
  rw [fm_asks_L22]
  refine wp_ifF (by decide) (wp_bd (tt_A1 (f := 3) h hl (by decide) (wp_bd (tt_wA (f := 4) h hl (by decide) fun u hu => wp_un (n := 999998) ?_))))
  rw [show ((4 : Int32) + (-1 : Int32)) = 3 from rfl, fm_asks_L22]
  refine wp_ifF (by decide) (wp_bd (tt_A1 (f := 2) hu hl (by decide) (wp_bd (tt_wA (f := 3) hu hl (by decide) fun u hu => wp_un (n := 999997) ?_))))
  rw [show ((3 : Int32) + (-1 : Int32)) = 2 from rfl, fm_asks_L22]
  refine wp_ifF (by decide) (wp_bd (tt_A1 (f := 1) hu hl (by decide) (wp_bd (tt_wA (f := 2) hu hl (by decide) fun u hu => wp_un (n := 999996) ?_))))
  rw [show ((2 : Int32) + (-1 : Int32)) = 1 from rfl, fm_asks_L22]
  refine wp_ifF (by decide) (wp_bd (tt_A1 (f := 0) hu hl (by decide) (wp_bd (tt_wA (f := 1) hu hl (by decide) fun u hu => wp_un (n := 999995) ?_))))
  rw [show ((1 : Int32) + (-1 : Int32)) = 0 from rfl, fm_asks_L22]
  rw [md_Ek (show 10 + 2 ≠ 10 + 4 by decide), md_Ek (show 10 + 1 ≠ 10 + 3 by decide), md_Ek (show 10 + 1 ≠ 10 + 4 by decide), md_Ek (show 10 + 0 ≠ 10 + 2 by decide), md_Ek (show 10 + 0 ≠ 10 + 3 by decide), md_Ek (show 10 + 0 ≠ 10 + 4 by decide)] at hu
  have fin : ∀ w, w = md_aw R l → wp (fm_asks_J115 (nI l) w) P u := by
    intro w hw
    unfold fm_asks_J115
    exact wp_bd (tt_wE (k := 10) hu hl (by decide) fun u hu => wp_rt (kk u (by rw [hw] at hu; exact hu)))
  refine wp_ifT (by decide) (wp_bd (tt_E (k := 0) hu hl (by decide) ?_))
  rw [md_Ek (by decide), md_Ek (by decide), md_Ek (by decide), md_Ek (by decide)]
  refine wp_if (fun hc => wp_bd (tt_E (k := 1) hu hl (by decide) ?_)) (fun hc => fin _ (by rw [md_aw, if_neg hc]))
  rw [md_Ek (by decide), md_Ek (by decide), md_Ek (by decide), md_Ek (by decide)]
  exact wp_if (fun hc2 => fin _ (by rw [md_aw, if_pos hc, if_pos hc2])) (fun hc2 => fin _ (by rw [md_aw, if_pos hc, if_neg hc2]))
end TTcome
