/-! loops that make no cells in a turn -/
theorem wg_for0 {α : Type} {F : (Int32 → gM α) → Int32 → gM α} {z : Int32 → gM α} {Q : α → Hp → Prop} {t : Hp} {v : Int32} {C S : Nat} (J : Nat → Hp → Prop) (n : Nat) (hn : n < 1000000) (h0 : J 0 t) (hv : v = nI 0)
    (hs : ∀ (i : Nat) (f : Int32 → gM α) (t : Hp), i < n → J i t → (∀ u, J (i + 1) u → wg (f (nI i + 1)) C S Q u) → wg (F f (nI i)) C S Q t) (he : ∀ (f : Int32 → gM α) (t : Hp), J n t → wg (F f (nI n)) C S Q t) : wg (tw_lp F z tw_fu v) C S Q t := by
  rw [hv]
  refine lp_run (ι := Int32 × Hp) (G := fun (f : Int32 → gM α) x => wg (f x.1) C S Q x.2) (fun k x => ∃ i, i + k = n ∧ x.1 = nI i ∧ J i x.2) (fun k f x hI hy => ?_) tw_fu n (nI 0, t) (tw_fu_lt hn) ⟨0, Nat.zero_add n, rfl, h0⟩
  obtain ⟨i, hi, hx, hJ⟩ := hI
  rw [hx]
  by_cases hc : i < n
  · exact hs i f x.2 hc hJ (fun u hu => by rw [nI_1]; exact hy (k - 1) (nI (i + 1), u) (by omega) ⟨i + 1, by omega, rfl, hu⟩)
  · have e : i = n := by omega
    subst e
    exact he f x.2 hJ
theorem wg_forB {α : Type} {F : (Int32 → Int32 → gM α) → Int32 → Int32 → gM α} {z : Int32 → Int32 → gM α} {Q : α → Hp → Prop} {t : Hp} {v w : Int32} {C S : Nat} (J : Nat → Int32 → Hp → Prop) (n : Nat) (hn : n < 1000000) (h0 : J 0 w t) (hv : v = nI 0)
    (hs : ∀ (i : Nat) (f : Int32 → Int32 → gM α) (w : Int32) (t : Hp), i < n → J i w t → (∀ w u, J (i + 1) w u → wg (f w (nI i + 1)) C S Q u) → wg (F f w (nI i)) C S Q t) (he : ∀ (f : Int32 → Int32 → gM α) (w : Int32) (t : Hp), J n w t → wg (F f w (nI n)) C S Q t) : wg (tw_lp F z tw_fu w v) C S Q t := by
  rw [hv]
  refine lp_run (ι := Int32 × Int32 × Hp) (G := fun (f : Int32 → Int32 → gM α) x => wg (f x.1 x.2.1) C S Q x.2.2) (fun k x => ∃ i, i + k = n ∧ x.2.1 = nI i ∧ J i x.1 x.2.2) (fun k f x hI hy => ?_) tw_fu n (w, nI 0, t) (tw_fu_lt hn) ⟨0, Nat.zero_add n, rfl, h0⟩
  obtain ⟨i, hi, hx, hJ⟩ := hI
  rw [hx]
  by_cases hc : i < n
  · exact hs i f x.1 x.2.2 hc hJ (fun w u hu => by rw [nI_1]; exact hy (k - 1) (w, nI (i + 1), u) (by omega) ⟨i + 1, by omega, rfl, hu⟩)
  · have e : i = n := by omega
    subst e
    exact he f x.1 x.2.2 hJ
section TKsmp
variable {o tb b : Nat} {N : Nt} {la fa : Nat → Nat} {F0 : Nat → Value} {h0 h : Hp} {R R' : Rw} {rd gv co : Nat → Int32} {ns : Ns} {Q : Int32 → Hp → Prop} {P : Unit → Hp → Prop} {A : Nat → Hp → Prop} {l f k j : Nat} {x : Int32}
/-- a notice is laid down -/
theorem tk_push {m : Nat} {a x : Int32} {C S : Nat} (hC : 2 ≤ C) (hS : 3 ≤ S) (H : TK o N tb la fa b F0 h0 R rd gv co ns h) (hn : ns.1 < 10) (ha : a = nI m) (kk : ∀ u, TK o N tb la fa b F0 h0 R rd gv co (ns.1 + 1, va_up ns.2 ns.1 (m, x)) u → P () u) :
    wg (gw_b0 (gw_gr 0 8 o) fun x53 => gw_b0 (gw_gi 0 9 o) fun x56 => gw_bc (gw_nw 10 1 tyX11) fun x59 => gw_bc (gw_n2 a x) fun x62 => gw_b0 (fx_X11_init x59 x62) fun _ => gw_b0 (gw_sr 9 10 x53 x56 x59) fun _ => gw_b0 (gw_gi 0 9 o) fun x71 => gw_b0 (gw_pi 0 9 o (x71 + (1 : Int32))) fun _ => gw_rc ()) C S P h := by
  have hb := H.1.2.2.2.2.2
  refine wg_b0 (tk_nts H ?_)
  refine wg_b0 (tk_nm H (by omega) ?_)
  obtain ⟨⟨c1, c2⟩, ⟨F, e1, e2, e3⟩, c4, g, c5, c6⟩ := H.2.2
  have e2 := e2 (by omega)
  refine wg_bc 1 1 (by omega) (by omega) (g_nw (Nat.le_refl _) (Nat.le_refl _) ?_)
  refine wg_bc 1 2 (by omega) (by omega) ⟨_, _, 1, 2, rfl, Nat.le_refl _, Nat.le_refl _, ?_⟩
  generalize hv1 : gw_push h (.inr (10, fun j => defaultValue (tyX11 j))) = v1
  have z1 : v1.2 = h.2 + 1 := by rw [← hv1]; rfl
  generalize hv2 : gw_push v1 (.inr (101, fun i => if i = 0 then .int a else .int x)) = v2
  have n1 : v2.1 h.2 = some (.inr (10, fun j => defaultValue (tyX11 j))) := by rw [← hv2, gp_ne (by omega), ← hv1, gp_eq]
  have n2 : v2.1 (h.2 + 1) = some (.inr (101, fun i => if i = 0 then .int a else .int x)) := by rw [← hv2, ← z1, gp_eq]
  have n3 : ∀ q, q < h.2 → v2.1 q = h.1 q := fun q hq => by rw [← hv2, gp_ne (by omega), ← hv1, gp_ne (by omega)]
  have z2 : v2.2 = h.2 + 2 := by rw [← hv2]; show v1.2 + 1 = _; omega
  rw [z1]
  have hlt : b + 39 ≤ h.2 := Nat.le_trans hb.2 c1
  unfold fx_X11_init
  refine wg_b0 (wp_bd (w_pv n1 (wp_rt ?_)))
  refine wg_b0 (w_sr (q := 9) (j := ns.1) (by rw [gs_ne (by omega), n3 _ (by omega)]; exact c5) gs_eq rfl hn (by decide) ?_)
  refine wg_b0 (w_gi (x := nI ns.1) (by rw [gs_ne (by omega), gs_ne (by omega), n3 _ (by omega)]; exact e1) e2 ?_)
  refine wg_b0 (w_pv (by rw [gs_ne (by omega), gs_ne (by omega), n3 _ (by omega)]; exact e1) (wg_rc (kk _ ?_)))
  refine ⟨H.1, H.2.1.kept fun q q1 q2 => by rw [gs_ne (by omega), gs_ne (by omega), gs_ne (by omega), n3 q (by omega)], ⟨?_, fun q hq => ?_⟩, ⟨_, gs_eq, fun _ => ?_, fun k hk => by rw [updV_ne hk]; exact e3 k hk⟩, ?_, _, by rw [gs_ne (by omega), gs_eq], fun k hk h7 => ?_⟩
  · show h0.2 ≤ v2.2
    omega
  · obtain ⟨q1, q2, q3, q4⟩ := hq
    rw [gs_ne q2, gs_ne (by omega), gs_ne (by omega), n3 q (by omega)]
    exact c2 q ⟨q1, q2, q3, q4⟩
  · rw [updV_eq, nI_1]
  · rw [gs_ne (by omega), gs_ne (by omega), gs_ne (by omega), n3 _ (by omega), gs_ne (by omega), gs_ne (by omega), gs_ne (by omega), n3 _ (by omega), gs_ne (by omega), gs_ne (by omega), gs_ne (by omega), n3 _ (by omega)]
    exact c4
  · dsimp only at hk ⊢
    by_cases e : k = ns.1
    · rw [e, md_up_eq, md_up_eq]
      refine ⟨h.2, h.2 + 1, _, _, rfl, ⟨c1, by show h.2 < v2.2; omega⟩, ⟨by omega, by show h.2 + 1 < v2.2; omega⟩, by rw [gs_ne (by omega), gs_ne (by omega), gs_eq], updV_eq, by rw [gs_ne (by omega), gs_ne (by omega), gs_ne (by omega)]; exact n2, ?_, rfl⟩
      exact congrArg Value.int ha
    · rw [md_up_ne e, md_up_ne e]
      obtain ⟨a', c', F', G', d1, d2, d3, d4, d5, d6, d7⟩ := c6 k (by omega) (by omega)
      exact ⟨a', c', F', G', d1, ⟨d2.1, by show a' < v2.2; omega⟩, ⟨d3.1, by show c' < v2.2; omega⟩, by rw [gs_ne (by omega), gs_ne (by omega), gs_ne (by omega), n3 _ (by omega)]; exact d4, d5, by rw [gs_ne (by omega), gs_ne (by omega), gs_ne (by omega), n3 _ (by omega)]; exact d6, d7⟩
theorem tk_smp {G : Nat → Nat → Int32} {m : Nat} (H : TK o N tb la fa b F0 h0 R rd gv co ns h) (hl : l < md_nl N) (hC : ∀ f, f < md_nf N → co (8 * l + f) = G l f) (hn : ns.1 < 10) (hil : md_il m (R.1 l))
    (kk : ∀ u, TK o N tb la fa b F0 h0 (md_sm N G l (R, ns)).1 rd gv co (md_sm N G l (R, ns)).2 u → P () u) : wg (gw_on 0 o (fx_X1_samples o b (nI l))) 2 3 P h := by
  have hL := H.1.1.nl
  have hF := H.1.1.nf
  have hN := H.1.1
  obtain ⟨F, e⟩ := H.root
  refine g_on e ?_
  unfold fx_X1_samples
  refine wg_b0 (tk_ends H ?_)
  refine wg_b0 (tk_end H (by omega) ?_)
  refine wg_forB (J := fun i w u => w = md_ix (md_it (md_s1 N G l) i (R, 99)).2 99 ∧ TK o N tb la fa b F0 h0 (md_it (md_s1 N G l) i (R, 99)).1 rd gv co ns u) (md_nf N) (by omega) ⟨rfl, H⟩ rfl ?_ ?_
  · rintro f g w u hf ⟨rfl, H⟩ hk
    have hat := (md_s1_at (N := N) (R := R) (C := G) (l := l) f).2.2
    rw [md_it] at hk
    generalize md_it (md_s1 N G l) f (R, 99) = y at H hk hat
    rw [fx_X1_samples_L13]
    unfold fx_X1_samples_J69
    refine wg_b0 (tk_told H ?_)
    refine wg_b0 (tk_nf H ?_)
    refine wg_ifF (nI_ge hf (by omega)) ?_
    refine wg_b0 (tk_gE 10 8 H hl (by decide) ?_)
    refine wg_b0 (tk_co H ?_)
    refine wg_b0 (tk_ldc H (by omega) (by omega) ?_)
    rw [hC f hf]
    refine wg_b0 (tk_pE 10 8 H hl (by decide) fun u H => ?_)
    rw [md_s1] at hk
    dsimp only at hk
    by_cases e : y.2 = 99
    · rw [md_ix, if_pos e]
      refine wg_ifF (by decide) ?_
      refine wg_b0 (tk_gE 10 8 H hl (by decide) ?_)
      rw [md_Ee]
      refine wg_b0 (tk_told H ?_)
      refine wg_b0 (tk_num (k := 2) H (by decide) ?_)
      refine wg_if (fun hc => hk _ _ ⟨?_, H⟩) (fun hc => hk _ _ ⟨?_, H⟩)
      · rw [if_neg (fun q => q.2 hc), md_ix, if_pos e]
      · rw [if_pos ⟨e, hc⟩, md_ix, if_neg (by omega)]
    · rw [md_ix, if_neg e]
      refine wg_ifT (nI_pos' (by omega)) (hk _ _ ⟨?_, H⟩)
      rw [if_neg (fun q => e q.1), md_ix, if_neg e]
  · rintro g w u ⟨rfl, H⟩
    obtain ⟨a1, a2, a3⟩ := md_s1_at (N := N) (R := R) (C := G) (l := l) (md_nf N)
    rw [md_sm] at kk
    dsimp only at kk
    generalize md_it (md_s1 N G l) (md_nf N) (R, 99) = y at H kk a1 a2 a3
    rw [fx_X1_samples_L13]
    refine wg_b0 (tk_told H ?_)
    refine wg_b0 (tk_nf H ?_)
    refine wg_ifT (Int32.le_refl _) ?_
    by_cases e : y.2 = 99
    · rw [if_pos e] at kk
      rw [md_ix, if_pos e]
      exact wg_ifF (by decide) (wg_rc (kk _ H))
    · rw [if_neg e] at kk
      rw [md_ix, if_neg e]
      have hq : md_q y.1 l = md_q R l := md_q_congr fun f _ => a1 l (15 + f) (by omega)
      have hnum := hN.2.2.2.1
      obtain ⟨fa1, fb1, hfa, hfb1, hfbe⟩ := md_fb_b hN hil
      refine wg_ifT (nI_pos' (by omega)) ?_
      refine wg_b0 (tk_gE 10 8 H hl (by decide) ?_)
      refine wg_b0 (tk_told H ?_)
      refine wg_b0 (tk_num (k := 2) H (by decide) ?_)
      refine wg_b0 (wp_nz (nI_ne0 (by omega) (by omega)) ?_)
      refine wg_b0 (tk_pE 10 8 H hl (by decide) fun u H => ?_)
      refine wg_b0 (tk_gE 7 5 H hl (by decide) ?_)
      refine wg_b0 (tk_pE 7 5 H hl (by decide) fun u H => ?_)
      refine wg_b0 (tk_fb H hl ?_)
      have hfb : md_fb N (md_E (md_E y.1 l 8 (y.1.1 l 8 - y.1.1 l 8 / nI (N.1 2) * nI (N.1 2))) l 5 ((md_E y.1 l 8 (y.1.1 l 8 - y.1.1 l 8 / nI (N.1 2) * nI (N.1 2))).1 l 5 + 1)) l = md_fb N R l := by
        unfold md_fb
        rw [md_q_congr (R := y.1) (fun f _ => by rw [md_Ek (by omega), md_Ek (by omega)]), md_Ek (by decide), md_Ek (by decide), hq, a1 l 9 (by decide)]
      rw [hfb]
      refine wg_b0 (tk_no H hfbe hfa hfb1 ?_)
      refine wg_b0 (tk_onq H hl ?_)
      refine wg_b0 (tk_pE 11 9 H hl (by decide) fun u H => ?_)
      rw [md_Ek (show 5 ≠ 8 by decide), md_q_congr (R := y.1) (fun f _ => by rw [md_Ek (by omega), md_Ek (by omega)])] at H
      by_cases e0 : md_no N (md_fb N R l) = 0
      · rw [if_pos e0] at kk
        exact wg_ifT e0 (wg_rc (kk _ H))
      · rw [if_neg e0] at kk
        refine wg_ifF e0 ?_
        refine wg_b0 (tk_gE 8 6 H hl (by decide) ?_)
        refine wg_b0 (tk_pE 8 6 H hl (by decide) fun u H => ?_)
        rw [md_Ek (show 6 ≠ 9 by decide), md_Ek (show 6 ≠ 5 by decide), md_Ek (show 6 ≠ 8 by decide), a1 l 6 (by decide)] at H
        exact tk_push (Nat.le_refl _) (Nat.le_refl _) H hn rfl fun u H => kk _ H
/-! notices; stages -/
theorem tk_cuts {y : Int32} (H : TK o N tb la fa b F0 h0 R rd gv co ns h) (hf : f < md_nf N) (kk : ∀ u, TK o N tb la fa b F0 h0 (md_cut f y R) rd gv co ns u → P () u) : wp (gw_on 4 (b + 23 + 2 * f) (fx_X5_cuts (b + 23 + 2 * f) y)) P h := by
  have hF := H.1.1.nf
  obtain ⟨F, e⟩ := H.snd (show f < 8 by omega)
  refine w_on e ?_
  unfold fx_X5_cuts fx_X5_forgets
  refine wp_bd (tk_gS 4 6 H hf (by decide) ?_)
  refine wp_bd (tk_pS 4 6 H hf (by decide) fun u H => ?_)
  refine wp_bd (tk_gS 0 0 H hf (by decide) ?_)
  refine wp_bd (tk_pS 1 1 H hf (by decide) fun u H => ?_)
  refine wp_bd (tk_gS 0 0 H hf (by decide) ?_)
  refine wp_bd (tk_gS 0 0 H hf (by decide) ?_)
  refine wp_bd (wp_nz (by decide) ?_)
  refine wp_bd (tk_pS 0 0 H hf (by decide) fun u H => ?_)
  rw [md_Sk (show 0 ≠ 1 by decide), md_Sk (show 0 ≠ 6 by decide)] at H
  obtain ⟨F, e⟩ := H.snd (show f < 8 by omega)
  refine wp_bd (w_on e ?_)
  refine wp_bd (tk_stg H (by omega) ?_)
  refine wp_bd (tk_pG 0 2 H hf (by decide) rfl fun u H => ?_)
  refine wp_bd (tk_stg H (by omega) ?_)
  refine wp_bd (tk_pG 1 3 H hf (by decide) rfl fun u H => ?_)
  refine wp_bd (tk_pS 7 9 H hf (by decide) fun u H => ?_)
  exact wp_bd (tk_pS 8 10 H hf (by decide) fun u H => wp_rt (wp_rt (kk u H)))
theorem tk_deed (H : TK o N tb la fa b F0 h0 R rd gv co ns h) (hk : k < ns.1) (hn : ns.1 ≤ 10) (hf : (ns.2 k).1 < md_nf N) {C S : Nat} {g : gM Unit} (kk : ∀ u, TK o N tb la fa b F0 h0 (md_cut (ns.2 k).1 (ns.2 k).2 R) rd gv co ns u → wg g C S P u) :
    wg (gw_b0 (gw_gr 0 8 o) fun x88 => gw_b0 (gw_lr 9 x88 (nI k)) fun x91 => gw_b0 (gw_gr 10 0 x91) fun x94 => gw_b0 (fi_1 x94 b) fun _ => g) C S P h := by
  have hF := H.1.1.nf
  obtain ⟨g', c5, c6⟩ := H.2.2.2.2.2
  obtain ⟨a', c', F', G', d1, d2, d3, d4, d5, d6, d7, d8⟩ := c6 k hk (by omega)
  refine wg_b0 (tk_nts H ?_)
  refine wg_b0 (w_lr c5 rfl (by omega) (by decide) d1 ?_)
  refine wg_b0 (w_gr d4 d5 ?_)
  refine wg_b0 ?_
  have key : wp (fx_X1_lambda_samples_1 (nI (ns.2 k).1) (ns.2 k).2 b) (fun _ u => wg g C S P u) h := by
    unfold fx_X1_lambda_samples_1
    refine wp_bd (tk_snds H ?_)
    refine wp_bd (tk_snd H (by omega) ?_)
    exact wp_bd (tk_cuts H hf fun u H => wp_rt (kk u H))
  obtain ⟨r, u, e1, e2⟩ := key
  refine ⟨r, u, ?_, e2⟩
  unfold fi_1 fj_1
  rw [ob_of d6]
  dsimp only
  rw [d7, d8]
  exact e1
theorem md_more_c {N : Nt} {s0 s1 : Int32} : md_more N s0 s1 = if md_mn s0 s1 ≤ 5 then (if (if s0 < s1 then s1 else s0) ≤ 5 then 0 else nI (N.1 7)) else (nI (N.1 7) * 2) * (md_mn s0 s1 - 5) := by
  have hmn : md_mn s0 s1 ≤ 5 ↔ ¬ (5 < s0 ∧ 5 < s1) := by
    unfold md_mn
    constructor
    · intro h1 h2
      split at h1
      · exact i32_nlt.mpr h1 h2.2
      · exact i32_nlt.mpr h1 h2.1
    · intro h1
      split
      · next h2 =>
        refine i32_nlt.mp fun h3 => h1 ⟨Int32.lt_trans h3 h2, h3⟩
      · next h2 =>
        refine i32_nlt.mp fun h3 => h1 ⟨h3, Int32.lt_of_lt_of_le h3 (i32_nlt.mp h2)⟩
  have hmx : (if s0 < s1 then s1 else s0) ≤ 5 ↔ ¬ (5 < s0 ∨ 5 < s1) := by
    constructor
    · intro h1 h2
      split at h1
      · next h3 =>
        rcases h2 with h2 | h2
        · exact i32_nlt.mpr h1 (Int32.lt_trans h2 h3)
        · exact i32_nlt.mpr h1 h2
      · next h3 =>
        rcases h2 with h2 | h2
        · exact i32_nlt.mpr h1 h2
        · exact i32_nlt.mpr h1 (Int32.lt_of_lt_of_le h2 (i32_nlt.mp h3))
    · intro h1
      split
      · exact i32_nlt.mp fun h3 => h1 (Or.inr h3)
      · exact i32_nlt.mp fun h3 => h1 (Or.inl h3)
  unfold md_more
  by_cases q1 : 5 < s0 ∧ 5 < s1
  · rw [if_pos q1, if_neg (fun e => hmn.mp e q1)]
  · rw [if_neg q1, if_pos (hmn.mpr q1)]
    by_cases q2 : 5 < s0 ∨ 5 < s1
    · rw [if_pos q2, if_neg (fun e => hmx.mp e q2)]
    · rw [if_neg q2, if_pos (hmx.mpr q2)]
theorem tk_clm_more {s0 s1 : Int32} (H : TK o N tb la fa b F0 h0 R rd gv co ns h) (kk : Q (md_more N s0 s1) h) : wp (fi_0 (o + 9) (md_mn s0 s1) (if s0 < s1 then s1 else s0)) Q h := by
  obtain ⟨F, e1, e2⟩ := H.1.2.2.2.2.1
  have hb := H.1.2.2.2.2.2
  have e3 := H.2.2.1.2 (o + 9) ⟨by omega, by omega, by omega, by omega⟩
  rw [e1] at e3
  have key : wp (gw_on 0 o (fx_X1_lambda_new_0 o (md_mn s0 s1) (if s0 < s1 then s1 else s0))) Q h := by
    obtain ⟨F, e⟩ := H.root
    refine w_on e ?_
    rw [md_more_c] at kk
    unfold fx_X1_lambda_new_0 fx_X1_lambda_new_0_J37
    refine wp_if (fun hc => wp_if (fun hc2 => wp_rt ?_) (fun hc2 => ?_)) (fun hc => ?_)
    · rw [if_pos hc, if_pos hc2] at kk; exact kk
    · rw [if_pos hc, if_neg hc2] at kk
      exact wp_bd (tk_told H (wp_bd (tk_num (k := 7) H (by decide) (wp_rt kk))))
    · rw [if_neg hc] at kk
      exact wp_bd (tk_told H (wp_bd (tk_num (k := 7) H (by decide) (wp_rt kk))))
  obtain ⟨r, u, k1, k2⟩ := key
  refine ⟨r, u, ?_, k2⟩
  unfold fi_0 fj_0
  rw [ob_of e3]
  dsimp only
  rw [e2]
  exact k1
theorem tk_climb {i : Int32} (j : Nat) (H : TK o N tb la fa b F0 h0 R rd gv co ns h) (hf : f < md_nf N) (hj : j < 2) (hi : i = nI j) (kk : ∀ u, TK o N tb la fa b F0 h0 (md_cl N f (md_S R f (2 + j) (R.2.1 f (2 + j) + 1))) rd gv co ns u → P () u) : wp (gw_on 4 (b + 23 + 2 * f) (fx_X5_climbs (b + 23 + 2 * f) i (o + 9))) P h := by
  have hF := H.1.1.nf
  obtain ⟨F, e⟩ := H.snd (show f < 8 by omega)
  refine w_on e ?_
  unfold fx_X5_climbs
  refine wp_bd (tk_stg H (by omega) ?_)
  refine wp_bd (tk_ldG j (2 + j) H hf ⟨rfl, hj⟩ hi ?_)
  refine wp_bd (tk_pG j (2 + j) H hf ⟨rfl, hj⟩ hi fun u H => ?_)
  generalize md_S R f (2 + j) (R.2.1 f (2 + j) + 1) = X at H kk
  refine wp_bd (tk_gS 1 1 H hf (by decide) ?_)
  refine wp_bd (tk_stg H (by omega) ?_)
  refine wp_bd (tk_ldG 0 2 H hf (by decide) rfl ?_)
  refine wp_bd (tk_stg H (by omega) ?_)
  refine wp_bd (tk_ldG 1 3 H hf (by decide) rfl ?_)
  refine wp_bd (tk_stg H (by omega) ?_)
  refine wp_bd (tk_ldG 0 2 H hf (by decide) rfl ?_)
  refine wp_bd (tk_stg H (by omega) ?_)
  refine wp_bd (tk_ldG 1 3 H hf (by decide) rfl ?_)
  refine wp_bd (tk_clm_more H ?_)
  refine wp_bd (tk_pS 1 1 H hf (by decide) fun u H => ?_)
  refine wp_bd (tk_gS 0 0 H hf (by decide) ?_)
  refine wp_bd (tk_gS 1 1 H hf (by decide) ?_)
  refine wp_bd (wp_nz (by decide) ?_)
  refine wp_bd (tk_pS 0 0 H hf (by decide) fun u H => wp_rt (kk u ?_))
  rw [md_Se, md_Sk (show 0 ≠ 1 by decide)] at H
  exact H
theorem tk_rec {a d : Nat} (H : TK o N tb la fa b F0 h0 R rd gv co ns h) (hf : f < md_nf N) (hon : ¬ R.2.1 f 7 = 0) (h9 : R.2.1 f 9 = nI a) (ha : a ≤ 1000) (h12 : R.2.1 f 12 = nI d) (hd : d ≤ 64) (kk : ∀ u, TK o N tb la fa b F0 h0 (md_rec N f R) rd gv co ns u → P () u) : wp (gw_on 4 (b + 23 + 2 * f) (fx_X5_recovers (b + 23 + 2 * f) tb (o + 9))) P h := by
  have hN := H.1.1
  have hF := hN.nf
  have h5 := hN.2.2.2.2.2.2.1
  obtain ⟨F, e⟩ := H.snd (show f < 8 by omega)
  refine w_on e ?_
  unfold fx_X5_recovers
  refine wp_bd (tk_gS 7 9 H hf (by decide) ?_)
  refine wp_bd (tk_gS 9 12 H hf (by decide) ?_)
  refine wp_bd (tk_pS 7 9 H hf (by decide) fun u H => ?_)
  rw [md_rec, if_neg hon] at kk
  generalize hRf : md_wh N f 5000 (md_S R f 9 (R.2.1 f 9 + R.2.1 f 12)) = Rf at kk
  refine wp_wh0 (I := fun k u => ∃ (R' : Rw) (a : Nat), TK o N tb la fa b F0 h0 R' rd gv co ns u ∧ R'.2.1 f 9 = nI a ∧ a ≤ k ∧ k ≤ 5000 ∧ md_wh N f k R' = Rf) 5000 (by decide) ⟨_, a + d, H, by rw [md_Se, h9, h12, nI_add], by omega, Nat.le_refl _, hRf⟩ ?_
  rintro k g u ⟨R', a', H, e9, hak, hk5, hwh⟩ hk
  rw [fx_X5_recovers_L13]
  refine wp_bd (tk_gS 7 9 H hf (by decide) ?_)
  refine wp_bd (tk_num (k := 5) H (by decide) ?_)
  by_cases hc9 : R'.2.1 f 9 < nI (N.1 5)
  · rw [md_wh_stop hc9] at hwh
    refine wp_ifT hc9 ?_
    refine wp_bd (tk_gS 8 10 H hf (by decide) ?_)
    refine wp_bd (tk_pS 8 10 H hf (by decide) fun v H => ?_)
    refine wp_bd (tk_gS 8 10 H hf (by decide) ?_)
    rw [md_Se]
    refine wp_bd (tk_num (k := 6) H (by decide) ?_)
    rw [← hwh, md_rb] at kk
    refine wp_if (fun hc6 => ?_) (fun hc6 => ?_)
    · rw [if_neg (i32_nlt.mpr hc6)] at kk
      refine wp_bd (tk_pS 8 10 H hf (by decide) fun v H => ?_)
      rw [md_SS] at H
      refine wp_bd (tk_climb 1 H hf (by decide) rfl fun v H => wp_rt (kk v ?_))
      rw [md_Sk (show 2 + 1 ≠ 10 by decide)] at H
      exact H
    · rw [if_pos (i32_nle.mp hc6)] at kk
      exact wp_rt (kk v H)
  · refine wp_ifF hc9 ?_
    rw [e9] at hc9
    have hge := (nI_leI (by omega) (by omega)).mp (i32_nlt.mp hc9)
    obtain ⟨j, rfl⟩ : ∃ j, k = j + 1 := ⟨k - 1, by omega⟩
    rw [md_wh, if_neg (by rw [e9]; exact hc9)] at hwh
    refine wp_bd (tk_gS 7 9 H hf (by decide) ?_)
    refine wp_bd (tk_num (k := 5) H (by decide) ?_)
    refine wp_bd (tk_pS 7 9 H hf (by decide) fun v H => ?_)
    refine wp_bd (tk_climb 0 H hf (by decide) rfl fun v H => ?_)
    rw [md_Sk (show 2 + 0 ≠ 9 by decide)] at H
    refine hk j v (by omega) ⟨_, a' - N.1 5, H, ?_, by omega, by omega, hwh⟩
    rw [md_cl_at.2.2.2 9 (by decide) (by decide), md_Sk (by decide), md_Se, e9, pk_sub hge]
end TKsmp
