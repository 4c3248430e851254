/-! what leaves goes along with what is carried -/
theorem md_EE {R : Rw} {l k : Nat} {x y : Int32} : md_E (md_E R l k x) l k y = md_E R l k y := by
  unfold md_E md_u2
  dsimp only
  congr 1
  funext a b
  split
  · rfl
  · rfl
theorem md_lv_E {N : Nt} {l f a : Nat} {n y : Int32} {R : Rw} : md_lv N l f n (md_E R a 7 y) = md_E (md_lv N l f n R) a 7 y := by
  unfold md_lv
  split
  · rfl
  · split
    · rfl
    · unfold md_E md_u2
      dsimp only
      congr 1
      funext i j
      grind
theorem md_lv_ca {N : Nt} {l f : Nat} {n : Int32} {a : Nat → Int32} {k : Nat} {X : Rw} : md_lv N l f n (md_ca a k X) = md_ca a k (md_lv N l f n X) := by
  unfold md_lv
  split
  · rfl
  · split
    · rfl
    · unfold md_ca md_E md_u2
      dsimp only
      congr 1
      funext i j
      grind
theorem md_lvs_ca {N : Nt} {g : Nat → Int32} {l n : Nat} {a : Nat → Int32} {k : Nat} {X : Rw} : md_it (fun f => md_lv N l f (g f)) n (md_ca a k X) = md_ca a k (md_it (fun f => md_lv N l f (g f)) n X) := by
  induction n with
  | zero => rfl
  | succ n ih => rw [md_it, ih, md_lv_ca]; rfl
theorem md_lvs2_ca {N : Nt} {g : Nat → Nat → Int32} {n m : Nat} {a : Nat → Int32} {k : Nat} {X : Rw} : md_it (fun l => md_it (fun f => md_lv N l f (g l f)) m) n (md_ca a k X) = md_ca a k (md_it (fun l => md_it (fun f => md_lv N l f (g l f)) m) n X) := by
  induction n with
  | zero => rfl
  | succ n ih => rw [md_it, ih, md_lvs_ca]; rfl
section TKcar
variable {o tb b : Nat} {N : Nt} {la fa : Nat → Nat} {F0 : Nat → Value} {h0 h : Hp} {R R' : Rw} {rd gv co : Nat → Int32} {ns : Ns} {Q : Int32 → Hp → Prop} {P : Unit → Hp → Prop} {A : Nat → Hp → Prop} {l f k j : Nat} {x : Int32}
theorem tk_nf (H : TK o N tb la fa b F0 h0 R rd gv co ns h) (kk : Q (nI (md_nf N)) h) : wp (gw_gi 1 3 tb) Q h := tk_num (k := 1) H (by decide) kk
theorem tk_nl (H : TK o N tb la fa b F0 h0 R rd gv co ns h) (kk : Q (nI (md_nl N)) h) : wp (gw_gi 1 2 tb) Q h := tk_num (k := 0) H (by decide) kk
theorem tk_leaves {n s : Int32} (H : TK o N tb la fa b F0 h0 (md_E R l 7 s) rd gv co ns h) (hl : l < md_nl N) (hf : f < md_nf N) (hz : n ≠ 0 → md_hop N f l < md_ho N f) (kk : ∀ u, TK o N tb la fa b F0 h0 (md_E (md_lv N l f n R) l 7 (s + n)) rd gv co ns u → P () u) : wp (gw_on 0 o (fx_X1_leaves o b (nI l) (nI f) n)) P h := by
  have hL := H.1.1.nl
  have hF := H.1.1.nf
  have hH := H.1.1.ho hf
  obtain ⟨F, e⟩ := H.root
  refine w_on e ?_
  unfold fx_X1_leaves
  by_cases e : n = 0
  · refine wp_ifT e (wp_rt (kk _ ?_))
    rw [md_lv, if_pos e, e, Int32.add_zero]
    exact H
  · have hh := hz e
    rw [← md_lv_E, md_lv, if_neg e] at kk
    refine wp_ifF e ?_
    refine wp_bd (tk_told H ?_)
    refine wp_bd (tk_flows H ?_)
    refine wp_bd (tk_flow H hf ?_)
    refine wp_bd (tk_snds H ?_)
    refine wp_bd (tk_snd H (by omega) ?_)
    refine wp_bd (tk_at H hf hl ?_)
    rw [md_ixn hh]
    refine wp_bd (tk_ends H ?_)
    refine wp_bd (tk_end H (by omega) ?_)
    refine wp_bd (tk_gE 9 7 H hl (by decide) ?_)
    rw [md_Ee]
    refine wp_bd (tk_pE 9 7 H hl (by decide) fun u H => ?_)
    rw [md_EE] at H
    by_cases e0 : md_hop N f l = 0
    · rw [if_pos e0] at kk
      rw [e0]
      refine wp_ifT (by decide) ?_
      refine wp_bd (tk_gS 6 8 H hf (by decide) ?_)
      refine wp_bd (tk_pS 6 8 H hf (by decide) fun u H => ?_)
      refine wp_bd (tk_gS 2 4 H hf (by decide) ?_)
      refine wp_bd (tk_pS 2 4 H hf (by decide) fun u H => ?_)
      refine wp_bd (tk_gS 9 12 H hf (by decide) ?_)
      refine wp_bd (tk_pS 9 12 H hf (by decide) fun u H => wp_rt (kk u ?_))
      rw [md_Sk (show 12 ≠ 4 by decide), md_Sk (show 12 ≠ 8 by decide), md_Sk (show 4 ≠ 8 by decide)] at H
      exact H
    · rw [if_neg e0] at kk
      obtain ⟨j, hj⟩ : ∃ j, md_hop N f l = j + 1 := ⟨md_hop N f l - 1, by omega⟩
      rw [hj] at kk ⊢
      have hp := H.1.1.pa hf (show j < md_ho N f by omega)
      refine wp_ifF (nI_nle (by omega) (by omega)) ?_
      refine wp_bd (tk_ends H ?_)
      refine wp_bd (tk_path H hf ?_)
      refine wp_bd (tk_pa (k := j) H hf (by omega) (nI_pred j) ?_)
      refine wp_bd (tk_end H (by omega) ?_)
      refine wp_bd (tk_cells H (by omega) ?_)
      refine wp_bd (tk_ldQ H hp (by omega) ?_)
      exact wp_bd (tk_pQ H hp (by omega) fun u H => wp_rt (kk u H))
/-- all that leaves by a link -/
theorem tk_lvs {g : Nat → Int32} (H : TK o N tb la fa b F0 h0 (md_E R l 7 0) rd gv co ns h) (hl : l < md_nl N) (hg : ∀ f, f < md_nf N → gv (8 * l + f) = g f) (hz : ∀ f, f < md_nf N → g f ≠ 0 → md_hop N f l < md_ho N f) (kk : ∀ u, TK o N tb la fa b F0 h0 (md_E (md_it (fun f => md_lv N l f (g f)) (md_nf N) R) l 7 (md_sum g (md_nf N))) rd gv co ns u → P () u) : wp (fx_X1_carries_J158 o (nI l) b) P h := by
  have hL := H.1.1.nl
  have hF := H.1.1.nf
  unfold fx_X1_carries_J158
  refine wp_for (J := fun i u => TK o N tb la fa b F0 h0 (md_E (md_it (fun f => md_lv N l f (g f)) i R) l 7 (md_sum g i)) rd gv co ns u) (md_nf N) (by omega) H rfl ?_ ?_
  · rintro f r u hf H hk
    rw [fx_X1_carries_L161]
    refine wp_bd (tk_told H ?_)
    refine wp_bd (tk_nf H ?_)
    refine wp_ifF (nI_ge hf (by omega)) ?_
    refine wp_bd (tk_gv H ?_)
    refine wp_bd (tk_ldg H (by omega) (by omega) ?_)
    rw [hg f hf]
    exact wp_bd (tk_leaves H hl hf (hz f hf) fun u H => hk u H)
  · rintro r u H
    rw [fx_X1_carries_L161]
    refine wp_bd (tk_told H ?_)
    refine wp_bd (tk_nf H ?_)
    exact wp_ifT (Int32.le_refl _) (wp_rt (kk u H))
theorem tk_rr {rdm : Nat → Int32} {xf x0 : (Nat → Int32) × Nat × Bool} (H : TK o N tb la fa b F0 h0 R rd gv co ns h) (hl : l < md_nl N) (hrd : ∀ f, f < md_nf N → rd (8 * l + f) = rdm f) (hx0 : x0.2.1 ≤ 64) (hxf : md_r3 rdm (md_nf N) 100 x0 = xf) (hgv : ∀ f, f < md_nf N → gv (8 * l + f) = x0.1 f)
    (kk : ∀ u gv', TK o N tb la fa b F0 h0 R rd gv' co ns u → (∀ f, f < md_nf N → gv' (8 * l + f) = xf.1 f) → (∀ l' f, l' ≠ l → f < md_nf N → gv' (8 * l' + f) = gv (8 * l' + f)) → wp (fx_X1_carries_J158 o (nI l) b) P u) : wp (tw_lp (fx_X1_carries_L72 o (nI l) b) (fun _ _ _ => none) tw_fu (nI x0.2.1) (md_bi x0.2.2)) P h := by
  have hL := H.1.1.nl
  have hF := H.1.1.nf
  refine wp_wh2 (I := fun k v w u => ∃ (x : (Nat → Int32) × Nat × Bool) (gv' : Nat → Int32), v = nI x.2.1 ∧ w = md_bi x.2.2 ∧ x.2.1 ≤ 64 ∧ (if x.2.2 then x.2.1 + 1 else 0) ≤ k ∧ md_r3 rdm (md_nf N) k x = xf ∧ TK o N tb la fa b F0 h0 R rd gv' co ns u ∧ (∀ f, f < md_nf N → gv' (8 * l + f) = x.1 f) ∧ (∀ l' f, l' ≠ l → f < md_nf N → gv' (8 * l' + f) = gv (8 * l' + f))) 100 (by decide) ⟨x0, gv, rfl, rfl, hx0, by split <;> omega, hxf, H, hgv, fun _ _ _ _ => rfl⟩ ?_
  rintro k g v w u ⟨x, gv', rfl, rfl, hx, hm, hxk, H, hc1, hc2⟩ hk
  have fin : xf = x → wp (fx_X1_carries_J158 o (nI l) b) P u := by
    intro e
    rw [e] at kk
    exact kk u gv' H hc1 hc2
  rw [fx_X1_carries_L72]
  by_cases hb : x.2.2 = true
  · rw [hb] at hm ⊢
    refine wp_ifF (by decide) ?_
    by_cases hx1 : x.2.1 = 0
    · refine wp_ifT (by rw [hx1]; decide) (fin ?_)
      rw [← hxk]
      exact md_r3_stop (by omega)
    · refine wp_ifF (nI_nle (by omega) (by omega)) ?_
      rw [if_pos rfl] at hm
      obtain ⟨j, rfl⟩ : ∃ j, k = j + 1 := ⟨k - 1, by omega⟩
      rw [md_r3, if_pos ⟨hb, by omega⟩] at hxk
      have out : ∀ (y : (Nat → Int32) × Nat × Bool) (gv'' : Nat → Int32) (v : Hp), y = md_r2 rdm (md_nf N) x → TK o N tb la fa b F0 h0 R rd gv'' co ns v → (∀ f, f < md_nf N → gv'' (8 * l + f) = y.1 f) → (∀ l' f, l' ≠ l → f < md_nf N → gv'' (8 * l' + f) = gv (8 * l' + f)) → wp (g (nI y.2.1) (md_bi y.2.2)) P v := by
        intro y gv'' v hy hv h1 h2
        have hlt := md_r1_left rdm x.1 x.2.1 (md_nf N)
        rw [← hy] at hxk
        refine hk j _ _ v (by omega) ⟨y, gv'', rfl, rfl, ?_, ?_, hxk, hv, h1, h2⟩
        · rw [hy]; exact Nat.le_trans hlt.1 hx
        · split
          · next hyb => rw [hy] at hyb ⊢; have := hlt.2 hyb; unfold md_r2; omega
          · omega
      refine wp_forC (J := fun i a c u => ∃ (y : (Nat → Int32) × Nat × Bool) (gv'' : Nat → Int32), y = md_it (md_r1 rdm) i (x.1, x.2.1, false) ∧ a = nI y.2.1 ∧ c = md_bi y.2.2 ∧ TK o N tb la fa b F0 h0 R rd gv'' co ns u ∧ (∀ f, f < md_nf N → gv'' (8 * l + f) = y.1 f) ∧ (∀ l' f, l' ≠ l → f < md_nf N → gv'' (8 * l' + f) = gv (8 * l' + f))) (md_nf N) (by omega) ⟨_, gv', rfl, rfl, rfl, H, hc1, hc2⟩ rfl ?_ ?_
      · rintro i g' a c v hi ⟨y, gv'', hy, rfl, rfl, hv, h1, h2⟩ hk'
        have hyl := (md_r1_left rdm x.1 x.2.1 i).1
        rw [← hy] at hyl
        rw [fx_X1_carries_L87]
        refine wp_bd (tk_told hv ?_)
        refine wp_bd (tk_nf hv ?_)
        refine wp_ifF (nI_ge hi (by omega)) ?_
        by_cases hy0 : y.2.1 = 0
        · refine wp_ifT (by rw [hy0]; decide) ?_
          unfold fx_X1_carries_J155
          refine out y gv'' v ?_ hv h1 h2
          rw [hy]
          refine (md_it_stop (by omega) fun j _ => ?_).symm
          rw [← hy, md_r1, if_pos (Or.inl hy0)]
        · refine wp_ifF (nI_nle (by omega) (by omega)) ?_
          refine wp_bd (tk_rd hv ?_)
          refine wp_bd (tk_ldr hv (by omega) (by omega) ?_)
          refine wp_bd (tk_gv hv ?_)
          refine wp_bd (tk_ldg hv (by omega) (by omega) ?_)
          rw [h1 i hi, hrd i hi]
          have hs : md_it (md_r1 rdm) (i + 1) (x.1, x.2.1, false) = md_r1 rdm i y := by rw [hy]; rfl
          unfold fx_X1_carries_J149
          by_cases e : rdm i = y.1 i
          · refine wp_ifT e (hk' _ _ v ⟨y, gv'', ?_, rfl, rfl, hv, h1, h2⟩)
            rw [hs, md_r1, if_pos (Or.inr e)]
          · refine wp_ifF e ?_
            refine wp_bd (tk_gv hv ?_)
            refine wp_bd (tk_ldg hv (by omega) (by omega) ?_)
            refine wp_bd (tk_stv hv (by omega) (by omega) fun v hv => ?_)
            rw [h1 i hi] at hv
            refine hk' _ _ v ⟨md_r1 rdm i y, _, hs.symm, ?_, ?_, hv, fun f hf => ?_, fun l' f hl' hf => ?_⟩
            · rw [md_r1, if_neg (by rintro (q | q); exact hy0 q; exact e q)]
              obtain ⟨m, hm'⟩ : ∃ m, y.2.1 = m + 1 := ⟨y.2.1 - 1, by omega⟩
              dsimp only
              rw [hm', pk_m1]
              rfl
            · rw [md_r1, if_neg (by rintro (q | q); exact hy0 q; exact e q)]
              rfl
            · rw [md_r1, if_neg (by rintro (q | q); exact hy0 q; exact e q)]
              dsimp only
              unfold upd
              by_cases e2 : f = i
              · rw [if_pos (by omega), if_pos e2]
              · rw [if_neg (by omega), if_neg e2]; exact h1 f hf
            · rw [upd_ne (by omega)]; exact h2 l' f hl' hf
      · rintro g' a c v ⟨y, gv'', hy, rfl, rfl, hv, h1, h2⟩
        rw [fx_X1_carries_L87]
        refine wp_bd (tk_told hv ?_)
        refine wp_bd (tk_nf hv ?_)
        refine wp_ifT (Int32.le_refl _) ?_
        exact out y gv'' v hy hv h1 h2
  · rw [Bool.not_eq_true] at hb
    rw [hb]
    refine wp_ifT rfl (fin ?_)
    rw [← hxk]
    exact md_r3_stop (by rw [hb]; exact fun q => nomatch q.1)
theorem tk_car {rdm : Nat → Int32} (H : TK o N tb la fa b F0 h0 R rd gv co ns h) (hl : l < md_nl N) (hrd : ∀ f, f < md_nf N → rd (8 * l + f) = rdm f) (hfl : ∀ k, k < 5 → R.1 l (10 + k) = 0 ∨ R.1 l (10 + k) = 1) (hz : ∀ f, f < md_nf N → (md_gv N R rdm l).1 f ≠ 0 → md_hop N f l < md_ho N f)
    (kk : ∀ u gv', TK o N tb la fa b F0 h0 (md_E (md_it (fun f => md_lv N l f ((md_gv N R rdm l).1 f)) (md_nf N) R) l 7 (nI (N.2.1 l 1) - nI (md_gv N R rdm l).2)) rd gv' co ns u → (∀ f, f < md_nf N → gv' (8 * l + f) = (md_gv N R rdm l).1 f) → (∀ l' f, l' ≠ l → f < md_nf N → gv' (8 * l' + f) = gv (8 * l' + f)) → P () u) : wp (gw_on 0 o (fx_X1_carries o b (nI l))) P h := by
  have hL := H.1.1.nl
  have hF := H.1.1.nf
  have hcap := H.1.1.cap hl
  obtain ⟨F, e⟩ := H.root
  refine w_on e ?_
  have hsum : md_sum (md_gv N R rdm l).1 (md_nf N) = nI (N.2.1 l 1) - nI (md_gv N R rdm l).2 := by
    obtain ⟨c, c1, c2, -⟩ := md_gv_b (N := N) (R := R) (rd := rdm) (l := l)
    rw [md_sum_nI fun i _ => c1 i, pk_sub (by omega)]
    congr 1
    omega
  rw [← hsum] at kk
  -- from the round's start on
  have go : ∀ (w : Nat) (x0 : (Nat → Int32) × Nat × Bool), x0 = (fun _ => 0, w, true) → w ≤ 64 → (md_r3 rdm (md_nf N) 100 x0).1 = (md_gv N R rdm l).1 → wp (fx_X1_carries_J24 b (nI l) o (nI w)) P h := by
    intro w x0 hx hw hx2
    unfold fx_X1_carries_J24
    refine wp_bd (tk_ends H ?_)
    refine wp_bd (tk_end H (by omega) ?_)
    refine wp_bd (tk_pE 9 7 H hl (by decide) fun u H => ?_)
    refine wp_for (J := fun i u => ∃ gv', TK o N tb la fa b F0 h0 (md_E R l 7 0) rd gv' co ns u ∧ (∀ f, f < i → gv' (8 * l + f) = 0) ∧ (∀ l' f, l' ≠ l → f < md_nf N → gv' (8 * l' + f) = gv (8 * l' + f))) (md_nf N) (by omega) ⟨gv, H, fun f hf => absurd hf (Nat.not_lt_zero _), fun _ _ _ _ => rfl⟩ rfl ?_ ?_
    · rintro f g u hf ⟨gv', H, h1, h2⟩ hk
      rw [fx_X1_carries_L38]
      refine wp_bd (tk_told H ?_)
      refine wp_bd (tk_nf H ?_)
      refine wp_ifF (nI_ge hf (by omega)) ?_
      refine wp_bd (tk_gv H ?_)
      refine wp_bd (tk_stv H (by omega) (by omega) fun u H => hk u ⟨_, H, fun f' hf' => ?_, fun l' f' hl' hf' => ?_⟩)
      · unfold upd
        by_cases e2 : f' = f
        · rw [if_pos (by omega)]
        · rw [if_neg (by omega)]; exact h1 f' (by omega)
      · rw [upd_ne (by omega)]; exact h2 l' f' hl' hf'
    · rintro g u ⟨gv', H, h1, h2⟩
      rw [fx_X1_carries_L38]
      refine wp_bd (tk_told H ?_)
      refine wp_bd (tk_nf H ?_)
      refine wp_ifT (Int32.le_refl _) ?_
      subst hx
      refine tk_rr (x0 := (fun _ => 0, w, true)) H hl hrd hw rfl h1 fun u gv'' H r1 r2 => ?_
      rw [hx2] at r1
      exact tk_lvs H hl r1 hz fun u H => kk u gv'' H r1 fun l' f hl' hf => by rw [r2 l' f hl' hf]; exact h2 l' f hl' hf
  unfold fx_X1_carries
  refine wp_bd (tk_paused H hl hfl ?_)
  by_cases e : R.1 l (10 + N.2.1 l 2) = 0
  · rw [if_pos e]
    refine wp_ifT rfl ?_
    refine wp_bd (tk_told H ?_)
    refine wp_bd (tk_links H ?_)
    refine wp_bd (tk_link H hl ?_)
    refine wp_bd (tk_gL (k := 1) H hl (by decide) ?_)
    refine go _ _ rfl hcap.2 ?_
    unfold md_gv
    rw [if_pos e]
  · rw [if_neg e]
    refine wp_ifF (by decide) ?_
    refine go 0 _ rfl (by decide) ?_
    rw [md_r3_stop (by exact fun q => absurd q.2 (by decide))]
    unfold md_gv
    rw [if_neg e]
end TKcar
