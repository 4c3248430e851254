/-! round by round -/
theorem md_it_stop {σ : Type} {f : Nat → σ → σ} {s : σ} {i n : Nat} (h : i ≤ n) (hs : ∀ j, i ≤ j → f j (md_it f i s) = md_it f i s) : md_it f n s = md_it f i s := by
  induction n with
  | zero => have e : i = 0 := by omega
            rw [e]
  | succ n ih =>
    by_cases e : i = n + 1
    · rw [e]
    · show f n (md_it f n s) = _
      rw [ih (by omega)]
      exact hs n (by omega)
theorem md_r1_left (rd : Nat → Int32) (g : Nat → Int32) (left i : Nat) : (md_it (md_r1 rd) i (g, left, false)).2.1 ≤ left ∧ ((md_it (md_r1 rd) i (g, left, false)).2.2 = true → (md_it (md_r1 rd) i (g, left, false)).2.1 < left) := by
  induction i with
  | zero => exact ⟨Nat.le_refl _, fun h => by cases h⟩
  | succ n ih =>
    show (md_r1 rd n (md_it (md_r1 rd) n (g, left, false))).2.1 ≤ left ∧ ((md_r1 rd n (md_it (md_r1 rd) n (g, left, false))).2.2 = true → (md_r1 rd n (md_it (md_r1 rd) n (g, left, false))).2.1 < left)
    rw [md_r1]
    split
    · exact ih
    · next hc => refine ⟨by dsimp only; omega, fun _ => by dsimp only; omega⟩
theorem md_r3_stop {rd : Nat → Int32} {n k : Nat} {x : (Nat → Int32) × Nat × Bool} (h : ¬ (x.2.2 = true ∧ 0 < x.2.1)) : md_r3 rd n k x = x := by
  cases k with
  | zero => rfl
  | succ k => rw [md_r3, if_neg h]
def md_bi (b : Bool) : Int32 := if b then 1 else 0
section TTcar
variable {N : Nt} {t0 t : TS} {R : Rw} {cn cr co : Nat → Int32} {ns : Ns} {Q : Int32 → TS → Prop} {P : Unit → TS → Prop} {l f k : Nat} {x : Int32}
theorem tt_rr {rd : Nat → Int32} {xf x0 : (Nat → Int32) × Nat × Bool} (hN : md_ok N) (hl : l < md_nl N) (h : TT N t0 R cn cr co ns t) (hcn : ∀ f, f < md_nf N → cn (8 * l + f) = rd f) (hx0 : x0.2.1 ≤ 64) (hxf : md_r3 rd (md_nf N) 100 x0 = xf) (hcr : ∀ f, f < md_nf N → cr (8 * l + f) = x0.1 f)
    (kk : ∀ u cr', TT N t0 (md_E R l 7 (nI (N.2.1 l 1) - nI xf.2.1)) cn cr' co ns u → (∀ f, f < md_nf N → cr' (8 * l + f) = xf.1 f) → (∀ l' f, l' ≠ l → f < md_nf N → cr' (8 * l' + f) = cr (8 * l' + f)) → P () u) : wp (tw_lp (fm_carriesOf_L35 (nI l)) (fun _ _ _ => none) tw_fu (nI x0.2.1) (md_bi x0.2.2)) P t := by
  have hF := hN.nf
  have hL := hN.nl
  refine wp_wh2 (I := fun k v w u => ∃ (x : (Nat → Int32) × Nat × Bool) (cr' : Nat → Int32), v = nI x.2.1 ∧ w = md_bi x.2.2 ∧ x.2.1 ≤ 64 ∧ (if x.2.2 then x.2.1 + 1 else 0) ≤ k ∧ md_r3 rd (md_nf N) k x = xf ∧ TT N t0 R cn cr' co ns u ∧ (∀ f, f < md_nf N → cr' (8 * l + f) = x.1 f) ∧ (∀ l' f, l' ≠ l → f < md_nf N → cr' (8 * l' + f) = cr (8 * l' + f))) 100 (by decide) ⟨x0, cr, rfl, rfl, hx0, by split <;> omega, hxf, h, hcr, fun _ _ _ _ => rfl⟩ ?_
  rintro k g v w u ⟨x, cr', rfl, rfl, hx, hm, hxk, hu, hc1, hc2⟩ hk
  have fin : xf = x → wp (fm_carriesOf_J115 (nI l) (nI x.2.1)) P u := by
    intro e
    rw [e] at kk
    unfold fm_carriesOf_J115
    exact wp_bd (tt_cap hN hu hl (wp_bd (tt_wE (k := 7) hu (by omega) (by decide) fun v hv => wp_rt (kk v cr' hv hc1 hc2))))
  rw [fm_carriesOf_L35]
  by_cases hb : x.2.2 = true
  · rw [hb] at hm ⊢
    refine wp_ifF (by decide) ?_
    by_cases h0 : x.2.1 = 0
    · refine wp_ifT (by rw [h0]; decide) (fin ?_)
      rw [← hxk]
      exact md_r3_stop (by omega)
    · refine wp_ifF (nI_nle (by omega) (by omega)) ?_
      rw [if_pos rfl] at hm
      obtain ⟨j, rfl⟩ : ∃ j, k = j + 1 := ⟨k - 1, by omega⟩
      rw [md_r3, if_pos ⟨hb, by omega⟩] at hxk
      have out : ∀ (y : (Nat → Int32) × Nat × Bool) (cr'' : Nat → Int32) (v : TS), y = md_r2 rd (md_nf N) x → TT N t0 R cn cr'' co ns v → (∀ f, f < md_nf N → cr'' (8 * l + f) = y.1 f) → (∀ l' f, l' ≠ l → f < md_nf N → cr'' (8 * l' + f) = cr (8 * l' + f)) → wp (g (nI y.2.1) (md_bi y.2.2)) P v := by
        intro y cr'' v hy hv h1 h2
        have hlt := md_r1_left rd x.1 x.2.1 (md_nf N)
        rw [← hy] at hxk
        refine hk j _ _ v (by omega) ⟨y, cr'', rfl, rfl, ?_, ?_, hxk, hv, h1, h2⟩
        · rw [hy]; exact Nat.le_trans hlt.1 hx
        · split
          · next hyb => rw [hy] at hyb ⊢; have := hlt.2 hyb; unfold md_r2; omega
          · omega
      refine wp_forC (J := fun i a b u => ∃ (y : (Nat → Int32) × Nat × Bool) (cr'' : Nat → Int32), y = md_it (md_r1 rd) i (x.1, x.2.1, false) ∧ a = nI y.2.1 ∧ b = md_bi y.2.2 ∧ TT N t0 R cn cr'' co ns u ∧ (∀ f, f < md_nf N → cr'' (8 * l + f) = y.1 f) ∧ (∀ l' f, l' ≠ l → f < md_nf N → cr'' (8 * l' + f) = cr (8 * l' + f))) (md_nf N) (by omega) ⟨_, cr', rfl, rfl, rfl, hu, hc1, hc2⟩ rfl ?_ ?_
      · rintro i g' a b v hi ⟨y, cr'', hy, rfl, rfl, hv, h1, h2⟩ hk'
        have hyl := (md_r1_left rd x.1 x.2.1 i).1
        rw [← hy] at hyl
        rw [fm_carriesOf_L48]
        refine wp_bd (tt_flows hv (wp_ifF (nI_ge hi (by omega)) ?_))
        by_cases hy0 : y.2.1 = 0
        · refine wp_ifT (by rw [hy0]; decide) ?_
          unfold fm_carriesOf_J112
          refine out y cr'' v ?_ hv h1 h2
          rw [hy]
          refine (md_it_stop (by omega) fun j _ => ?_).symm
          rw [← hy, md_r1, if_pos (Or.inl hy0)]
        · refine wp_ifF (nI_nle (by omega) (by omega)) (wp_bd (tt_cr hv (by omega) (by omega) (wp_bd (tt_cn hv (by omega) (by omega) ?_))))
          rw [h1 i hi, hcn i hi]
          have hs : md_it (md_r1 rd) (i + 1) (x.1, x.2.1, false) = md_r1 rd i y := by rw [hy]; rfl
          unfold fm_carriesOf_J106
          by_cases e : y.1 i = rd i
          · refine wp_ifT e (hk' _ _ v ⟨y, cr'', ?_, rfl, rfl, hv, h1, h2⟩)
            rw [hs, md_r1, if_pos (Or.inr e.symm)]
          · refine wp_ifF e (wp_bd (tt_cr hv (by omega) (by omega) (wp_bd (tt_wcr hv (by omega) (by omega) fun v hv => ?_))))
            rw [h1 i hi] at hv
            refine hk' _ _ v ⟨md_r1 rd i y, _, hs.symm, ?_, ?_, hv, fun f hf => ?_, fun l' f hl' hf => ?_⟩
            · rw [md_r1, if_neg (by rintro (q | q); exact hy0 q; exact e q.symm)]
              obtain ⟨m, hm'⟩ : ∃ m, y.2.1 = m + 1 := ⟨y.2.1 - 1, by omega⟩
              dsimp only
              rw [hm', pk_m1]
              rfl
            · rw [md_r1, if_neg (by rintro (q | q); exact hy0 q; exact e q.symm)]
              rfl
            · rw [md_r1, if_neg (by rintro (q | q); exact hy0 q; exact e q.symm)]
              dsimp only
              unfold upd
              by_cases e2 : f = i
              · rw [if_pos (by omega), if_pos e2]
              · rw [if_neg (by omega), if_neg e2]; exact h1 f hf
            · rw [upd_ne (by omega)]; exact h2 l' f hl' hf
      · rintro g' a b v ⟨y, cr'', hy, rfl, rfl, hv, h1, h2⟩
        rw [fm_carriesOf_L48]
        refine wp_bd (tt_flows hv (wp_ifT (Int32.le_refl _) ?_))
        exact out y cr'' v hy hv h1 h2
  · rw [Bool.not_eq_true] at hb
    rw [hb]
    refine wp_ifT rfl (fin ?_)
    rw [← hxk]
    exact md_r3_stop (by rw [hb]; exact fun q => nomatch q.1)
theorem tt_car {rd : Nat → Int32} (hN : md_ok N) (hl : l < md_nl N) (h : TT N t0 R cn cr co ns t) (hcn : ∀ f, f < md_nf N → cn (8 * l + f) = rd f) (hcr : ∀ f, f < md_nf N → cr (8 * l + f) = 0)
    (kk : ∀ u cr', TT N t0 (md_E R l 7 (nI (N.2.1 l 1) - nI (md_gv N R rd l).2)) cn cr' co ns u → (∀ f, f < md_nf N → cr' (8 * l + f) = (md_gv N R rd l).1 f) → (∀ l' f, l' ≠ l → f < md_nf N → cr' (8 * l' + f) = cr (8 * l' + f)) → P () u) : wp (fm_carriesOf (nI l)) P t := by
  have hL := hN.nl
  have hc := hN.cap hl
  have hd := hN.delay hl
  unfold fm_carriesOf fm_carriesOf_J34
  refine wp_bd (tt_cap hN h hl (wp_bd (tt_delay hN h hl (wp_bd (tt_A h (by omega) (by omega) ?_)))))
  unfold md_gv at kk
  by_cases e : R.1 l (10 + N.2.1 l 2) = 0
  · simp only [if_pos e] at kk
    refine wp_ifT e (tt_rr (x0 := (fun _ => 0, N.2.1 l 1, true)) hN hl h hcn hc.2 rfl hcr kk)
  · simp only [if_neg e] at kk
    refine wp_ifF e (tt_rr (x0 := (fun _ => 0, N.2.1 l 1, false)) hN hl h hcn hc.2 (md_r3_stop (fun q => nomatch q.1)) hcr kk)
end TTcar
