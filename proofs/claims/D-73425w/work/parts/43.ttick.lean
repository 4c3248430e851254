/-! THE TWIN's TICK -/
section TTtick
variable {N : Nt} {t0 t : TS} {R : Rw} {cn cr co : Nat → Int32} {ns : Ns} {Q : Int32 → TS → Prop} {P : Unit → TS → Prop} {l f k : Nat} {x : Int32}
theorem nI_neg1 {n : Nat} (h : n < 2 ^ 31) : ¬ nI n = -nI 1 := by
  intro e
  have h1 := congrArg Int32.toInt e
  rw [nI_toInt h] at h1
  have h2 : (-nI 1 : Int32).toInt = -1 := by decide
  rw [h2] at h1
  omega
theorem tt_isOn (h : TT N t0 R cn cr co ns t) (hf : f < 8) (kk : Q (if R.2.1 f 7 = 1 then 1 else 0) t) : wp (fm_isOn (nI f)) Q t := by
  unfold fm_isOn fm_isOn_J21
  refine wp_bd (tt_flowAt (wp_bd (tt_S (k := 7) h hf (by decide) ?_)))
  refine wp_if (fun hc => wp_rz (Or.inr rfl) ?_) (fun hc => wp_rz (Or.inl rfl) ?_)
  · rw [if_pos hc] at kk; exact kk
  · rw [if_neg hc] at kk; exact kk
theorem md_c1_at (R : Rw) (n : Nat) : (md_it md_c1 n R).1 = R.1 ∧ (md_it md_c1 n R).2.2 = R.2.2 ∧ ∀ f k, (md_it md_c1 n R).2.1 f k = if f < n then (if k = 12 then 0 else if k = 8 ∧ ¬ R.2.1 f 7 = 0 then md_mn 1024 (R.2.1 f 8 + R.2.1 f 0) else R.2.1 f k) else R.2.1 f k := by
  induction n with
  | zero => exact ⟨rfl, rfl, fun f k => by rw [if_neg (Nat.not_lt_zero _)]; rfl⟩
  | succ n ih =>
    obtain ⟨h1, h2, h3⟩ := ih
    have e7 := h3 n 7
    have e8 := h3 n 8
    have e0 := h3 n 0
    rw [if_neg (Nat.lt_irrefl n)] at e7 e8 e0
    show (md_c1 n (md_it md_c1 n R)).1 = _ ∧ (md_c1 n (md_it md_c1 n R)).2.2 = _ ∧ ∀ f k, (md_c1 n (md_it md_c1 n R)).2.1 f k = _
    rw [md_c1, e7, e8, e0]
    by_cases hc : R.2.1 n 7 = 0
    · rw [if_pos hc]
      refine ⟨h1, h2, fun f k => ?_⟩
      show md_u2 _ n 12 0 f k = _
      unfold md_u2
      grind
    · rw [if_neg hc]
      refine ⟨h1, h2, fun f k => ?_⟩
      show md_u2 (md_u2 _ n 12 0) n 8 _ f k = _
      unfold md_u2
      grind
/-- what a tick asks of the flows -/
def md_is (N : Nt) (R : Rw) : Prop := ∀ f, f < md_nf N → (R.2.1 f 7 = 0 ∨ R.2.1 f 7 = 1) ∧ (∃ n, n ≤ 1024 ∧ R.2.1 f 8 = nI n) ∧ (∃ n, 1 ≤ n ∧ n ≤ 1024 ∧ R.2.1 f 0 = nI n) ∧ (∃ n, n ≤ 1024 ∧ R.2.1 f 1 = nI n) ∧ (∃ n, n ≤ 20000 ∧ R.2.1 f 3 = nI n) ∧ ∃ n, n ≤ 1000 ∧ R.2.1 f 9 = nI n
theorem md_wi_mn {n : Nat} (h : n < 2 ^ 31) : md_wi (nI n) 0 1024 = md_mn 1024 (nI n) := by
  unfold md_wi md_mn
  rw [if_pos (nI_pos' h), show (1024 : Int32) = nI 1024 from rfl]
  rcases Nat.lt_trichotomy n 1024 with h1 | h1 | h1
  · rw [if_pos (nI_le (by omega) (by decide)), if_pos (nI_lt h1 (by decide))]
  · rw [h1, if_pos (Int32.le_refl _), if_neg (nI_nlt (by omega) (by decide))]
  · rw [if_neg (nI_ge h1 h), if_neg (nI_nlt (by omega) h)]
/-- as a tick begins: the credits -/
theorem tt_t1 (hN : md_ok N) (hI : md_is N R) (h : TT N t0 R cn cr co ns t) (kk : ∀ u, TT N t0 (md_t1 N R) cn cr co ns u → wp (tw_bd fm_laysCan fun _ => tw_lp (fm_tickGoes_L69) (fun _ _ => none) tw_fu (0 : Int32)) P u) : wp fm_tickGoes P t := by
  have hF := hN.nf
  unfold fm_tickGoes
  refine wp_for (J := fun i u => TT N t0 (md_it md_c1 i R) cn cr co ns u) (md_nf N) (by omega) h rfl ?_ ?_
  · intro i f u hi hu hk
    unfold fm_tickGoes_L2 fm_tickGoes_J57
    have hat := (md_c1_at R i).2.2
    have e7 := hat i 7
    have e8 := hat i 8
    have e0 := hat i 0
    rw [if_neg (Nat.lt_irrefl i)] at e7 e8 e0
    obtain ⟨hon, ⟨a, ha, hae⟩, ⟨b, hb1, hb, hbe⟩, -⟩ := hI i hi
    refine wp_bd (tt_flows hu (wp_ifF (nI_ge hi (by omega)) (wp_bd (tt_flowAt (wp_bd (tt_isOn hu (by omega) ?_))))))
    have hd : md_it md_c1 (i + 1) R = md_c1 i (md_it md_c1 i R) := rfl
    rw [hd] at hk
    rw [md_c1] at hk
    rw [e7] at hk ⊢
    rcases hon with h0 | h0
    · rw [h0] at hk ⊢
      rw [if_pos rfl] at hk
      refine wp_ifT (by decide) (hk _ ?_)
      obtain ⟨h1, h2⟩ := hu
      exact ⟨h1.X, h2⟩
    · rw [h0] at hk ⊢
      rw [if_neg (by decide)] at hk
      refine wp_ifF (by decide) (wp_bd (tt_S (k := 8) hu (by omega) (by decide) (wp_bd (tt_S (k := 0) hu (by omega) (by decide) (wp_bd (tt_within ?_))))))
      rw [e8, e0, hae, hbe, nI_add] at hk
      rw [e8, e0, hae, hbe, nI_add, md_wi_mn (by omega)]
      have hu' : TT N t0 (md_S (md_it md_c1 i R) i 12 0) cn cr co ns u := ⟨hu.1.X, hu.2⟩
      exact wp_bd (tt_wS (k := 8) hu' (by omega) (by decide) hk)
  · intro f u hu
    unfold fm_tickGoes_L2
    exact wp_bd (tt_flows hu (wp_ifT (Int32.le_refl _) (kk u hu)))
/-! what each flow has for each link -/
theorem tt_can (hN : md_ok N) (h : TT N t0 R cn cr co ns t) (kk : ∀ u cn cr co, TT N t0 R cn cr co ns u → (∀ l f, l < md_nl N → f < md_nf N → cn (8 * l + f) = md_rdy N R l f ∧ cr (8 * l + f) = 0 ∧ co (8 * l + f) = 0) → P () u) : wp fm_laysCan P t := by
  have hF := hN.nf
  have hL := hN.nl
  unfold fm_laysCan
  refine wp_for (J := fun i u => ∃ cn cr co, TT N t0 R cn cr co ns u ∧ ∀ l f, l < i → f < md_nf N → cn (8 * l + f) = md_rdy N R l f ∧ cr (8 * l + f) = 0 ∧ co (8 * l + f) = 0) (md_nl N) (by omega) ⟨cn, cr, co, h, fun l f hl _ => absurd hl (Nat.not_lt_zero _)⟩ rfl ?_ ?_
  · rintro l g u hl ⟨cn, cr, co, hu, hd⟩ hk
    unfold fm_laysCan_L2
    refine wp_bd (tt_links hu (wp_ifF (nI_ge hl (by omega)) ?_))
    refine wp_for (J := fun i u => ∃ cn cr co, TT N t0 R cn cr co ns u ∧ ∀ l' f, (l' < l ∨ l' = l ∧ f < i) → f < md_nf N → cn (8 * l' + f) = md_rdy N R l' f ∧ cr (8 * l' + f) = 0 ∧ co (8 * l' + f) = 0) (md_nf N) (by omega) ⟨cn, cr, co, hu, fun l' f hl hf => hd l' f (by omega) hf⟩ rfl ?_ ?_
    · rintro f g' u hf ⟨cn, cr, co, hu, hd⟩ hk'
      have key : ∀ (w : Int32) (v : TS), TT N t0 R cn cr co ns v → w = md_rdy N R l f → wp (fm_laysCan_J97 (nI l) (nI f) g' w) P v := by
        intro w v hv hw
        unfold fm_laysCan_J97
        refine wp_bd (tt_wcn hv (by omega) (by omega) fun v hv => wp_bd (tt_wcr hv (by omega) (by omega) fun v hv => wp_bd (tt_wco hv (by omega) (by omega) fun v hv => hk' _ ⟨_, _, _, hv, fun l' f' hl' hf' => ?_⟩)))
        unfold upd
        by_cases e : 8 * l' + f' = 8 * l + f
        · rw [if_pos e, if_pos e, if_pos e]
          obtain ⟨rfl, rfl⟩ : l' = l ∧ f' = f := by omega
          exact ⟨hw, rfl, rfl⟩
        · rw [if_neg e, if_neg e, if_neg e]
          exact hd l' f' (by omega) hf'
      unfold fm_laysCan_L12
      have hle := md_hop_le N f l
      have hH := hN.ho hf
      refine wp_bd (tt_flows hu (wp_ifF (nI_ge hf (by omega)) (wp_bd (tt_hop hN hu hf hl ?_))))
      unfold md_ix
      unfold md_rdy at key
      by_cases e : md_hop N f l = md_ho N f
      · rw [if_pos e] at key ⊢
        exact wp_ifT rfl (key _ _ hu rfl)
      · rw [if_neg e] at key ⊢
        rw [show ((-1 : Int32)) = -nI 1 from rfl]
        refine wp_ifF (nI_neg1 (by omega)) ?_
        by_cases e0 : md_hop N f l = 0
        · rw [if_pos e0] at key
          rw [e0]
          exact wp_ifT rfl (wp_bd (tt_flowAt (wp_bd (tt_S (k := 8) hu (by omega) (by decide) (wp_bd (wp_nz (by decide) (key _ _ hu rfl)))))))
        · rw [if_neg e0] at key
          obtain ⟨j, hj⟩ : ∃ j, md_hop N f l = j + 1 := ⟨md_hop N f l - 1, by omega⟩
          rw [hj] at key ⊢
          have hp := hN.pa hf (show j < md_ho N f by omega)
          exact wp_ifF (nI_ne0 (by omega) (by omega)) (wp_bd (tt_pa1 hN hu hf (by omega) (wp_bd (tt_Q hu (by omega) (by omega) (key _ _ hu rfl)))))
    · rintro g' u ⟨cn, cr, co, hu, hd⟩
      unfold fm_laysCan_L12
      exact wp_bd (tt_flows hu (wp_ifT (Int32.le_refl _) (hk _ ⟨cn, cr, co, hu, fun l' f hl' hf => hd l' f (by omega) hf⟩)))
  · rintro g u ⟨cn, cr, co, hu, hd⟩
    unfold fm_laysCan_L2
    exact wp_bd (tt_links hu (wp_ifT (Int32.le_refl _) (wp_rt (kk u cn cr co hu hd))))
end TTtick
