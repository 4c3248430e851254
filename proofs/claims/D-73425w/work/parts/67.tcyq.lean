/-! THE TWIN: the first cycle -/
section Tcq
variable {U : (Nat → Nat) × Nat × Int32 × Int32} {N : Nt} {R X : Rw} {P : Nat × (Nat → Rw)} {I : Bool × Rw} {t t0 : TS} {cn cr co : Nat → Int32} {ns : Ns} {Q : Int32 → TS → Prop} {V : Unit → TS → Prop} {a b c : Int32} {m : Nat}
theorem tt_lc {ed : Nat → Nat → Bool} (he : ed = md_e0 N R) (hN : md_ok N) (h : TT N t0 R cn cr co ns t)
    (kk : ∀ u, TT N u R cn cr co ns u → tw_fc t u → u.1 42 = nI (md_cn ed (md_nl N)) → (∀ i, i < md_cn ed (md_nl N) → u.2.2.1 41 i = nI (md_cr ed (md_nl N) (md_f0 ed (md_nl N)) i)) → V () u) : wp fm_laysCycle V t := by
  have hL := hN.nl
  unfold fm_laysCycle
  refine wp_bd (tt_lw false hN h fun u hT hc h39 => ?_)
  have h39 : ∀ l, l < md_nl N → u.2.2.1 39 l = md_bs (ed l) (md_nl N) := by rw [he]; exact h39
  refine wp_bd (wp_pi ?_)
  have hc2 := hc.tr (tw_fc.p (t := u) (x := 0))
  have hT2 := hT.fc (tw_fc.p (t := u) (x := 0))
  have z42 : (upd u.1 42 0, u.2).1 42 = nI 0 := by dsimp only; exact upd_eq _ _ _
  have h39 : ∀ l, l < md_nl N → (upd u.1 42 (0 : Int32), u.2).2.2.1 39 l = md_bs (ed l) (md_nl N) := h39
  generalize (upd u.1 42 (0 : Int32), u.2) = v at hc2 hT2 z42 h39
  refine wp_bd (tt_cy (ed := ed) hN hT2 h39 fun u hT hc3 hA h1 => ?_)
  have hc := hc2.tr hc3
  have z42 : u.1 42 = nI 0 := by rw [h1]; exact z42
  have h39 : ∀ l, l < md_nl N → u.2.2.1 39 l = md_bs (ed l) (md_nl N) := fun l hl => by rw [hA 39 (by decide)]; exact h39 l hl
  unfold md_cn at kk
  have hle := md_fd_le (fun l => decide (md_ds ed (md_nl N) l (md_nl N) l ≠ 99)) (md_nl N)
  by_cases e : md_f0 ed (md_nl N) = md_nl N
  · rw [if_pos e] at kk
    refine wp_ifT ?_ (wp_rt (kk u hT hc z42 fun i hi => absurd hi (Nat.not_lt_zero _)))
    exact (bs_ne0 hL).mpr fun i hi => md_fd_no (p := fun l => decide (md_ds ed (md_nl N) l (md_nl N) l ≠ 99)) (by unfold md_f0 at e; rw [e]; exact hi)
  · rw [if_neg e] at kk
    have hf0 : md_f0 ed (md_nl N) < md_nl N := by unfold md_f0 at e ⊢; omega
    have his := md_fd_is (p := fun l => decide (md_ds ed (md_nl N) l (md_nl N) l ≠ 99)) hf0
    have his : md_ds ed (md_nl N) (md_f0 ed (md_nl N)) (md_nl N) (md_f0 ed (md_nl N)) ≠ 99 := of_decide_eq_true his
    have hno : ∀ i, i < md_f0 ed (md_nl N) → decide (md_ds ed (md_nl N) i (md_nl N) i ≠ 99) = false := fun i hi => md_fd_no (p := fun l => decide (md_ds ed (md_nl N) l (md_nl N) l ≠ 99)) hi
    have hds := md_ds_le (ed := ed) (n := md_nl N) (to := md_f0 ed (md_nl N)) (r := md_nl N) (a := md_f0 ed (md_nl N))
    have hcr := md_cr_at (show md_nl N ≤ 50 by omega) hf0 his
    generalize md_f0 ed (md_nl N) = to at kk hf0 his hno hds hcr e
    generalize hLg : md_ds ed (md_nl N) to (md_nl N) to = L at kk his hds hcr
    refine wp_ifF (fun q => ?_) ?_
    · have := (bs_ne0 hL).mp q to hf0
      rw [decide_eq_true (by rw [hLg]; exact his)] at this
      cases this
    refine wp_for (J := fun i v => v = u) to (by omega) rfl rfl ?_ ?_
    · rintro i g v hi rfl hk
      rw [fm_laysCycle_L22]
      unfold md_cy
      rw [bt_test _ (show i < 32 by omega), bt_bs hL (by omega), hno i hi, Bool.and_false]
      exact wp_ifT rfl (hk _ rfl)
    rintro g v rfl
    rw [fm_laysCycle_L22]
    unfold md_cy
    rw [bt_test _ (show to < 32 by omega), bt_bs hL (by omega), decide_eq_true hf0, decide_eq_true (by rw [hLg]; exact his)]
    refine wp_ifF (by decide) ?_
    refine wp_bd (tt_ls (ed := ed) hN hf0 hT h39 fun v hT2 hc2 hA2 h2 h40 => ?_)
    refine wp_bd (wp_ld (j := to) rfl rfl (show to < 10 by omega) (by decide) ?_)
    rw [h40 to hf0, hLg, md_ix, if_neg his]
    refine wp_bd (wp_pi ?_)
    have hc4 := (hc.tr hc2).tr (tw_fc.p (t := v) (x := nI L))
    have hT4 := hT2.fc (tw_fc.p (t := v) (x := nI L))
    have z42 : (upd v.1 42 (nI L), v.2).1 42 = nI L := by dsimp only; exact upd_eq _ _ _
    have h39' : ∀ l, l < md_nl N → (upd v.1 42 (nI L), v.2).2.2.1 39 l = md_bs (ed l) (md_nl N) := fun l hl => by dsimp only; rw [hA2 39 (by decide)]; exact h39 l hl
    have h40' : ∀ l, l < md_nl N → (upd v.1 42 (nI L), v.2).2.2.1 40 l = md_ix (md_ds ed (md_nl N) to (md_nl N) l) 99 := h40
    generalize (upd v.1 42 (nI L), v.2) = v' at hc4 hT4 z42 h39' h40'
    refine wp_forB (J := fun i w s => (i < L → w = nI (md_cr ed (md_nl N) to i)) ∧ TT N s R cn cr co ns s ∧ tw_fc t s ∧ s.1 42 = nI L ∧ (∀ l, l < md_nl N → s.2.2.1 39 l = md_bs (ed l) (md_nl N)) ∧ (∀ l, l < md_nl N → s.2.2.1 40 l = md_ix (md_ds ed (md_nl N) to (md_nl N) l) 99) ∧ ∀ j, j < i → s.2.2.1 41 j = nI (md_cr ed (md_nl N) to j)) L (by omega) ⟨fun _ => rfl, hT4, hc4, z42, h39', h40', fun j hj => absurd hj (Nat.not_lt_zero _)⟩ rfl ?_ ?_
    · rintro i g w s hi ⟨hw, hT, hc, z42, h39, h40, h41⟩ hk
      have hw := hw hi
      subst hw
      obtain ⟨r1, r2, r3, r4⟩ := hcr i hi
      rw [fm_laysCycle_L56]
      refine wp_bd (wp_gi ?_)
      rw [z42]
      refine wp_ifF (nI_ge hi (by omega)) (wp_bd (wp_st (j := i) rfl rfl (show i < 10 by omega) (by decide) ?_))
      have hc5 : tw_fc s (s.1, s.2.1, va_up s.2.2.1 41 (upd (s.2.2.1 41) i (nI (md_cr ed (md_nl N) to i))), s.2.2.2) := tw_fc.w (Or.inr (Or.inr rfl))
      have hT5 := hT.fc hc5
      have hc6 := hc.tr hc5
      have k42 : (s.1, s.2.1, va_up s.2.2.1 41 (upd (s.2.2.1 41) i (nI (md_cr ed (md_nl N) to i))), s.2.2.2).1 42 = nI L := z42
      have k39 : ∀ l, l < md_nl N → (s.1, s.2.1, va_up s.2.2.1 41 (upd (s.2.2.1 41) i (nI (md_cr ed (md_nl N) to i))), s.2.2.2).2.2.1 39 l = md_bs (ed l) (md_nl N) := fun l hl => by dsimp only; rw [md_up_ne (by decide)]; exact h39 l hl
      have k40 : ∀ l, l < md_nl N → (s.1, s.2.1, va_up s.2.2.1 41 (upd (s.2.2.1 41) i (nI (md_cr ed (md_nl N) to i))), s.2.2.2).2.2.1 40 l = md_ix (md_ds ed (md_nl N) to (md_nl N) l) 99 := fun l hl => by dsimp only; rw [md_up_ne (by decide)]; exact h40 l hl
      have k41 : ∀ j, j < i + 1 → (s.1, s.2.1, va_up s.2.2.1 41 (upd (s.2.2.1 41) i (nI (md_cr ed (md_nl N) to i))), s.2.2.2).2.2.1 41 j = nI (md_cr ed (md_nl N) to j) := fun j hj => by
        dsimp only
        rw [md_up_eq]
        by_cases e2 : j = i
        · rw [e2, upd_eq]
        · rw [upd_ne e2]; exact h41 j (by omega)
      generalize (s.1, s.2.1, va_up s.2.2.1 41 (upd (s.2.2.1 41) i (nI (md_cr ed (md_nl N) to i))), s.2.2.2) = s' at hT5 hc6 k42 k39 k40 k41
      by_cases e1 : i + 1 = L
      · refine wp_un (n := 999999) ?_
        rw [fm_laysCycle_L76]
        unfold fm_laysCycle_J132
        refine wp_bd (wp_gi ?_)
        rw [k42]
        refine wp_ifT (by rw [nI_1]; exact nI_le (by omega) (by omega)) (hk _ _ ⟨fun q => by omega, hT5, hc6, k42, k39, k40, k41⟩)
      · -- the next one
        have r5 := (hcr (i + 1) (by omega)).1
        have hp : ∀ n, n < md_cr ed (md_nl N) to (i + 1) → (decide (md_ds ed (md_nl N) to (md_nl N) n = L - (i + 1)) && ed (md_cr ed (md_nl N) to i) n) = false := fun n hn => by
          rw [md_cr, hLg] at hn
          exact md_fd_no (p := fun b => decide (md_ds ed (md_nl N) to (md_nl N) b = L - (i + 1)) && ed (md_cr ed (md_nl N) to i) b) hn
        have hi2 := (hcr (i + 1) (by omega)).2.1
        have hgap : (nI L - nI i) - 1 = nI (L - (i + 1)) := by rw [pk_sub (by omega), show L - i = (L - (i + 1)) + 1 by omega, nI_pred]
        refine wp_for (J := fun n v => v = s') (md_cr ed (md_nl N) to (i + 1)) (by omega) rfl rfl ?_ ?_
        · rintro n g' v hn rfl hk'
          have hdn := md_ds_le (ed := ed) (n := md_nl N) (to := to) (r := md_nl N) (a := n)
          rw [fm_laysCycle_L76]
          unfold fm_laysCycle_J126
          refine wp_bd (wp_gi ?_)
          rw [k42]
          refine wp_ifF (by rw [nI_1]; exact nI_ge (by omega) (by omega)) (wp_bd (wp_ld (j := md_cr ed (md_nl N) to i) rfl rfl (show _ < 10 by omega) (by decide) ?_))
          rw [k39 _ r1, bt_test _ (show n < 32 by omega), bt_bs hL (by omega), decide_eq_true (show n < md_nl N by omega), Bool.true_and]
          have hpn := hp n hn
          cases hen : ed (md_cr ed (md_nl N) to i) n with
          | false =>
            rw [show (if false = true then (1 : Int32) else 0) = 0 from rfl]
            exact wp_ifT rfl (hk' _ rfl)
          | true =>
            rw [hen, Bool.and_true] at hpn
            have hpn := of_decide_eq_false hpn
            rw [show (if true = true then (1 : Int32) else 0) = 1 from rfl]
            refine wp_ifF (by decide) ?_
            by_cases e3 : n = to
            · exact wp_ifT (by rw [e3]) (hk' _ rfl)
            · refine wp_ifF (by rw [nI_eq (by omega) (by omega)]; exact e3) (wp_bd (wp_ld (j := n) rfl rfl (show n < 10 by omega) (by decide) (wp_bd (wp_gi ?_))))
              rw [k42, k40 n (by omega), hgap]
              exact wp_ifF (fun q => hpn ((md_ix99 (by omega) (by omega)).mp q)) (hk' _ rfl)
        · rintro g' v rfl
          rw [fm_laysCycle_L76]
          unfold fm_laysCycle_J132
          refine wp_bd (wp_gi ?_)
          rw [k42]
          refine wp_ifF (by rw [nI_1]; exact nI_ge (by omega) (by omega)) (wp_bd (wp_ld (j := md_cr ed (md_nl N) to i) rfl rfl (show _ < 10 by omega) (by decide) ?_))
          rw [k39 _ r1, bt_test _ (show md_cr ed (md_nl N) to (i + 1) < 32 by omega), bt_bs hL (by omega), decide_eq_true r5, r3 (by omega)]
          refine wp_ifF (by decide) (wp_ifF (by rw [nI_eq (by omega) (by omega)]; intro q; rw [q, hLg] at hi2; omega) (wp_bd (wp_ld (j := md_cr ed (md_nl N) to (i + 1)) rfl rfl (show _ < 10 by omega) (by decide) (wp_bd (wp_gi ?_)))))
          rw [k42, k40 _ r5, hgap, hi2]
          exact wp_ifT ((md_ix99 (by omega) (by omega)).mpr rfl) (hk _ _ ⟨fun _ => rfl, hT5, hc6, k42, k39, k40, k41⟩)
    · rintro g w s ⟨hw, hT, hc, z42, h39, h40, h41⟩
      rw [fm_laysCycle_L56]
      refine wp_bd (wp_gi ?_)
      rw [z42]
      exact wp_ifT (Int32.le_refl _) (wp_rt (kk s hT hc z42 h41))
theorem md_cn_at {ed : Nat → Nat → Bool} {n : Nat} : md_cn ed n ≤ n ∧ (md_cn ed n ≠ 0 → md_f0 ed n < n ∧ md_ds ed n (md_f0 ed n) n (md_f0 ed n) ≠ 99 ∧ md_cn ed n = md_ds ed n (md_f0 ed n) n (md_f0 ed n)) := by
  unfold md_cn
  have hle := md_fd_le (fun l => decide (md_ds ed n l n l ≠ 99)) n
  have hds := md_ds_le (ed := ed) (n := n) (to := md_f0 ed n) (r := n) (a := md_f0 ed n)
  split
  · exact ⟨by omega, fun q => absurd rfl q⟩
  · next e =>
    have hf0 : md_f0 ed n < n := by unfold md_f0 at e ⊢; omega
    have his : md_ds ed n (md_f0 ed n) n (md_f0 ed n) ≠ 99 := of_decide_eq_true (md_fd_is (p := fun l => decide (md_ds ed n l n l ≠ 99)) hf0)
    exact ⟨by omega, fun _ => ⟨hf0, his, rfl⟩⟩
theorem tq_waits (hN : md_ok N) (h : TwA U N R P I t) : wp (fm_waits a) (fun r u => r = an_waits N R a ∧ TwA U N R P I u) t := by
  have hL := hN.nl
  unfold fm_waits
  refine tq_0 h fun u hu => ?_
  obtain ⟨⟨cn, cr, co, ns, hT⟩, hB⟩ := id hu
  unfold an_waits
  refine wp_bd (tt_isLink hN hT (fun e => ?_) (fun l hl ea e => ?_))
  · rw [e]; exact wp_ifT rfl (wp_rt ⟨rfl, hu⟩)
  · rw [e, ea]
    refine wp_ifF (by decide) (wp_bd (tt_lw false hN hT fun v hT2 hc h39 => ?_))
    refine wp_bd (wp_ld (j := l) rfl rfl (show l < 10 by omega) (by decide) (wp_rt ⟨h39 l hl, hu.fc hc⟩))
theorem tq_inCy (hN : md_ok N) (h : TwA U N R P I t) : wp (fm_inCycles a) (fun r u => r = an_inCy N R a ∧ TwA U N R P I u) t := by
  unfold fm_inCycles fm_inCycles_J14
  refine tq_0 h fun u hu => ?_
  obtain ⟨⟨cn, cr, co, ns, hT⟩, hB⟩ := id hu
  unfold an_inCy
  have go : ∀ b : Bool, wp (fm_inCycles_J27 (md_bi b)) (fun r u => r = md_cy (md_em2 N R b) (md_nl N) ∧ TwA U N R P I u) u := fun b => by
    unfold fm_inCycles_J27
    exact wp_bd (tt_lw b hN hT fun v hT2 hc h39 => wp_bd (tt_cy (ed := md_em2 N R b) hN hT2 h39 fun w _ hc2 _ _ => wp_rt ⟨rfl, (hu.fc hc).fc hc2⟩))
  refine wp_if (fun hc => ?_) (fun hc => wp_if (fun hc2 => wp_if (fun hc3 => ?_) (fun hc3 => ?_)) (fun hc2 => ?_))
  · rw [if_neg (by rintro rfl; exact absurd hc (by decide)), if_neg (by rintro rfl; exact absurd hc (by decide))]
    exact wp_rt ⟨rfl, hu⟩
  · rw [hc3, if_neg (by decide), if_pos rfl]
    exact go true
  · obtain ⟨j, hj, rfl⟩ := nI_of hc
    have hj1 := (nI_leI (b := 1) hj (by decide)).mp hc2
    have : j = 0 := by
      rcases Nat.lt_or_ge j 1 with q | q
      · omega
      · exact absurd (show nI j = 1 by rw [show j = 1 by omega]; rfl) hc3
    subst this
    rw [show nI 0 = 0 from rfl, if_pos rfl]
    exact go false
  · rw [if_neg (by rintro rfl; exact absurd (by decide) hc2), if_neg (by rintro rfl; exact absurd (by decide) hc2)]
    exact wp_rt ⟨rfl, hu⟩
theorem tq_cycle (hN : md_ok N) (h : TwA U N R P I t) : wp (fm_cycle a) (fun r u => r = an_cycle N R a ∧ TwA U N R P I u) t := by
  have hL := hN.nl
  have hcn := (md_cn_at (ed := md_e0 N R) (n := md_nl N)).1
  unfold fm_cycle fm_cycle_J34
  refine tq_0 h fun u hu => ?_
  obtain ⟨⟨cn, cr, co, ns, hT⟩, hB⟩ := id hu
  unfold an_cycle
  refine wp_if (fun hc => ?_) (fun hc => ?_)
  · rw [if_neg (i32_nlt.mpr hc)]
    refine wp_bd (tt_lc rfl hN hT fun v hT2 hcc h42 h41 => wp_bd (wp_gi ?_))
    rw [h42]
    rcases md_op_c a (n := md_cn (md_e0 N R) (md_nl N)) (by omega) with ⟨e1, e2⟩ | ⟨i, hi, rfl, e1⟩
    · rw [e1]
      rcases e2 with e2 | e2
      · exact absurd e2 (i32_nlt.mpr hc)
      · exact wp_ifT e2 (wp_rt ⟨rfl, hu.fc hcc⟩)
    · rw [e1]
      exact wp_ifF (nI_ge hi (by omega)) (wp_bd (wp_ld (j := i) rfl rfl (show i < 10 by omega) (by decide) (wp_rt ⟨h41 i hi, hu.fc hcc⟩)))
  · rw [if_pos (i32_nle.mp hc)]
    exact wp_rt ⟨rfl, hu⟩
theorem tq_wit (hN : md_ok N) (h : TwA U N R P I t) : wp (fm_witness a) (fun r u => r = an_wit N R a ∧ TwA U N R P I u) t := by
  have hL := hN.nl
  have hF := hN.nf
  obtain ⟨hcn, hcn2⟩ := md_cn_at (ed := md_e0 N R) (n := md_nl N)
  unfold fm_witness
  refine tq_0 h fun u hu => ?_
  obtain ⟨⟨cn, cr, co, ns, hT⟩, hB⟩ := id hu
  unfold an_wit
  refine wp_if (fun hc => ?_) (fun hc => ?_)
  · rw [if_neg (i32_nlt.mpr hc)]
    refine wp_bd (tt_lc rfl hN hT fun v hT2 hcc h42 h41 => wp_bd (wp_gi ?_))
    rw [h42]
    rcases md_op_c a (n := md_cn (md_e0 N R) (md_nl N)) (by omega) with ⟨e1, e2⟩ | ⟨i, hi, rfl, e1⟩
    · rw [e1]
      rcases e2 with e2 | e2
      · exact absurd e2 (i32_nlt.mpr hc)
      · exact wp_ifF (i32_nlt.mpr e2) (wp_rt ⟨rfl, hu.fc hcc⟩)
    · rw [e1]
      dsimp only
      obtain ⟨q1, q2, q3⟩ := hcn2 (by omega)
      have hcr := md_cr_at (show md_nl N ≤ 50 by omega) q1 q2
      rw [← q3] at hcr
      generalize md_cn (md_e0 N R) (md_nl N) = L at hi hcn h42 h41 hcr e1
      generalize md_f0 (md_e0 N R) (md_nl N) = to at h41 hcr q1
      have hmod : (i + 1) % L < L := Nat.mod_lt _ (by omega)
      have hed : md_e0 N R (md_cr (md_e0 N R) (md_nl N) to i) (md_cr (md_e0 N R) (md_nl N) to ((i + 1) % L)) = true := by
        obtain ⟨r1, r2, r3, r4⟩ := hcr i hi
        by_cases e : i + 1 = L
        · rw [e, Nat.mod_self]; exact r4 e
        · rw [Nat.mod_eq_of_lt (by omega)]; exact r3 (by omega)
      have r1 := (hcr i hi).1
      have r2 := (hcr _ hmod).1
      have hlt : md_fd (fun f => md_wt N R (md_cr (md_e0 N R) (md_nl N) to i) f (md_cr (md_e0 N R) (md_nl N) to ((i + 1) % L))) (md_nf N) < md_nf N := of_decide_eq_true hed
      refine wp_ifT (nI_lt hi (by omega)) (wp_bd (wp_gi ?_))
      rw [h42]
      refine wp_bd (wp_nz (nI_ne0 (by omega) (by omega)) ?_)
      rw [nI_1, pk_rem (by omega) (by omega) (by omega)]
      refine wp_bd (wp_ld (j := (i + 1) % L) rfl rfl (show _ < 10 by omega) (by decide) ?_)
      rw [h41 _ hmod]
      refine wp_for (J := fun f w => w = v) (md_fd (fun f => md_wt N R (md_cr (md_e0 N R) (md_nl N) to i) f (md_cr (md_e0 N R) (md_nl N) to ((i + 1) % L))) (md_nf N)) (by omega) rfl rfl ?_ ?_
      · rintro f g w hf rfl hk
        rw [fm_witness_L42]
        refine wp_bd (wp_ld (j := i) rfl rfl (show i < 10 by omega) (by decide) ?_)
        rw [h41 i hi]
        refine wp_bd (tt_wt hN hT2 r1 (by omega) r2 ?_)
        rw [md_fd_no (p := fun f => md_wt N R (md_cr (md_e0 N R) (md_nl N) to i) f (md_cr (md_e0 N R) (md_nl N) to ((i + 1) % L))) hf]
        exact wp_ifT rfl (hk _ rfl)
      · rintro g w rfl
        rw [fm_witness_L42]
        refine wp_bd (wp_ld (j := i) rfl rfl (show i < 10 by omega) (by decide) ?_)
        rw [h41 i hi]
        refine wp_bd (tt_wt hN hT2 r1 hlt r2 ?_)
        rw [md_fd_is (p := fun f => md_wt N R (md_cr (md_e0 N R) (md_nl N) to i) f (md_cr (md_e0 N R) (md_nl N) to ((i + 1) % L))) hlt]
        exact wp_ifF (by decide) (wp_rt ⟨rfl, hu.fc hcc⟩)
  · rw [if_pos (i32_nle.mp hc)]
    exact wp_rt ⟨rfl, hu⟩
theorem tt_stl (hN : md_ok N) (h : TT N t0 R cn cr co ns t) (kk : ∀ u, tw_fc t u → Q (md_bi (md_stl N R)) u) : wp fm_isStalled Q t := by
  unfold fm_isStalled fm_isStalled_J17
  refine wp_bd (tt_lw false hN h fun v hT2 hc h39 => wp_bd (tt_cy (ed := md_em2 N R false) hN hT2 h39 fun w _ hc2 _ _ => ?_))
  have kk := kk w (hc.tr hc2)
  unfold md_stl at kk
  refine wp_if (fun hc => wp_rz (Or.inl rfl) ?_) (fun hc => wp_rz (Or.inr rfl) ?_)
  · have hc : md_cy (md_e0 N R) (md_nl N) = 0 := hc
    rw [decide_eq_false (fun q => q hc)] at kk; exact kk
  · have hc : md_cy (md_e0 N R) (md_nl N) ≠ 0 := hc
    rw [decide_eq_true hc] at kk; exact kk
theorem tq_stl (hN : md_ok N) (hI : md_iv N m R) (hm : m ≤ 9999) (h : TwA U N R P I t) : wp fm_stalls (fun r u => r = an_stl N R ∧ TwA U N R P I u) t := by
  unfold fm_stalls
  refine tq_0 h fun u hu => ?_
  refine wp_bd (ts_save (Or.inl rfl) hu fun v hv => ?_)
  have hv : TwS 27 U N R P I (md_tn N 0 R) v := hv
  unfold an_stl
  have fin : ∀ (i : Nat) (v : TS), i ≤ 300 → (i = 300 ∨ md_stl N (md_tn N i R) = true) → (∀ j, j < i → md_stl N (md_tn N j R) = false) → TwS 27 U N R P I (md_tn N i R) v → wp (fm_stalls_J44 (nI i)) (fun r u => r = md_un (fun n => md_stl N (md_tn N n R)) ∧ TwA U N R P I u) v := by
    intro i v hi h1 h2 hv
    unfold fm_stalls_J44 fm_stalls_J72
    obtain ⟨cn, cr, co, ns, hT⟩ := hv.1
    refine wp_bd (tt_stl hN hT fun w hw => wp_bd (ts_rest (Or.inl rfl) (hv.fc (Or.inl rfl) hw) fun u hu => ?_))
    have hu := hu.A
    by_cases e : md_stl N (md_tn N i R) = true
    · rw [e]
      refine wp_ifF (by decide) (wp_rt ⟨?_, hu⟩)
      rw [md_un, md_fd_eq (n := 301) (by omega) e h2, if_neg (by omega)]
    · have e' : md_stl N (md_tn N i R) = false := by rw [← Bool.not_eq_true]; exact e
      rw [e']
      refine wp_ifT rfl (wp_rt ⟨?_, hu⟩)
      have hi3 : i = 300 := by rcases h1 with q | q; exact q; exact absurd q e
      subst hi3
      rw [md_un, if_pos]
      have hle := md_fd_le (fun n => md_stl N (md_tn N n R)) 301
      rcases Nat.lt_or_ge (md_fd (fun n => md_stl N (md_tn N n R)) 301) 301 with q | q
      · have q2 := md_fd_is q
        rcases Nat.lt_or_ge (md_fd (fun n => md_stl N (md_tn N n R)) 301) 300 with q3 | q3
        · rw [h2 _ q3] at q2; cases q2
        · rw [show md_fd (fun n => md_stl N (md_tn N n R)) 301 = 300 by omega, e'] at q2; cases q2
      · omega
  refine wp_wh1 (I := fun k x v => ∃ i, i + k = 300 ∧ x = nI i ∧ (∀ j, j < i → md_stl N (md_tn N j R) = false) ∧ TwS 27 U N R P I (md_tn N i R) v) 300 (by decide) ⟨0, rfl, rfl, fun j hj => absurd hj (Nat.not_lt_zero _), hv⟩ ?_
  rintro k g x v ⟨i, hik, rfl, hno, hv⟩ hk
  rw [fm_stalls_L20]
  obtain ⟨cn, cr, co, ns, hT⟩ := hv.1
  by_cases e3 : i = 300
  · refine wp_ifT (nI_le (a := 300) (by omega) (by omega)) (fin i v (by omega) (Or.inl e3) hno hv)
  · refine wp_ifF (nI_ge (b := 300) (by omega) (by decide)) (wp_bd (tt_stl hN hT fun w hw => ?_))
    have hw := hv.fc (Or.inl rfl) hw
    by_cases e : md_stl N (md_tn N i R) = true
    · rw [e]
      exact wp_ifF (by decide) (fin i w (by omega) (Or.inr e) hno hw)
    · have e' : md_stl N (md_tn N i R) = false := by rw [← Bool.not_eq_true]; exact e
      rw [e']
      refine wp_ifT rfl (wp_bd (ts_tick (Or.inl rfl) hN (hI.tn hN (n := i) (by omega)) (by omega) hw fun v hv _ => ?_))
      refine hk (k - 1) _ v (by omega) ⟨i + 1, by omega, nI_1 i, fun j hj => ?_, hv⟩
      by_cases e4 : j = i
      · rw [e4]; exact e'
      · exact hno j (by omega)
end Tcq
