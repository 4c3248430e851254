/-! THE TWIN: its whole state; questions -/
def TwB (U : (Nat → Nat) × Nat × Int32 × Int32) (P : Nat × (Nat → Rw)) (I : Bool × Rw) (t : TS) : Prop :=
  (∀ k, k < 700 → t.2.2.1 1 k = nI (U.1 k)) ∧ t.1 2 = nI U.2.1 ∧ t.1 24 = U.2.2.1 ∧ t.1 25 = U.2.2.2 ∧ t.1 31 = nI P.1 ∧ t.1 32 = md_bi I.1 ∧ (I.1 = true → tw_rw I.2 (t.2.2.1 29)) ∧ ∀ i, i < P.1 → tw_rw (P.2 i) (fun k => t.2.2.1 30 (337 * i + k))
def TwA (U : (Nat → Nat) × Nat × Int32 × Int32) (N : Nt) (R : Rw) (P : Nat × (Nat → Rw)) (I : Bool × Rw) (t : TS) : Prop := (∃ cn cr co ns, TT N t R cn cr co ns t) ∧ TwB U P I t
theorem tw_sm.rf (t : TS) : tw_sm t t := ⟨fun _ _ => rfl, rfl, fun _ _ _ => rfl, rfl⟩
theorem TT.base {N : Nt} {t0 t : TS} {R : Rw} {cn cr co : Nat → Int32} {ns : Ns} (h : TT N t0 R cn cr co ns t) : TT N t R cn cr co ns t := ⟨h.1, h.2.1, h.2.2.1, h.2.2.2.1, tw_sm.rf t⟩
theorem TwB.kept {U : (Nat → Nat) × Nat × Int32 × Int32} {P : Nat × (Nat → Rw)} {I : Bool × Rw} {t u : TS} (h : TwB U P I t) (h1 : u.2.2.1 1 = t.2.2.1 1) (h29 : u.2.2.1 29 = t.2.2.1 29) (h30 : u.2.2.1 30 = t.2.2.1 30) (k2 : u.1 2 = t.1 2) (k24 : u.1 24 = t.1 24) (k25 : u.1 25 = t.1 25) (k31 : u.1 31 = t.1 31) (k32 : u.1 32 = t.1 32) : TwB U P I u := by
  unfold TwB
  rw [h1, h29, h30, k2, k24, k25, k31, k32]
  exact h
theorem TwB.sm {U : (Nat → Nat) × Nat × Int32 × Int32} {P : Nat × (Nat → Rw)} {I : Bool × Rw} {t u : TS} (h : TwB U P I t) (hs : tw_sm t u) : TwB U P I u :=
  h.kept (hs.2.2.1 1 (by decide) (by decide)) (hs.2.2.1 29 (by decide) (by decide)) (hs.2.2.1 30 (by decide) (by decide)) (hs.1 2 (by decide)) (hs.1 24 (by decide)) (hs.1 25 (by decide)) (hs.1 31 (by decide)) (hs.1 32 (by decide))
section Tq
variable {U : (Nat → Nat) × Nat × Int32 × Int32} {N : Nt} {R : Rw} {P : Nat × (Nat → Rw)} {I : Bool × Rw} {t t0 : TS} {cn cr co : Nat → Int32} {ns : Ns} {Q : Int32 → TS → Prop} {a b c x : Int32}
theorem TwA.p0 (h : TwA U N R P I t) : TwA U N R P I (upd t.1 0 x, t.2) := by
  obtain ⟨⟨cn, cr, co, ns, h1, h2, h3, h4, h5⟩, hB⟩ := h
  refine ⟨⟨cn, cr, co, ns, h1, h2, ⟨?_, h3.2⟩, h4, tw_sm.rf _⟩, hB.kept rfl rfl rfl ?_ ?_ ?_ ?_ ?_⟩
  · dsimp only; rw [upd_ne (by decide)]; exact h3.1
  all_goals (dsimp only; rw [upd_ne (by decide)])
/-- every question begins so -/
theorem tq_0 {α : Type} {k : Unit → TM α} {S : α → TS → Prop} (h : TwA U N R P I t) (kk : ∀ u, TwA U N R P I u → wp (k ()) S u) : wp (tw_bd (tw_pi 0 (0 : Int32)) k) S t := wp_bd (wp_pi (kk _ h.p0))
theorem tt_isLink (hN : md_ok N) (h : TT N t0 R cn cr co ns t) (k0 : md_op a (md_nl N) = none → Q 0 t) (k1 : ∀ l, l < md_nl N → a = nI l → md_op a (md_nl N) = some l → Q 1 t) : wp (fm_isLink a) Q t := by
  have hL := hN.nl
  unfold fm_isLink fm_isLink_J16 fm_isLink_J17
  rcases md_op_c a (n := md_nl N) (by omega) with ⟨e1, e2⟩ | ⟨l, hl, rfl, e⟩
  · refine wp_if (fun hc => wp_rz (Or.inl rfl) (k0 e1)) (fun hc => wp_bd (tt_links h ?_))
    rcases e2 with e2 | e2
    · exact absurd e2 hc
    · exact wp_ifT e2 (wp_rz (Or.inl rfl) (k0 e1))
  · exact wp_ifF (nI_pos (by omega)) (wp_bd (tt_links h (wp_ifF (nI_ge hl (by omega)) (wp_rz (Or.inr rfl) (k1 l hl rfl e)))))
theorem tt_isFlow (hN : md_ok N) (h : TT N t0 R cn cr co ns t) (k0 : md_op a (md_nf N) = none → Q 0 t) (k1 : ∀ f, f < md_nf N → a = nI f → md_op a (md_nf N) = some f → Q 1 t) : wp (fm_isFlow a) Q t := by
  have hF := hN.nf
  unfold fm_isFlow fm_isFlow_J16 fm_isFlow_J17
  rcases md_op_c a (n := md_nf N) (by omega) with ⟨e1, e2⟩ | ⟨l, hl, rfl, e⟩
  · refine wp_if (fun hc => wp_rz (Or.inl rfl) (k0 e1)) (fun hc => wp_bd (tt_flows h ?_))
    rcases e2 with e2 | e2
    · exact absurd e2 hc
    · exact wp_ifT e2 (wp_rz (Or.inl rfl) (k0 e1))
  · exact wp_ifF (nI_pos (by omega)) (wp_bd (tt_flows h (wp_ifF (nI_ge hl (by omega)) (wp_rz (Or.inr rfl) (k1 l hl rfl e)))))
theorem tq_fault (h : TwA U N R P I t) : wp (fm_fault a) (fun r u => r = an_fault U a ∧ TwA U N R P I u) t := by
  unfold fm_fault fm_fault_J29
  refine tq_0 h fun u hu => ?_
  obtain ⟨-, -, b3, b4, -⟩ := hu.2
  unfold an_fault
  refine wp_if (fun hc => wp_bd (wp_gi (wp_rt ⟨?_, hu⟩))) (fun hc => wp_if (fun hc2 => wp_bd (wp_gi (wp_rt ⟨?_, hu⟩))) (fun hc2 => wp_rt ⟨?_, hu⟩))
  · rw [if_pos hc, b3]
  · rw [if_neg hc, if_pos hc2, b4]
  · rw [if_neg hc, if_neg hc2]
theorem tt_found {k n : Nat} {c : Nat → Int32} (hk : tw_fk k = 0) (hn : n ≤ tw_n k) (hs : tw_n k < 1000000) (hc : ∀ i, i < n → t.2.2.1 k i = c i) (kk : Q (md_ix (md_fd (fun i => decide (c i = x)) n) n) t) : wp (fm_foundIn k (0 : Int32) (nI n) x) Q t := by
  have hle := md_fd_le (fun i => decide (c i = x)) n
  unfold fm_foundIn
  refine wp_for (J := fun i u => u = t) (md_fd (fun i => decide (c i = x)) n) (by omega) rfl rfl ?_ ?_
  · rintro i f u hi rfl hk'
    rw [fm_foundIn_L3]
    refine wp_ifF (nI_ge (by omega) (by omega)) (wp_bd (wp_ld (j := i) hk (by rw [show (0 : Int32) = nI 0 from rfl, nI_add, Nat.zero_add]) (by omega) (by omega) (wp_ifF ?_ (hk' _ rfl))))
    rw [hc i (by omega)]
    exact of_decide_eq_false (md_fd_no (p := fun i => decide (c i = x)) hi)
  · rintro f u rfl
    rw [fm_foundIn_L3]
    unfold md_ix at kk
    by_cases e : md_fd (fun i => decide (c i = x)) n = n
    · rw [if_pos e] at kk
      rw [e]
      exact wp_ifT (Int32.le_refl _) (wp_rt kk)
    · rw [if_neg e] at kk
      refine wp_ifF (nI_ge (by omega) (by omega)) (wp_bd (wp_ld (j := md_fd (fun i => decide (c i = x)) n) hk (by rw [show (0 : Int32) = nI 0 from rfl, nI_add, Nat.zero_add]) (by omega) (by omega) (wp_ifT ?_ (wp_rt kk))))
      rw [hc _ (by omega)]
      exact of_decide_eq_true (md_fd_is (p := fun i => decide (c i = x)) (by omega))
theorem tq_named (hN : md_ok N) (h : TwA U N R P I t) : wp (fm_named a x) (fun r u => r = an_named N a x ∧ TwA U N R P I u) t := by
  have hL := hN.nl
  have hF := hN.nf
  unfold fm_named fm_named_J47
  refine tq_0 h fun u hu => ?_
  obtain ⟨⟨cn, cr, co, ns, hT⟩, hB⟩ := id hu
  unfold an_named
  refine wp_if (fun hc => ?_) (fun hc => wp_if (fun hc2 => ?_) (fun hc2 => wp_rt ⟨?_, hu⟩))
  · refine wp_bd (tt_links hT ?_)
    refine wp_bd (tt_found (k := 5) (c := fun k => nI (N.2.1 k 0)) rfl (show md_nl N ≤ 20 by omega) (by decide) (fun i hi => (hT.2.2.2.1.2.1 i hi).1) (wp_rt ⟨?_, hu⟩))
    rw [if_pos hc]
  · refine wp_bd (tt_flows hT ?_)
    refine wp_bd (tt_found (k := 11) (c := fun k => nI (N.2.2.1 k 0)) rfl (show md_nf N ≤ 16 by omega) (by decide) (fun i hi => (hT.2.2.2.1.2.2 i hi).1) (wp_rt ⟨?_, hu⟩))
    rw [if_neg hc, if_pos hc2]
  · rw [if_neg hc, if_neg hc2]
theorem tq_queue (hN : md_ok N) (h : TwA U N R P I t) : wp (fm_queue a b) (fun r u => r = an_queue N R a b ∧ TwA U N R P I u) t := by
  have hL := hN.nl
  have hF := hN.nf
  unfold fm_queue fm_queue_J38 fm_queue_J39
  refine tq_0 h fun u hu => ?_
  obtain ⟨⟨cn, cr, co, ns, hT⟩, hB⟩ := id hu
  unfold an_queue
  refine wp_bd (tt_isLink hN hT (fun e => ?_) (fun l hl ea e => ?_))
  · rw [e]; exact wp_ifT rfl (wp_rt ⟨rfl, hu⟩)
  · rw [e]
    refine wp_ifF (by decide) (wp_bd (tt_isFlow hN hT (fun e2 => ?_) (fun f hf eb e2 => ?_)))
    · rw [e2]; exact wp_ifT rfl (wp_rt ⟨rfl, hu⟩)
    · rw [e2, ea, eb]
      exact wp_ifF (by decide) (wp_bd (tt_Q hT (by omega) (by omega) (wp_rt ⟨rfl, hu⟩)))
theorem md_op_lt {n : Nat} (hn : n < 2 ^ 31) : (∀ l, l < n → md_op (nI l) n = some l) := fun l hl => by
  unfold md_op
  rw [if_neg (by rintro (h | h); exact nI_pos (by omega) h; exact nI_ge hl hn h), nI_clamp (by omega)]
theorem tq_flow (hN : md_ok N) (h : TwA U N R P I t) : wp (fm_flow a b) (fun r u => r = an_flow N R a b ∧ TwA U N R P I u) t := by
  have hF := hN.nf
  unfold fm_flow fm_flow_J23 fm_flow_J91
  refine tq_0 h fun u hu => ?_
  obtain ⟨⟨cn, cr, co, ns, hT⟩, hB⟩ := id hu
  unfold an_flow
  refine wp_bd (tt_isFlow hN hT (fun e => ?_) (fun f hf ea e => ?_))
  · rw [e]; exact wp_ifT rfl (wp_rt ⟨rfl, hu⟩)
  · rw [e, ea]
    refine wp_ifF (by decide) ?_
    rcases md_op_c b (n := 12) (by decide) with ⟨e1, e2⟩ | ⟨j, hj, rfl, e2⟩
    · rw [e1]
      refine wp_if (fun hc => wp_rt ⟨rfl, hu⟩) (fun hc => ?_)
      rcases e2 with e2 | e2
      · exact absurd e2 hc
      · exact wp_ifF (fun q => absurd (Int32.le_trans e2 q) (by decide)) (wp_rt ⟨rfl, hu⟩)
    · rw [e2]
      refine wp_ifF (nI_pos (by omega)) (wp_ifT (nI_le (b := 11) (by omega) (by decide)) ?_)
      dsimp only
      by_cases h9 : j < 9
      · rw [if_pos h9]
        exact wp_ifF (nI_ge (b := 9) h9 (by decide)) (wp_bd (tt_flowAt (wp_bd (tt_S hT (by omega) (by omega) (wp_rt ⟨rfl, hu⟩)))))
      · rw [if_neg h9]
        refine wp_ifT (nI_le (a := 9) (by omega) (by omega)) ?_
        by_cases e9 : j = 9
        · rw [if_pos e9, e9]
          exact wp_ifT rfl (wp_bd (tt_ho hN hT hf (wp_rt ⟨rfl, hu⟩)))
        · rw [if_neg e9]
          by_cases e10 : j = 10
          · rw [e10]
            exact wp_ifF (by decide) (wp_ifT rfl (wp_bd (tt_flowAt (wp_bd (tt_S (k := 9) hT (by omega) (by decide) (wp_rt ⟨rfl, hu⟩))))))
          · rw [show j = 11 by omega]
            exact wp_ifF (by decide) (wp_ifF (by decide) (wp_bd (tt_flowAt (wp_bd (tt_S (k := 10) hT (by omega) (by decide) (wp_rt ⟨rfl, hu⟩))))))
theorem tq_path (hN : md_ok N) (h : TwA U N R P I t) : wp (fm_path a b) (fun r u => r = an_path N a b ∧ TwA U N R P I u) t := by
  have hF := hN.nf
  unfold fm_path fm_path_J40 fm_path_J41
  refine tq_0 h fun u hu => ?_
  obtain ⟨⟨cn, cr, co, ns, hT⟩, hB⟩ := id hu
  unfold an_path
  refine wp_bd (tt_isFlow hN hT (fun e => ?_) (fun f hf ea e => ?_))
  · rw [e]; exact wp_ifT rfl (wp_rt ⟨rfl, hu⟩)
  · rw [e, ea]
    have hH := hN.ho hf
    refine wp_ifF (by decide) ?_
    dsimp only
    rcases md_op_c b (n := md_ho N f) (by omega) with ⟨e1, e2⟩ | ⟨j, hj, rfl, e2⟩
    · rw [e1]
      refine wp_if (fun hc => wp_rt ⟨rfl, hu⟩) (fun hc => wp_bd (tt_ho hN hT hf ?_))
      rcases e2 with e2 | e2
      · exact absurd e2 hc
      · exact wp_ifT e2 (wp_rt ⟨rfl, hu⟩)
    · rw [e2]
      exact wp_ifF (nI_pos (by omega)) (wp_bd (tt_ho hN hT hf (wp_ifF (nI_ge hj (by omega)) (wp_bd (tt_pa hN hT hf hj (wp_rt ⟨rfl, hu⟩))))))
theorem tq_fb (hN : md_ok N) (h : TwA U N R P I t) : wp (fm_feedback a) (fun r u => r = an_fb N R a ∧ TwA U N R P I u) t := by
  have hL := hN.nl
  unfold fm_feedback fm_feedback_J24
  refine tq_0 h fun u hu => ?_
  obtain ⟨⟨cn, cr, co, ns, hT⟩, hB⟩ := id hu
  unfold an_fb
  refine wp_bd (tt_isLink hN hT (fun e => ?_) (fun l hl ea e => ?_))
  · rw [e]; exact wp_ifT rfl (wp_rt ⟨rfl, hu⟩)
  · rw [e, ea]; exact wp_ifF (by decide) (wp_bd (tt_fb hT (by omega) (wp_rt ⟨rfl, hu⟩)))
theorem tq_no (hN : md_ok N) (h : TwA U N R P I t) : wp (fm_notice a) (fun r u => r = an_no N R a ∧ TwA U N R P I u) t := by
  have hL := hN.nl
  unfold fm_notice fm_notice_J26
  refine tq_0 h fun u hu => ?_
  obtain ⟨⟨cn, cr, co, ns, hT⟩, hB⟩ := id hu
  unfold an_no
  refine wp_bd (tt_isLink hN hT (fun e => ?_) (fun l hl ea e => ?_))
  · rw [e]; exact wp_ifT rfl (wp_rt ⟨rfl, hu⟩)
  · rw [e, ea]; exact wp_ifF (by decide) (wp_bd (tt_fb hT (by omega) (wp_bd (tt_no hN hT (wp_rt ⟨rfl, hu⟩)))))
theorem tt_hr {l : Nat} (hN : md_ok N) (h : TT N t0 R cn cr co ns t) (hl : l < md_nl N) (kk : Q (md_hr N R l) t) : wp (fm_headroomOf (nI l)) Q t := by
  have hL := hN.nl
  unfold fm_headroomOf
  exact wp_bd (tt_E (k := 0) h (by omega) (by decide) (wp_bd (tt_cap hN h hl (wp_bd (tt_delay hN h hl (wp_rt kk))))))
theorem tq_hr (hN : md_ok N) (h : TwA U N R P I t) : wp (fm_headroom a) (fun r u => r = an_hr N R a ∧ TwA U N R P I u) t := by
  have hL := hN.nl
  unfold fm_headroom fm_headroom_J22
  refine tq_0 h fun u hu => ?_
  obtain ⟨⟨cn, cr, co, ns, hT⟩, hB⟩ := id hu
  unfold an_hr
  refine wp_bd (tt_isLink hN hT (fun e => ?_) (fun l hl ea e => ?_))
  · rw [e]; exact wp_ifT rfl (wp_rt ⟨rfl, hu⟩)
  · rw [e, ea]; exact wp_ifF (by decide) (wp_bd (tt_hr hN hT hl (wp_rt ⟨rfl, hu⟩)))
theorem tq_safe (hN : md_ok N) (h : TwA U N R P I t) : wp fm_safe (fun r u => r = an_safe N R ∧ TwA U N R P I u) t := by
  have hL := hN.nl
  unfold fm_safe
  refine tq_0 h fun u hu => ?_
  obtain ⟨⟨cn, cr, co, ns, hT⟩, hB⟩ := id hu
  unfold an_safe
  refine wp_forB (J := fun i w v => w = md_bs (fun l => decide (¬ R.1 l 2 < md_hr N R l)) i ∧ v = u) (md_nl N) (by omega) ⟨rfl, rfl⟩ rfl ?_ ?_
  · rintro l f w v hl ⟨rfl, rfl⟩ hk
    rw [fm_safe_L9]
    unfold fm_safe_J42
    refine wp_bd (tt_links hT (wp_ifF (nI_ge hl (by omega)) (wp_bd (tt_hr hN hT hl (wp_bd (tt_E (k := 2) hT (by omega) (by decide) (wp_if (fun hc => hk _ _ ⟨?_, rfl⟩) (fun hc => hk _ _ ⟨?_, rfl⟩))))))))
    · rw [md_bs, if_neg (by rw [decide_eq_true_eq]; exact fun q => q hc)]
    · rw [md_bs, if_pos (by rw [decide_eq_true_eq]; exact hc), sh_1 l (by omega)]
  · rintro f w v ⟨rfl, rfl⟩
    rw [fm_safe_L9]
    exact wp_bd (tt_links hT (wp_ifT (Int32.le_refl _) (wp_rt ⟨rfl, hu⟩)))
theorem tq_ow (hN : md_ok N) (h : TwA U N R P I t) : wp (fm_onWay a) (fun r u => r = an_ow N R a ∧ TwA U N R P I u) t := by
  have hF := hN.nf
  unfold fm_onWay fm_onWay_J53
  refine tq_0 h fun u hu => ?_
  obtain ⟨⟨cn, cr, co, ns, hT⟩, hB⟩ := id hu
  unfold an_ow
  refine wp_bd (tt_isFlow hN hT (fun e => ?_) (fun f hf ea e => ?_))
  · rw [e]; exact wp_ifT rfl (wp_rt ⟨rfl, hu⟩)
  · rw [e, ea]
    refine wp_ifF (by decide) ?_
    refine wp_bd (tt_flowAt (wp_bd (tt_S (k := 4) hT (by omega) (by decide) ?_)))
    refine wp_bd (tt_flowAt (wp_bd (tt_S (k := 5) hT (by omega) (by decide) ?_)))
    exact wp_bd (tt_flowAt (wp_bd (tt_S (k := 11) hT (by omega) (by decide) (wp_rt ⟨rfl, hu⟩))))
theorem md_op_d {k : Nat} (h : k < 14) : md_op (nI k) 14 = some k := md_op_lt (by decide) k h
theorem TwA.p0' (h : TwA U N R P I t) (e : t.1 0 = x) : TwA U N R P I t ∧ t.1 0 = x := ⟨h, e⟩
/-- a link; what was thrown is told beside -/
theorem tq_link (hN : md_ok N) (h : TwA U N R P I t) : wp (fm_link a b) (fun r u => (u.1 0 = (an_link N R a b).1 ∧ r = (an_link N R a b).2) ∧ TwA U N R P I u) t := by
  have hL := hN.nl
  unfold fm_link
  refine wp_bd (wp_pi ?_)
  have hu := h.p0 (x := 0)
  have h00 : (upd t.1 0 0, t.2).1 0 = (0 : Int32) := by dsimp only; exact upd_eq _ _ _
  generalize (upd t.1 0 (0 : Int32), t.2) = u at hu h00
  obtain ⟨⟨cn, cr, co, ns, hT⟩, hB⟩ := id hu
  unfold an_link
  refine wp_bd (tt_isLink hN hT (fun e => ?_) (fun l hl ea e => ?_))
  · rw [e]; exact wp_ifT rfl (wp_bd (wp_pi (wp_rt ⟨⟨show upd u.1 0 1 0 = 1 from upd_eq _ _ _, rfl⟩, hu.p0⟩)))
  · rw [e, ea]
    have hd := hN.delay hl
    refine wp_ifF (by decide) ?_
    dsimp only
    have non : (∀ k, k < 14 → ¬ b = nI k) → md_op b 14 = none := fun q => by
      rcases md_op_c b (n := 14) (by decide) with ⟨e1, -⟩ | ⟨j, hj, e1, -⟩
      · exact e1
      · exact absurd e1 (q j hj)
    refine wp_if (fun hc0 => ?_) (fun hc0 => ?_)
    · rw [hc0, show (0 : Int32) = nI 0 from rfl, md_op_d (by decide)]
      exact wp_bd (tt_cap hN hT hl (wp_rt ⟨⟨h00, rfl⟩, hu⟩))
    refine wp_if (fun hc1 => ?_) (fun hc1 => ?_)
    · rw [hc1, show (1 : Int32) = nI 1 from rfl, md_op_d (by decide)]
      exact wp_bd (tt_delay hN hT hl (wp_rt ⟨⟨h00, rfl⟩, hu⟩))
    refine wp_if (fun hc2 => ?_) (fun hc2 => ?_)
    · rw [hc2, show (2 : Int32) = nI 2 from rfl, md_op_d (by decide)]
      exact wp_bd (tt_E (k := 0) hT (by omega) (by decide) (wp_rt ⟨⟨h00, rfl⟩, hu⟩))
    refine wp_if (fun hc3 => ?_) (fun hc3 => ?_)
    · rw [hc3, show (3 : Int32) = nI 3 from rfl, md_op_d (by decide)]
      exact wp_bd (tt_E (k := 1) hT (by omega) (by decide) (wp_rt ⟨⟨h00, rfl⟩, hu⟩))
    refine wp_if (fun hc4 => ?_) (fun hc4 => ?_)
    · rw [hc4, show (4 : Int32) = nI 4 from rfl, md_op_d (by decide)]
      exact wp_bd (tt_E (k := 2) hT (by omega) (by decide) (wp_rt ⟨⟨h00, rfl⟩, hu⟩))
    refine wp_if (fun hc5 => ?_) (fun hc5 => ?_)
    · rw [hc5, show (5 : Int32) = nI 5 from rfl, md_op_d (by decide)]
      exact wp_bd (tt_queue hT (by omega) (wp_rt ⟨⟨h00, rfl⟩, hu⟩))
    refine wp_if (fun hc6 => ?_) (fun hc6 => ?_)
    · rw [hc6, show (6 : Int32) = nI 6 from rfl, md_op_d (by decide)]
      exact wp_bd (tt_E (k := 10) hT (by omega) (by decide) (wp_rt ⟨⟨h00, rfl⟩, hu⟩))
    refine wp_if (fun hc7 => ?_) (fun hc7 => ?_)
    · rw [hc7, show (7 : Int32) = nI 7 from rfl, md_op_d (by decide)]
      exact wp_bd (tt_delay hN hT hl (wp_bd (tt_A hT (by omega) (by omega) (wp_rt ⟨⟨h00, rfl⟩, hu⟩))))
    refine wp_if (fun hc8 => ?_) (fun hc8 => ?_)
    · rw [hc8, show (8 : Int32) = nI 8 from rfl, md_op_d (by decide)]
      exact wp_bd (tt_E (k := 3) hT (by omega) (by decide) (wp_rt ⟨⟨h00, rfl⟩, hu⟩))
    refine wp_if (fun hc9 => ?_) (fun hc9 => ?_)
    · rw [hc9, show (9 : Int32) = nI 9 from rfl, md_op_d (by decide)]
      exact wp_bd (tt_E (k := 4) hT (by omega) (by decide) (wp_rt ⟨⟨h00, rfl⟩, hu⟩))
    refine wp_if (fun hc10 => ?_) (fun hc10 => ?_)
    · rw [hc10, show (10 : Int32) = nI 10 from rfl, md_op_d (by decide)]
      exact wp_bd (tt_E (k := 5) hT (by omega) (by decide) (wp_rt ⟨⟨h00, rfl⟩, hu⟩))
    refine wp_if (fun hc11 => ?_) (fun hc11 => ?_)
    · rw [hc11, show (11 : Int32) = nI 11 from rfl, md_op_d (by decide)]
      exact wp_bd (tt_E (k := 6) hT (by omega) (by decide) (wp_rt ⟨⟨h00, rfl⟩, hu⟩))
    refine wp_if (fun hc12 => ?_) (fun hc12 => ?_)
    · rw [hc12, show (12 : Int32) = nI 12 from rfl, md_op_d (by decide)]
      exact wp_bd (tt_E (k := 7) hT (by omega) (by decide) (wp_rt ⟨⟨h00, rfl⟩, hu⟩))
    refine wp_if (fun hc13 => ?_) (fun hc13 => ?_)
    · rw [hc13, show (13 : Int32) = nI 13 from rfl, md_op_d (by decide)]
      exact wp_bd (tt_E (k := 8) hT (by omega) (by decide) (wp_rt ⟨⟨h00, rfl⟩, hu⟩))
    · rw [non (fun k hk => match k, hk with | 0, _ => hc0 | 1, _ => hc1 | 2, _ => hc2 | 3, _ => hc3 | 4, _ => hc4 | 5, _ => hc5 | 6, _ => hc6 | 7, _ => hc7 | 8, _ => hc8 | 9, _ => hc9 | 10, _ => hc10 | 11, _ => hc11 | 12, _ => hc12 | 13, _ => hc13 | k + 14, h => by omega)]
      exact wp_bd (wp_pi (wp_rt ⟨⟨show upd u.1 0 2 0 = 2 from upd_eq _ _ _, rfl⟩, hu.p0⟩))
theorem tt_sum {k : Nat} (hN : md_ok N) (h : TT N t0 R cn cr co ns t) (hk : k < 12) (hb : b = nI k) (kk : Q (md_on N R k) t) : wp (fm_sumOf b) Q t := by
  have hF := hN.nf
  subst hb
  refine wp_forB (J := fun i w u => w = md_sum (fun f => R.2.1 f k) i ∧ u = t) (md_nf N) (by omega) ⟨rfl, rfl⟩ rfl ?_ ?_
  · rintro i f w u hi ⟨rfl, rfl⟩ hk'
    rw [fm_sumOf_L4]
    exact wp_bd (tt_flows h (wp_ifF (nI_ge hi (by omega)) (wp_bd (tt_flowAt (wp_bd (tt_S h (by omega) hk (hk' _ _ ⟨rfl, rfl⟩)))))))
  · rintro f w u ⟨rfl, rfl⟩
    rw [fm_sumOf_L4]
    exact wp_bd (tt_flows h (wp_ifT (Int32.le_refl _) (wp_rt kk)))
theorem tt_lost (hN : md_ok N) (h : TT N t0 R cn cr co ns t) (kk : Q (md_lo N R) t) : wp fm_lostAll Q t := by
  have hL := hN.nl
  refine wp_forB (J := fun i w u => w = md_sum (fun l => R.1 l 3) i ∧ u = t) (md_nl N) (by omega) ⟨rfl, rfl⟩ rfl ?_ ?_
  · rintro i f w u hi ⟨rfl, rfl⟩ hk'
    rw [fm_lostAll_L4]
    exact wp_bd (tt_links h (wp_ifF (nI_ge hi (by omega)) (wp_bd (tt_E (k := 3) h (by omega) (by decide) (hk' _ _ ⟨rfl, rfl⟩)))))
  · rintro f w u ⟨rfl, rfl⟩
    rw [fm_lostAll_L4]
    exact wp_bd (tt_links h (wp_ifT (Int32.le_refl _) (wp_rt kk)))
theorem tt_asked {l : Nat} (h : TT N t0 R cn cr co ns t) (hl : l < 10) (kk : Q (if R.1 l 10 = 1 then 1 else 0) t) : wp (fm_asked (nI l)) Q t := by
  unfold fm_asked fm_asked_J21
  refine wp_bd (tt_E (k := 10) h hl (by decide) (wp_if (fun hc => wp_rz (Or.inr rfl) ?_) (fun hc => wp_rz (Or.inl rfl) ?_)))
  · rw [if_pos hc] at kk; exact kk
  · rw [if_neg hc] at kk; exact kk
theorem tt_askM (hN : md_ok N) (h : TT N t0 R cn cr co ns t) (kk : Q (md_sum (fun l => if R.1 l 10 = 1 then 1 else 0) (md_nl N)) t) : wp fm_askedMany Q t := by
  have hL := hN.nl
  refine wp_forB (J := fun i w u => w = md_sum (fun l => if R.1 l 10 = 1 then 1 else 0) i ∧ u = t) (md_nl N) (by omega) ⟨rfl, rfl⟩ rfl ?_ ?_
  · rintro i f w u hi ⟨rfl, rfl⟩ hk'
    rw [fm_askedMany_L4]
    unfold fm_askedMany_J26
    refine wp_bd (tt_links h (wp_ifF (nI_ge hi (by omega)) (wp_bd (tt_asked h (by omega) ?_))))
    by_cases e : R.1 i 10 = 1
    · rw [if_pos e]
      exact wp_ifF (by decide) (hk' _ _ ⟨by rw [md_sum, if_pos e], rfl⟩)
    · rw [if_neg e]
      exact wp_ifT rfl (hk' _ _ ⟨by rw [md_sum, if_neg e], rfl⟩)
  · rintro f w u ⟨rfl, rfl⟩
    rw [fm_askedMany_L4]
    exact wp_bd (tt_links h (wp_ifT (Int32.le_refl _) (wp_rt kk)))
theorem tq_count (hN : md_ok N) (h : TwA U N R P I t) : wp (fm_count a) (fun r u => r = an_count N R P.1 U.2.1 a ∧ TwA U N R P I u) t := by
  unfold fm_count
  refine tq_0 h fun u hu => ?_
  obtain ⟨⟨cn, cr, co, ns, hT⟩, hB⟩ := id hu
  unfold an_count
  refine wp_if (fun hc => ?_) (fun hc => ?_)
  · rw [if_pos hc]
    exact wp_bd (tt_links hT (wp_rt ⟨rfl, hu⟩))
  rw [if_neg hc]
  refine wp_if (fun hc => ?_) (fun hc => ?_)
  · rw [if_pos hc]
    exact wp_bd (tt_flows hT (wp_rt ⟨rfl, hu⟩))
  rw [if_neg hc]
  refine wp_if (fun hc => ?_) (fun hc => ?_)
  · rw [if_pos hc]
    exact wp_bd (tt_T hT (wp_rt ⟨rfl, hu⟩))
  rw [if_neg hc]
  refine wp_if (fun hc => ?_) (fun hc => ?_)
  · rw [if_pos hc]
    exact wp_bd (tt_sum (k := 4) hN hT (by decide) rfl (wp_rt ⟨rfl, hu⟩))
  rw [if_neg hc]
  refine wp_if (fun hc => ?_) (fun hc => ?_)
  · rw [if_pos hc]
    exact wp_bd (tt_sum (k := 5) hN hT (by decide) rfl (wp_rt ⟨rfl, hu⟩))
  rw [if_neg hc]
  refine wp_if (fun hc => ?_) (fun hc => ?_)
  · rw [if_pos hc]
    exact wp_bd (tt_lost hN hT (wp_rt ⟨rfl, hu⟩))
  rw [if_neg hc]
  refine wp_if (fun hc => ?_) (fun hc => ?_)
  · rw [if_pos hc]
    exact wp_bd (tt_sum (k := 6) hN hT (by decide) rfl (wp_rt ⟨rfl, hu⟩))
  rw [if_neg hc]
  refine wp_if (fun hc => ?_) (fun hc => ?_)
  · rw [if_pos hc]
    exact wp_bd (tt_sum (k := 7) hN hT (by decide) rfl (wp_rt ⟨rfl, hu⟩))
  rw [if_neg hc]
  refine wp_if (fun hc => ?_) (fun hc => ?_)
  · rw [if_pos hc]
    exact wp_bd (tt_askM hN hT (wp_rt ⟨rfl, hu⟩))
  rw [if_neg hc]
  refine wp_if (fun hc => ?_) (fun hc => ?_)
  · rw [if_pos hc]
    exact wp_bd (wp_gi (wp_rt ⟨hB.2.2.2.2.1, hu⟩))
  rw [if_neg hc]
  refine wp_if (fun hc => ?_) (fun hc => ?_)
  · rw [if_pos hc]
    exact wp_bd (wp_gi (wp_rt ⟨hB.2.1, hu⟩))
  rw [if_neg hc]
  exact wp_rt ⟨rfl, hu⟩
end Tq
