/-! THE COMPONENT: plain questions -/
theorem lc_lt {a b : Int64} : lg_cmp a b < 0 ↔ a < b := by
  unfold lg_cmp
  constructor
  · intro h
    by_cases h1 : a > b
    · rw [if_pos h1] at h
      exact absurd h (by decide)
    · rw [if_neg h1] at h
      by_cases h2 : a = b
      · rw [if_pos h2] at h
        exact absurd h (by decide)
      · exact Std.lt_of_le_of_ne (Int64.not_lt.mp h1) h2
  · intro h
    rw [if_neg (fun q => Int64.lt_irrefl (Int64.lt_trans h q)), if_neg (fun q => Int64.lt_irrefl (q ▸ h))]
    decide
theorem lc_gt {a b : Int64} : 0 < lg_cmp a b ↔ b < a := by
  unfold lg_cmp
  constructor
  · intro h
    by_cases h1 : a > b
    · exact h1
    · rw [if_neg h1] at h
      split at h <;> exact absurd h (by decide)
  · intro h
    rw [if_pos h]
    decide
theorem l_lt {a b : Int32} : a.toInt64 < b.toInt64 ↔ a < b := by
  rw [Int64.lt_iff_toInt_lt, Int32.lt_iff_toInt_lt, Int32.toInt_toInt64, Int32.toInt_toInt64]
theorem w_isIn {a : Int32} {x y : Int64} {h : Hp} {b c : Int32} {Q : Int32 → Hp → Prop} (hx : x = b.toInt64) (hy : y = c.toInt64) (kk : Q (if a < b ∨ c < a then 0 else 1) h) : wp (fx_X1_isIn a.toInt64 x y) Q h := by
  unfold fx_X1_isIn fx_X1_isIn_J17 fx_X1_isIn_J18
  rw [hx, hy]
  refine wp_if (fun h1 => ?_) (fun h1 => wp_if (fun h2 => ?_) (fun h2 => ?_))
  · rw [if_pos (Or.inl (l_lt.mp (lc_lt.mp h1)))] at kk
    exact wp_rz (Or.inl rfl) kk
  · rw [if_pos (Or.inr (l_lt.mp (lc_gt.mp h2)))] at kk
    exact wp_rz (Or.inl rfl) kk
  · rw [if_neg (by rintro (q | q); exact h1 (lc_lt.mpr (l_lt.mpr q)); exact h2 (lc_gt.mpr (l_lt.mpr q)))] at kk
    exact wp_rz (Or.inr rfl) kk
section Cq
variable {o q5 : Nat} {U : (Nat → Nat) × Nat × Int32 × Int32} {N : Nt} {R X : Rw} {P : Nat × (Nat → Rw)} {I : Bool × Rw} {tb : Nat} {la fa : Nat → Nat} {ka : Nat} {kb : Nat → Nat} {h u : Hp} {Q : Int32 → Hp → Prop} {V : Unit → Hp → Prop} {m : Nat} {a b c : Int32}
theorem CoD.now (H : CoD o q5 U N R P I tb la fa ka kb h) : ∃ F0 R0 rd gv co ns, md_eqv R R0 ∧ TK o N tb la fa (o + 10) F0 h R0 rd gv co ns h := by
  obtain ⟨F0, R0, rd, gv, co, ns, e1, HT, r1⟩ := H.tk (Or.inl rfl) H.2.2.2.2.1
  exact ⟨F0, R0, rd, gv, co, ns, e1, HT⟩
theorem tk_now {b : Nat} {F0 : Nat → Value} {h0 : Hp} {R : Rw} {rd gv co : Nat → Int32} {ns : Ns} {A : Nat → Hp → Prop} (HT : TK o N tb la fa b F0 h0 R rd gv co ns h) (kk : A (o + 10) h) : wp (gw_gr 0 11 o) A h := tk_gr HT (by decide) HT.1.2.2.2.1.2.2.2.2.2.2.2.1 kk
theorem cq_queue (H : CoD o q5 U N R P I tb la fa ka kb h) : wg (fx_X1_queue o a b) 2 2 (fun r u => r = an_queue N R a b ∧ CoD o q5 U N R P I tb la fa ka kb u) h := by
  unfold fx_X1_queue fx_X1_queue_J33 fx_X1_queue_J34 an_queue
  have hL := H.1.nl
  have hF := H.1.nf
  refine wg_bc 1 1 (by decide) (by decide) (co_isLink (by decide) (by decide) H (fun u H e => ?_) (fun u l H hl ea e => ?_))
  · rw [e]
    exact wg_ifT rfl (wg_rc ⟨rfl, H⟩)
  refine wg_ifF (by decide) (wg_bc 1 1 (by decide) (by decide) (co_isFlow (by decide) (by decide) H (fun u H e2 => ?_) (fun u f H hf eb e2 => ?_)))
  · rw [e, e2]
    exact wg_ifT rfl (wg_rc ⟨rfl, H⟩)
  rw [e, e2, ea, eb]
  obtain ⟨F0, R0, rd, gv, co, ns, ev, HT⟩ := H.now
  refine wg_ifF (by decide) ?_
  refine wg_b0 (tk_now HT ?_)
  refine wg_b0 (tk_ends HT ?_)
  refine wg_b0 (tk_end HT (by omega) ?_)
  refine wg_b0 (tk_cells HT (by omega) ?_)
  refine wg_b0 (tk_ldQ HT hl (by omega) ?_)
  exact wg_rc ⟨by rw [ev.1], H⟩
theorem cq_fb (H : CoD o q5 U N R P I tb la fa ka kb h) : wg (fx_X1_feedback o a) 1 1 (fun r u => r = an_fb N R a ∧ CoD o q5 U N R P I tb la fa ka kb u) h := by
  unfold fx_X1_feedback fx_X1_feedback_J22 an_fb
  refine wg_bc 1 1 (by decide) (by decide) (co_isLink (by decide) (by decide) H (fun u H e => ?_) (fun u l H hl ea e => ?_))
  · rw [e]
    exact wg_ifT rfl (wg_rc ⟨rfl, H⟩)
  rw [e, ea]
  obtain ⟨F0, R0, rd, gv, co, ns, ev, HT⟩ := H.now
  refine wg_ifF (by decide) ?_
  refine wg_b0 (tk_now HT ?_)
  refine wg_b0 (tk_fb HT hl ?_)
  refine wg_rc ⟨?_, H⟩
  dsimp only
  unfold md_fb md_q
  rw [ev.1]
theorem cq_no (hI : md_iv N m R) (H : CoD o q5 U N R P I tb la fa ka kb h) : wg (fx_X1_notice o a) 1 1 (fun r u => r = an_no N R a ∧ CoD o q5 U N R P I tb la fa ka kb u) h := by
  unfold fx_X1_notice fx_X1_notice_J27 an_no
  refine wg_bc 1 1 (by decide) (by decide) (co_isLink (by decide) (by decide) H (fun u H e => ?_) (fun u l H hl ea e => ?_))
  · rw [e]
    exact wg_ifT rfl (wg_rc ⟨rfl, H⟩)
  rw [e, ea]
  obtain ⟨F0, R0, rd, gv, co, ns, ev, HT⟩ := H.now
  obtain ⟨fa1, fb1, hfa, hfb1, hfbe⟩ := md_fb_b H.1 (hI.2.1 l hl)
  refine wg_ifF (by decide) ?_
  refine wg_b0 (tk_now HT ?_)
  refine wg_b0 (tk_now HT ?_)
  refine wg_b0 (tk_fb HT hl ?_)
  rw [show md_fb N R0 l = md_fb N R l by unfold md_fb md_q; rw [ev.1]]
  refine wg_b0 (tk_no HT hfbe hfa hfb1 ?_)
  exact wg_rc ⟨rfl, H⟩
theorem co_hr {l : Nat} (H : CoD o q5 U N R P I tb la fa ka kb h) (hl : l < md_nl N) (kk : Q (md_hr N R l) h) : wp (gw_on 0 o (fx_X1_headroomOf o (nI l))) Q h := by
  have hL := H.1.nl
  obtain ⟨F0, R0, rd, gv, co, ns, ev, HT⟩ := H.now
  obtain ⟨F, e⟩ := HT.root
  refine w_on e ?_
  unfold fx_X1_headroomOf
  refine wp_bd (tk_now HT ?_)
  refine wp_bd (tk_ends HT ?_)
  refine wp_bd (tk_end HT (by omega) ?_)
  refine wp_bd (tk_gE 1 0 HT hl (by decide) ?_)
  refine wp_bd (tk_told HT ?_)
  refine wp_bd (tk_links HT ?_)
  refine wp_bd (tk_link HT hl ?_)
  refine wp_bd (tk_gL (k := 1) HT hl (by decide) ?_)
  refine wp_bd (tk_told HT ?_)
  refine wp_bd (tk_links HT ?_)
  refine wp_bd (tk_link HT hl ?_)
  refine wp_bd (tk_gL (k := 2) HT hl (by decide) ?_)
  refine wp_rt ?_
  rw [ev.1]
  exact kk
theorem cq_hr (H : CoD o q5 U N R P I tb la fa ka kb h) : wg (fx_X1_headroom o a) 1 1 (fun r u => r = an_hr N R a ∧ CoD o q5 U N R P I tb la fa ka kb u) h := by
  unfold fx_X1_headroom fx_X1_headroom_J17 an_hr
  refine wg_bc 1 1 (by decide) (by decide) (co_isLink (by decide) (by decide) H (fun u H e => ?_) (fun u l H hl ea e => ?_))
  · rw [e]
    exact wg_ifT rfl (wg_rc ⟨rfl, H⟩)
  rw [e, ea]
  refine wg_ifF (by decide) ?_
  refine wg_b0 (co_hr H hl ?_)
  exact wg_rc ⟨rfl, H⟩
theorem cq_ow (H : CoD o q5 U N R P I tb la fa ka kb h) : wg (fx_X1_onWay o a) 1 1 (fun r u => r = an_ow N R a ∧ CoD o q5 U N R P I tb la fa ka kb u) h := by
  unfold fx_X1_onWay an_ow
  have hF := H.1.nf
  refine wg_bc 1 1 (by decide) (by decide) (co_isFlow (by decide) (by decide) H (fun u H e => ?_) (fun u f H hf ea e => ?_))
  · rw [e]
    exact wg_ifT rfl (wg_rc ⟨rfl, H⟩)
  rw [e, ea]
  obtain ⟨F0, R0, rd, gv, co, ns, ev, HT⟩ := H.now
  refine wg_ifF (by decide) ?_
  refine wg_b0 (tk_now HT ?_)
  refine wg_b0 (tk_snds HT ?_)
  refine wg_b0 (tk_snd HT (by omega) ?_)
  refine wg_b0 (tk_gS 2 4 HT hf (by decide) ?_)
  refine wg_b0 (tk_gS 3 5 HT hf (by decide) ?_)
  refine wg_b0 (tk_gS 5 11 HT hf (by decide) ?_)
  exact wg_rc ⟨by rw [ev.2.2 f 4 (by decide), ev.2.2 f 5 (by decide), ev.2.2 f 11 (by decide)], H⟩
theorem cq_path (H : CoD o q5 U N R P I tb la fa ka kb h) : wg (fx_X1_path o a b) 1 1 (fun r u => r = an_path N a b ∧ CoD o q5 U N R P I tb la fa ka kb u) h := by
  unfold fx_X1_path fx_X1_path_J49 fx_X1_path_J50 an_path
  have hF := H.1.nf
  refine wg_bc 1 1 (by decide) (by decide) (co_isFlow (by decide) (by decide) H (fun u H e => ?_) (fun u f H hf ea e => ?_))
  · rw [e]
    exact wg_ifT rfl (wg_rc ⟨rfl, H⟩)
  rw [e, ea]
  have hH : md_ho N f ≤ 5 := (H.1.ho hf).2
  obtain ⟨F0, R0, rd, gv, co, ns, ev, HT⟩ := H.now
  refine wg_ifF (by decide) ?_
  refine wg_b0 (tk_told HT ?_)
  refine wg_b0 (tk_flows HT ?_)
  refine wg_b0 (tk_flow HT hf ?_)
  refine wg_b0 (tk_ho HT hf ?_)
  refine wg_b0 (w_isIn (b := 0) (c := nI (md_ho N f) - 1) rfl rfl ?_)
  rw [md_op_are (by omega)]
  rcases md_op_c b (n := md_ho N f) (by omega) with ⟨e1, e2⟩ | ⟨j, hj, eb, e1⟩
  · rw [if_pos e1]
    exact wg_ifT rfl (wg_rc ⟨by dsimp only; rw [e1], H⟩)
  have e3 : ¬ md_op b (md_ho N f) = none := by rw [e1]; exact fun q => nomatch q
  rw [if_neg e3, eb]
  rw [eb] at e1
  refine wg_ifF (by decide) ?_
  refine wg_b0 (tk_told HT ?_)
  refine wg_b0 (tk_flows HT ?_)
  refine wg_b0 (tk_flow HT hf ?_)
  refine wg_b0 (tk_path HT hf ?_)
  refine wg_b0 (tk_pa HT hf hj rfl ?_)
  exact wg_rc ⟨by dsimp only; rw [e1], H⟩
theorem cq_fault (H : CoD o q5 U N R P I tb la fa ka kb h) : wp (fx_X1_fault o a) (fun r u => r = an_fault U a ∧ CoD o q5 U N R P I tb la fa ka kb u) h := by
  unfold fx_X1_fault fx_X1_fault_J24 an_fault
  obtain ⟨F, r1, r2, r3, r4, r5, r6, r7⟩ := H.root
  refine wp_if (fun hc => ?_) (fun hc => wp_if (fun hd => ?_) (fun hd => ?_))
  · rw [if_pos hc]
    exact wp_bd (w_gi r1 r4 (wp_rt ⟨rfl, H⟩))
  · rw [if_neg hc, if_pos hd]
    exact wp_bd (w_gi r1 r5 (wp_rt ⟨rfl, H⟩))
  · rw [if_neg hc, if_neg hd]
    exact wp_rt ⟨rfl, H⟩
end Cq
