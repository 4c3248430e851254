/-! THE COMPONENT: named, flow, count, safe -/
theorem as_one : ∀ w, w < 32 → (nI w &&& 1) = nI (w % 2) := by decide
section Cq
variable {o q5 : Nat} {U : (Nat → Nat) × Nat × Int32 × Int32} {N : Nt} {R X : Rw} {P : Nat × (Nat → Rw)} {I : Bool × Rw} {tb : Nat} {la fa : Nat → Nat} {ka : Nat} {kb : Nat → Nat} {h u : Hp} {Q : Int32 → Hp → Prop} {V : Unit → Hp → Prop} {m : Nat} {a b c x : Int32}
theorem co_nmL (H : CoD o q5 U N R P I tb la fa ka kb h) (kk : Q (md_ix (md_fd (fun i => decide (nI (N.2.1 i 0) = x)) (md_nl N)) (md_nl N)) h) : wp (fx_X2_link tb x) Q h := by
  have hL := H.1.nl
  have hle := md_fd_le (fun i => decide (nI (N.2.1 i 0) = x)) (md_nl N)
  obtain ⟨F0, R0, rd, gv, co, ns, ev, HT⟩ := H.now
  refine wp_for (J := fun i u => u = h) (md_fd (fun i => decide (nI (N.2.1 i 0) = x)) (md_nl N)) (by omega) rfl rfl ?_ ?_
  · rintro i f u hi rfl hk'
    rw [fx_X2_link_L2]
    refine wp_bd (tk_num (k := 0) HT (by decide) ?_)
    refine wp_ifF (nI_ge (show i < md_nl N by omega) (show md_nl N < 2 ^ 31 by omega)) ?_
    refine wp_bd (tk_links HT ?_)
    refine wp_bd (tk_link HT (by omega) ?_)
    refine wp_bd (tk_gL (k := 0) HT (by omega) (by decide) ?_)
    exact wp_ifF (of_decide_eq_false (md_fd_no (p := fun i => decide (nI (N.2.1 i 0) = x)) hi)) (hk' _ rfl)
  · rintro f u rfl
    rw [fx_X2_link_L2]
    refine wp_bd (tk_num (k := 0) HT (by decide) ?_)
    unfold md_ix at kk
    by_cases e : md_fd (fun i => decide (nI (N.2.1 i 0) = x)) (md_nl N) = md_nl N
    · rw [if_pos e] at kk
      rw [e]
      exact wp_ifT (Int32.le_refl _) (wp_rt kk)
    · rw [if_neg e] at kk
      refine wp_ifF (nI_ge (show md_fd (fun i => decide (nI (N.2.1 i 0) = x)) (md_nl N) < md_nl N by omega) (show md_nl N < 2 ^ 31 by omega)) ?_
      refine wp_bd (tk_links HT ?_)
      refine wp_bd (tk_link HT (by omega) ?_)
      refine wp_bd (tk_gL (k := 0) HT (by omega) (by decide) ?_)
      exact wp_ifT (of_decide_eq_true (md_fd_is (p := fun i => decide (nI (N.2.1 i 0) = x)) (by omega))) (wp_rt kk)
theorem co_nmF (H : CoD o q5 U N R P I tb la fa ka kb h) (kk : Q (md_ix (md_fd (fun i => decide (nI (N.2.2.1 i 0) = x)) (md_nf N)) (md_nf N)) h) : wp (fx_X2_flow tb x) Q h := by
  have hF := H.1.nf
  have hle := md_fd_le (fun i => decide (nI (N.2.2.1 i 0) = x)) (md_nf N)
  obtain ⟨F0, R0, rd, gv, co, ns, ev, HT⟩ := H.now
  have nm : ∀ {i : Nat} {Q : Int32 → Hp → Prop}, i < md_nf N → Q (nI (N.2.2.1 i 0)) h → wp (gw_gi 9 0 (fa i)) Q h := fun hi kk => by
    obtain ⟨F, e1, e2, -⟩ := (H.2.2.1.2.2.2.2 _ hi).1
    exact w_gi e1 e2 kk
  refine wp_for (J := fun i u => u = h) (md_fd (fun i => decide (nI (N.2.2.1 i 0) = x)) (md_nf N)) (by omega) rfl rfl ?_ ?_
  · rintro i f u hi rfl hk'
    rw [fx_X2_flow_L2]
    refine wp_bd (tk_num (k := 1) HT (by decide) ?_)
    refine wp_ifF (nI_ge (show i < md_nf N by omega) (show md_nf N < 2 ^ 31 by omega)) ?_
    refine wp_bd (tk_flows HT ?_)
    refine wp_bd (tk_flow HT (by omega) ?_)
    refine wp_bd (nm (by omega) ?_)
    exact wp_ifF (of_decide_eq_false (md_fd_no (p := fun i => decide (nI (N.2.2.1 i 0) = x)) hi)) (hk' _ rfl)
  · rintro f u rfl
    rw [fx_X2_flow_L2]
    refine wp_bd (tk_num (k := 1) HT (by decide) ?_)
    unfold md_ix at kk
    by_cases e : md_fd (fun i => decide (nI (N.2.2.1 i 0) = x)) (md_nf N) = md_nf N
    · rw [if_pos e] at kk
      rw [e]
      exact wp_ifT (Int32.le_refl _) (wp_rt kk)
    · rw [if_neg e] at kk
      refine wp_ifF (nI_ge (show md_fd (fun i => decide (nI (N.2.2.1 i 0) = x)) (md_nf N) < md_nf N by omega) (show md_nf N < 2 ^ 31 by omega)) ?_
      refine wp_bd (tk_flows HT ?_)
      refine wp_bd (tk_flow HT (by omega) ?_)
      refine wp_bd (nm (by omega) ?_)
      exact wp_ifT (of_decide_eq_true (md_fd_is (p := fun i => decide (nI (N.2.2.1 i 0) = x)) (by omega))) (wp_rt kk)
theorem cq_named (H : CoD o q5 U N R P I tb la fa ka kb h) : wp (fx_X1_named o a x) (fun r u => r = an_named N a x ∧ CoD o q5 U N R P I tb la fa ka kb u) h := by
  unfold fx_X1_named fx_X1_named_J32 an_named
  obtain ⟨F0, R0, rd, gv, co, ns, ev, HT⟩ := H.now
  obtain ⟨F, n1, -⟩ := HT.cn.1
  refine wp_if (fun hc => ?_) (fun hc => wp_if (fun hd => ?_) (fun hd => ?_))
  · rw [if_pos hc]
    exact wp_bd (tk_told HT (wp_bd (w_on n1 (co_nmL H (wp_rt ⟨rfl, H⟩)))))
  · rw [if_neg hc, if_pos hd]
    exact wp_bd (tk_told HT (wp_bd (w_on n1 (co_nmF H (wp_rt ⟨rfl, H⟩)))))
  · rw [if_neg hc, if_neg hd]
    exact wp_rt ⟨rfl, H⟩
theorem cq_flow (hI : md_iv N m R) (H : CoD o q5 U N R P I tb la fa ka kb h) : wg (fx_X1_flow o a b) 1 1 (fun r u => r = an_flow N R a b ∧ CoD o q5 U N R P I tb la fa ka kb u) h := by
  unfold fx_X1_flow fx_X1_flow_J135 an_flow
  have hF := H.1.nf
  refine wg_bc 1 1 (by decide) (by decide) (co_isFlow (by decide) (by decide) H (fun u H e => ?_) (fun u f H hf ea e => ?_))
  · rw [e]
    exact wg_ifT rfl (wg_rc ⟨rfl, H⟩)
  rw [e, ea]
  obtain ⟨F0, R0, rd, gv, co, ns, ev, HT⟩ := H.now
  refine wg_ifF (by decide) ?_
  refine wg_b0 (tk_now HT ?_)
  refine wg_b0 (tk_snds HT ?_)
  refine wg_b0 (tk_snd HT (by omega) ?_)
  have fin : ∀ k, k ≠ 12 → R0.2.1 f k = R.2.1 f k := ev.2.2 f
  refine wg_if (fun hc => ?_) (fun c0 => ?_)
  · rw [hc, show md_op (0 : Int32) 12 = some 0 by decide]
    exact wg_b0 (tk_gS 0 0 HT hf (by decide) (wg_rc ⟨fin 0 (by decide), H⟩))
  refine wg_if (fun hc => ?_) (fun c1 => ?_)
  · rw [hc, show md_op (1 : Int32) 12 = some 1 by decide]
    exact wg_b0 (tk_gS 1 1 HT hf (by decide) (wg_rc ⟨fin 1 (by decide), H⟩))
  refine wg_if (fun hc => ?_) (fun c2 => ?_)
  · rw [hc, show md_op (2 : Int32) 12 = some 2 by decide]
    exact wg_b0 (tk_stg HT (by omega) (wg_b0 (tk_ldG 0 2 HT hf (by decide) rfl (wg_rc ⟨fin 2 (by decide), H⟩))))
  refine wg_if (fun hc => ?_) (fun c3 => ?_)
  · rw [hc, show md_op (3 : Int32) 12 = some 3 by decide]
    exact wg_b0 (tk_stg HT (by omega) (wg_b0 (tk_ldG 1 3 HT hf (by decide) rfl (wg_rc ⟨fin 3 (by decide), H⟩))))
  refine wg_if (fun hc => ?_) (fun c4 => ?_)
  · rw [hc, show md_op (4 : Int32) 12 = some 4 by decide]
    exact wg_b0 (tk_gS 2 4 HT hf (by decide) (wg_rc ⟨fin 4 (by decide), H⟩))
  refine wg_if (fun hc => ?_) (fun c5 => ?_)
  · rw [hc, show md_op (5 : Int32) 12 = some 5 by decide]
    exact wg_b0 (tk_gS 3 5 HT hf (by decide) (wg_rc ⟨fin 5 (by decide), H⟩))
  refine wg_if (fun hc => ?_) (fun c6 => ?_)
  · rw [hc, show md_op (6 : Int32) 12 = some 6 by decide]
    exact wg_b0 (tk_gS 4 6 HT hf (by decide) (wg_rc ⟨fin 6 (by decide), H⟩))
  refine wg_if (fun hc => ?_) (fun c7 => ?_)
  · rw [hc, show md_op (7 : Int32) 12 = some 7 by decide]
    refine wg_b0 (tk_gS 11 7 HT hf (by decide) ?_)
    rw [fin 7 (by decide)]
    refine wg_if (fun q => wg_rc ⟨?_, H⟩) (fun q => wg_rc ⟨?_, H⟩)
    · exact q.symm
    · rcases (hI.2.2.1 f hf).1 with z | z
      · exact absurd z q
      · exact z.symm
  refine wg_if (fun hc => ?_) (fun c8 => ?_)
  · rw [hc, show md_op (8 : Int32) 12 = some 8 by decide]
    exact wg_b0 (tk_gS 6 8 HT hf (by decide) (wg_rc ⟨fin 8 (by decide), H⟩))
  refine wg_if (fun hc => ?_) (fun c9 => ?_)
  · rw [hc, show md_op (9 : Int32) 12 = some 9 by decide]
    exact wg_b0 (tk_told HT (wg_b0 (tk_flows HT (wg_b0 (tk_flow HT hf (wg_b0 (tk_ho HT hf (wg_rc ⟨rfl, H⟩))))))))
  refine wg_if (fun hc => ?_) (fun c10 => ?_)
  · rw [hc, show md_op (10 : Int32) 12 = some 10 by decide]
    exact wg_b0 (tk_gS 7 9 HT hf (by decide) (wg_rc ⟨fin 9 (by decide), H⟩))
  refine wg_if (fun hc => ?_) (fun c11 => ?_)
  · rw [hc, show md_op (11 : Int32) 12 = some 11 by decide]
    exact wg_b0 (tk_gS 8 10 HT hf (by decide) (wg_rc ⟨fin 10 (by decide), H⟩))
  have non : md_op b 12 = none := by
    rcases md_op_c b (n := 12) (by decide) with ⟨e1, -⟩ | ⟨j, hj, ej, e1⟩
    · exact e1
    · exact absurd ej (match j, hj with | 0, _ => c0 | 1, _ => c1 | 2, _ => c2 | 3, _ => c3 | 4, _ => c4 | 5, _ => c5 | 6, _ => c6 | 7, _ => c7 | 8, _ => c8 | 9, _ => c9 | 10, _ => c10 | 11, _ => c11 | k + 12, h => by omega)
  rw [non]
  exact wg_rc ⟨rfl, H⟩
theorem tk_askP {b0 l : Nat} {F0 : Nat → Value} {h0 : Hp} {rd gv co : Nat → Int32} {ns : Ns} (HT : TK o N tb la fa b0 F0 h0 R rd gv co ns h) (hl : l < md_nl N) (hfl : ∀ k, k < 5 → R.1 l (10 + k) = 0 ∨ R.1 l (10 + k) = 1) (kk : Q (if R.1 l 10 = 1 then 1 else 0) h) : wp (gw_on 3 (b0 + 3 + 2 * l) (fx_X4_asksPause (b0 + 3 + 2 * l))) Q h := by
  have hL := HT.1.1.nl
  obtain ⟨F, e⟩ := HT.end (show l < 10 by omega)
  refine w_on e ?_
  unfold fx_X4_asksPause fx_X4_asksPause_J15
  refine wp_bd (tk_gA HT hl ?_)
  obtain ⟨a0, a1, a2, a3, a4, ⟨l0, l1, l2, l3, l4⟩, ⟨e0, e1, e2, e3, e4⟩, ew⟩ := md_as_b hfl
  rw [ew, as_one _ (by omega), show (a0 + 2 * a1 + 4 * a2 + 8 * a3 + 16 * a4) % 2 = a0 by omega, ← e0]
  refine wp_if (fun q => wp_rz (Or.inr rfl) ?_) (fun q => wp_rz (Or.inl rfl) ?_)
  · rw [if_pos q] at kk
    exact kk
  · rw [if_neg q] at kk
    exact kk
theorem co_all {k : Nat} (hk : (a = 0 ∧ k = 4) ∨ (a = 1 ∧ k = 5) ∨ (a = 2 ∧ k = 11) ∨ (a = 3 ∧ k = 6)) (H : CoD o q5 U N R P I tb la fa ka kb h) (kk : Q (md_on N R k) h) : wp (gw_on 2 (o + 10) (fx_X3_all (o + 10) a)) Q h := by
  have hF := H.1.nf
  obtain ⟨F0, R0, rd, gv, co, ns, ev, HT⟩ := H.now
  obtain ⟨F, e⟩ := HT.st
  refine w_on e ?_
  refine wp_forB (J := fun i w u => w = md_sum (fun f => R.2.1 f k) i ∧ u = h) (md_nf N) (by omega) ⟨rfl, rfl⟩ rfl ?_ ?_
  · rintro i f w u hi ⟨rfl, rfl⟩ hk'
    rw [fx_X3_all_L4]
    unfold fx_X3_all_J67
    refine wp_bd (tk_t HT ?_)
    refine wp_bd (tk_num (k := 1) HT (by decide) ?_)
    refine wp_ifF (nI_ge (by omega) (show md_nf N < 2 ^ 31 by omega)) ?_
    refine wp_bd (tk_snds HT ?_)
    refine wp_bd (tk_snd HT (by omega) ?_)
    rcases hk with ⟨rfl, rfl⟩ | ⟨rfl, rfl⟩ | ⟨rfl, rfl⟩ | ⟨rfl, rfl⟩
    · exact wp_ifT rfl (wp_bd (tk_gS 2 4 HT hi (by decide) (hk' _ _ ⟨by rw [ev.2.2 _ _ (by decide)]; rfl, rfl⟩)))
    · exact wp_ifF (by decide) (wp_ifT rfl (wp_bd (tk_gS 3 5 HT hi (by decide) (hk' _ _ ⟨by rw [ev.2.2 _ _ (by decide)]; rfl, rfl⟩))))
    · exact wp_ifF (by decide) (wp_ifF (by decide) (wp_ifT rfl (wp_bd (tk_gS 5 11 HT hi (by decide) (hk' _ _ ⟨by rw [ev.2.2 _ _ (by decide)]; rfl, rfl⟩)))))
    · exact wp_ifF (by decide) (wp_ifF (by decide) (wp_ifF (by decide) (wp_bd (tk_gS 4 6 HT hi (by decide) (hk' _ _ ⟨by rw [ev.2.2 _ _ (by decide)]; rfl, rfl⟩)))))
  · rintro f w u ⟨rfl, rfl⟩
    rw [fx_X3_all_L4]
    refine wp_bd (tk_t HT ?_)
    refine wp_bd (tk_num (k := 1) HT (by decide) ?_)
    exact wp_ifT (Int32.le_refl _) (wp_rt kk)
theorem cq_count (hI : md_iv N m R) (H : CoD o q5 U N R P I tb la fa ka kb h) : wp (fx_X1_count o a) (fun r u => r = an_count N R P.1 U.2.1 a ∧ CoD o q5 U N R P I tb la fa ka kb u) h := by
  have hF := H.1.nf
  have hL := H.1.nl
  unfold fx_X1_count fx_X1_count_J84 an_count
  obtain ⟨F, r1, r2, r3, r4, r5, r6, r7⟩ := H.root
  obtain ⟨F0, R0, rd, gv, co, ns, ev, HT⟩ := H.now
  refine wp_if (fun hc => ?_) (fun hc => ?_)
  · rw [if_pos hc]
    exact wp_bd (tk_told HT (wp_bd (tk_num (k := 0) HT (by decide) (wp_rt ⟨rfl, H⟩))))
  rw [if_neg hc]
  refine wp_if (fun hc => ?_) (fun hc => ?_)
  · rw [if_pos hc]
    exact wp_bd (tk_told HT (wp_bd (tk_num (k := 1) HT (by decide) (wp_rt ⟨rfl, H⟩))))
  rw [if_neg hc]
  refine wp_if (fun hc => ?_) (fun hc => ?_)
  · rw [if_pos hc]
    exact wp_bd (tk_now HT (wp_bd (tk_tick HT (wp_rt ⟨ev.2.1, H⟩))))
  rw [if_neg hc]
  refine wp_if (fun hc => ?_) (fun hc => ?_)
  · rw [if_pos hc]
    exact wp_bd (tk_now HT (wp_bd (co_all (k := 4) (Or.inl ⟨by rw [hc]; rfl, rfl⟩) H (wp_rt ⟨rfl, H⟩))))
  rw [if_neg hc]
  refine wp_if (fun hc => ?_) (fun hc => ?_)
  · rw [if_pos hc]
    exact wp_bd (tk_now HT (wp_bd (co_all (k := 5) (Or.inr (Or.inl ⟨by rw [hc]; rfl, rfl⟩)) H (wp_rt ⟨rfl, H⟩))))
  rw [if_neg hc]
  refine wp_if (fun hc => ?_) (fun hc => ?_)
  · rw [if_pos hc]
    exact wp_bd (tk_now HT (wp_bd (co_all (k := 11) (Or.inr (Or.inr (Or.inl ⟨by rw [hc]; rfl, rfl⟩))) H (wp_rt ⟨hI.2.2.2.symm, H⟩))))
  rw [if_neg hc]
  refine wp_if (fun hc => ?_) (fun hc => ?_)
  · rw [if_pos hc]
    exact wp_bd (tk_now HT (wp_bd (co_all (k := 6) (Or.inr (Or.inr (Or.inr ⟨by rw [hc]; rfl, rfl⟩))) H (wp_rt ⟨rfl, H⟩))))
  rw [if_neg hc]
  refine wp_if (fun hc => ?_) (fun hc => ?_)
  · rw [if_pos hc]
    refine wp_forB (J := fun i w u => w = md_sum (fun f => R.2.1 f 7) i ∧ u = h) (md_nf N) (by omega) ⟨rfl, rfl⟩ rfl ?_ ?_
    · rintro i f w u hi ⟨rfl, rfl⟩ hk'
      rw [fx_X1_count_L97]
      unfold fx_X1_count_J129
      refine wp_bd (tk_told HT ?_)
      refine wp_bd (tk_num (k := 1) HT (by decide) ?_)
      refine wp_ifF (nI_ge (by omega) (show md_nf N < 2 ^ 31 by omega)) ?_
      refine wp_bd (tk_now HT ?_)
      refine wp_bd (tk_snds HT ?_)
      refine wp_bd (tk_snd HT (by omega) ?_)
      refine wp_bd (tk_gS 11 7 HT hi (by decide) ?_)
      rw [ev.2.2 _ _ (by decide)]
      refine wp_if (fun q => hk' _ _ ⟨?_, rfl⟩) (fun q => hk' _ _ ⟨?_, rfl⟩)
      · rw [md_sum, q]
      · rcases (hI.2.2.1 i hi).1 with z | z
        · exact absurd z q
        · rw [md_sum, z]
    · rintro f w u ⟨rfl, rfl⟩
      rw [fx_X1_count_L97]
      refine wp_bd (tk_told HT ?_)
      refine wp_bd (tk_num (k := 1) HT (by decide) ?_)
      exact wp_ifT (Int32.le_refl _) (wp_rt ⟨rfl, H⟩)
  rw [if_neg hc]
  refine wp_if (fun hc => ?_) (fun hc => ?_)
  · rw [if_pos hc]
    refine wp_forB (J := fun i w u => w = md_sum (fun l => if R.1 l 10 = 1 then 1 else 0) i ∧ u = h) (md_nl N) (by omega) ⟨rfl, rfl⟩ rfl ?_ ?_
    · rintro i f w u hi ⟨rfl, rfl⟩ hk'
      rw [fx_X1_count_L141]
      unfold fx_X1_count_J173
      refine wp_bd (tk_told HT ?_)
      refine wp_bd (tk_num (k := 0) HT (by decide) ?_)
      refine wp_ifF (nI_ge (by omega) (show md_nl N < 2 ^ 31 by omega)) ?_
      refine wp_bd (tk_now HT ?_)
      refine wp_bd (tk_ends HT ?_)
      refine wp_bd (tk_end HT (by omega) ?_)
      refine wp_bd (tk_askP HT hi (by rw [ev.1]; exact (hI.2.1 i hi).1) ?_)
      rw [ev.1]
      by_cases q : R.1 i 10 = 1
      · rw [if_pos q]
        exact wp_ifF (by decide) (hk' _ _ ⟨by rw [md_sum, if_pos q], rfl⟩)
      · rw [if_neg q]
        exact wp_ifT rfl (hk' _ _ ⟨by rw [md_sum, if_neg q], rfl⟩)
    · rintro f w u ⟨rfl, rfl⟩
      rw [fx_X1_count_L141]
      refine wp_bd (tk_told HT ?_)
      refine wp_bd (tk_num (k := 0) HT (by decide) ?_)
      exact wp_ifT (Int32.le_refl _) (wp_rt ⟨rfl, H⟩)
  rw [if_neg hc]
  refine wp_if (fun hc => ?_) (fun hc => ?_)
  · rw [if_pos hc]
    exact wp_bd (w_gi r1 r6 (wp_rt ⟨rfl, H⟩))
  rw [if_neg hc]
  refine wp_if (fun hc => ?_) (fun hc => ?_)
  · rw [if_pos hc]
    exact wp_bd (w_gi r1 r3 (wp_rt ⟨rfl, H⟩))
  rw [if_neg hc]
  exact wp_rt ⟨rfl, H⟩
theorem cq_safe (H : CoD o q5 U N R P I tb la fa ka kb h) : wp (fx_X1_safe o) (fun r u => r = an_safe N R ∧ CoD o q5 U N R P I tb la fa ka kb u) h := by
  have hL := H.1.nl
  obtain ⟨F0, R0, rd, gv, co, ns, ev, HT⟩ := H.now
  refine wp_forB (J := fun i w u => w = md_bs (fun l => decide (¬ R.1 l 2 < md_hr N R l)) i ∧ u = h) (md_nl N) (by omega) ⟨rfl, rfl⟩ rfl ?_ ?_
  · rintro i f w u hi ⟨rfl, rfl⟩ hk'
    rw [fx_X1_safe_L4]
    unfold fx_X1_safe_J43
    refine wp_bd (tk_told HT ?_)
    refine wp_bd (tk_num (k := 0) HT (by decide) ?_)
    refine wp_ifF (nI_ge (by omega) (show md_nl N < 2 ^ 31 by omega)) ?_
    refine wp_bd (co_hr H hi ?_)
    refine wp_bd (tk_now HT ?_)
    refine wp_bd (tk_ends HT ?_)
    refine wp_bd (tk_end HT (by omega) ?_)
    refine wp_bd (tk_gE 3 2 HT hi (by decide) ?_)
    rw [ev.1]
    refine wp_if (fun q => hk' _ _ ⟨?_, rfl⟩) (fun q => wp_bd (w_bt rfl (by omega) (hk' _ _ ⟨?_, rfl⟩)))
    · rw [md_bs, if_neg (by rw [decide_eq_true_eq]; exact fun z => z q)]
    · rw [md_bs, if_pos (by rw [decide_eq_true_eq]; exact q)]
  · rintro f w u ⟨rfl, rfl⟩
    rw [fx_X1_safe_L4]
    refine wp_bd (tk_told HT ?_)
    refine wp_bd (tk_num (k := 0) HT (by decide) ?_)
    exact wp_ifT (Int32.le_refl _) (wp_rt ⟨rfl, H⟩)
end Cq
