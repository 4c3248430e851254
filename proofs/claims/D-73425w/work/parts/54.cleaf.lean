/-! the component's small methods -/
theorem as_shr : ∀ w, w < 32 → ∀ d, d < 5 → ((nI w >>> (nI d &&& 31)) &&& (1 : Int32)) = nI ((w / 2 ^ d) % 2) := by decide +kernel
theorem as_shl : ∀ w, w < 32 → ∀ n, n < 2 → (((nI w <<< ((1 : Int32) &&& 31)) ||| nI n) &&& (31 : Int32)) = nI ((2 * w + n) % 32) := by decide +kernel
theorem as_low : ∀ w, w < 32 → (nI w &&& (1 : Int32)) = nI (w % 2) := by decide +kernel
theorem md_as_b {e : Nat → Int32} (h : ∀ k, k < 5 → e (10 + k) = 0 ∨ e (10 + k) = 1) : ∃ a0 a1 a2 a3 a4 : Nat, (a0 < 2 ∧ a1 < 2 ∧ a2 < 2 ∧ a3 < 2 ∧ a4 < 2) ∧ (e 10 = nI a0 ∧ e 11 = nI a1 ∧ e 12 = nI a2 ∧ e 13 = nI a3 ∧ e 14 = nI a4) ∧ md_as e = nI (a0 + 2 * a1 + 4 * a2 + 8 * a3 + 16 * a4) := by
  have one : ∀ k, k < 5 → ∃ a, a < 2 ∧ e (10 + k) = nI a := fun k hk => by
    rcases h k hk with q | q
    · exact ⟨0, by decide, q⟩
    · exact ⟨1, by decide, q⟩
  obtain ⟨a0, l0, e0⟩ := one 0 (by decide)
  obtain ⟨a1, l1, e1⟩ := one 1 (by decide)
  obtain ⟨a2, l2, e2⟩ := one 2 (by decide)
  obtain ⟨a3, l3, e3⟩ := one 3 (by decide)
  obtain ⟨a4, l4, e4⟩ := one 4 (by decide)
  refine ⟨a0, a1, a2, a3, a4, ⟨l0, l1, l2, l3, l4⟩, ⟨e0, e1, e2, e3, e4⟩, ?_⟩
  unfold md_as
  rw [show e 10 = nI a0 from e0, show e 11 = nI a1 from e1, show e 12 = nI a2 from e2, show e 13 = nI a3 from e3, show e 14 = nI a4 from e4, show (2 : Int32) = nI 2 from rfl, show (4 : Int32) = nI 4 from rfl, show (8 : Int32) = nI 8 from rfl, show (16 : Int32) = nI 16 from rfl, pk_mul, pk_mul, pk_mul, pk_mul, nI_add, nI_add, nI_add, nI_add]
section TKleaf
variable {o tb b : Nat} {N : Nt} {la fa : Nat → Nat} {F0 : Nat → Value} {h0 h : Hp} {R R' : Rw} {rd gv co : Nat → Int32} {ns : Ns} {Q : Int32 → Hp → Prop} {P : Unit → Hp → Prop} {A : Nat → Hp → Prop} {l f k j : Nat} {x : Int32}
theorem tk_queue (H : TK o N tb la fa b F0 h0 R rd gv co ns h) (hl : l < md_nl N) (kk : Q (md_q R l) h) : wp (fx_X4_queue (b + 3 + 2 * l)) Q h := by
  have hL := H.1.1.nl
  unfold fx_X4_queue
  refine wp_bd (tk_cells H (by omega) ?_)
  obtain ⟨g, e1, -⟩ := H.2.1.2.2.2.2.1 l (by omega)
  refine wp_bd (w_al e1 ?_)
  refine wp_forB (J := fun i w u => w = md_sum (fun f => R.1 l (15 + f)) i ∧ u = h) 8 (by decide) ⟨rfl, rfl⟩ rfl ?_ ?_
  · rintro i f w u hi ⟨rfl, rfl⟩ hk
    unfold fx_X4_queue_L13
    refine wp_ifF (nI_ge hi (show 8 < 2 ^ 31 by decide)) (wp_bd (tk_ldQ H hl hi ?_))
    exact hk _ _ ⟨rfl, rfl⟩
  · rintro f w u ⟨rfl, rfl⟩
    unfold fx_X4_queue_L13
    exact wp_ifT (Int32.le_refl _) (wp_rt kk)
theorem tk_onq (H : TK o N tb la fa b F0 h0 R rd gv co ns h) (hl : l < md_nl N) (kk : Q (md_q R l) h) : wp (gw_on 3 (b + 3 + 2 * l) (fx_X4_queue (b + 3 + 2 * l))) Q h := by
  obtain ⟨F, e⟩ := H.end (show l < 10 by have := H.1.1.nl; omega)
  exact w_on e (tk_queue H hl kk)
theorem tk_at (H : TK o N tb la fa b F0 h0 R rd gv co ns h) (hf : f < md_nf N) (hl : l < md_nl N) (kk : Q (md_ix (md_hop N f l) (md_ho N f)) h) : wp (gw_on 9 (fa f) (fx_X10_at (fa f) (nI l))) Q h := by
  have hH := H.1.1.ho hf
  have hL := H.1.1.nl
  have hle := md_hop_le N f l
  obtain ⟨F, e⟩ := H.flow hf
  refine w_on e ?_
  refine wp_for (J := fun i u => u = h) (md_hop N f l) (by omega) rfl rfl ?_ ?_
  · rintro i f' u hi rfl hk
    unfold fx_X10_at_L2
    have hp := H.1.1.pa hf (show i < md_ho N f by omega)
    refine wp_bd (tk_ho H hf (wp_ifF (nI_ge (by omega) (by omega)) (wp_bd (tk_path H hf (wp_bd (tk_pa H hf (by omega) rfl (wp_ifF ?_ (hk _ rfl))))))))
    rw [nI_eq (by omega) (by omega)]
    exact md_hop_no hi
  · rintro f' u rfl
    unfold fx_X10_at_L2
    unfold md_ix at kk
    refine wp_bd (tk_ho H hf ?_)
    by_cases e : md_hop N f l = md_ho N f
    · rw [if_pos e] at kk
      rw [e]
      exact wp_ifT (Int32.le_refl _) (wp_rt kk)
    · rw [if_neg e] at kk
      refine wp_ifF (nI_ge (by omega) (by omega)) (wp_bd (tk_path H hf (wp_bd (tk_pa H hf (by omega) rfl (wp_ifT ?_ (wp_rt kk))))))
      rw [md_hop_is (by omega)]
theorem tk_last (H : TK o N tb la fa b F0 h0 R rd gv co ns h) (hf : f < md_nf N) (hl : l < md_nl N) (hh : md_hop N f l < md_ho N f) (kk : Q (if md_hop N f l + 1 = md_ho N f then 1 else 0) h) : wp (gw_on 9 (fa f) (fx_X10_isLast (fa f) (nI l))) Q h := by
  have hH := H.1.1.ho hf
  have hL := H.1.1.nl
  obtain ⟨F, e⟩ := H.flow hf
  refine w_on e ?_
  unfold fx_X10_isLast fx_X10_isLast_J20
  obtain ⟨m, hm⟩ : ∃ m, md_ho N f = m + 1 := ⟨md_ho N f - 1, by omega⟩
  refine wp_bd (tk_path H hf (wp_bd (tk_ho H hf (wp_bd (tk_pa (k := m) H hf (by omega) (by rw [hm, nI_pred]) ?_)))))
  have hp := H.1.1.pa hf (show m < md_ho N f by omega)
  have his := md_hop_is hh
  refine wp_if (fun hc => wp_rz (Or.inr rfl) ?_) (fun hc => wp_rz (Or.inl rfl) ?_)
  · rw [nI_eq (by omega) (by omega)] at hc
    have := H.1.1.ne hf hh (show m < md_ho N f by omega) (his.trans hc.symm)
    rw [if_pos (by omega)] at kk
    exact kk
  · rw [if_neg] at kk
    · exact kk
    · intro q
      apply hc
      rw [show m = md_hop N f l by omega, his]
theorem tk_ready (H : TK o N tb la fa b F0 h0 R rd gv co ns h) (hf : f < md_nf N) (hl : l < md_nl N) (kk : Q (md_rdy N R l f) h) : wp (gw_on 2 b (fx_X3_ready b (nI l) (nI f))) Q h := by
  have hH := H.1.1.ho hf
  have hL := H.1.1.nl
  have hF := H.1.1.nf
  have hle := md_hop_le N f l
  obtain ⟨F, e⟩ := H.st
  refine w_on e ?_
  unfold fx_X3_ready fx_X3_ready_J67
  refine wp_bd (tk_t H (wp_bd (tk_flows H (wp_bd (tk_flow H hf (wp_bd (tk_at H hf hl ?_)))))))
  unfold md_rdy at kk
  by_cases e : md_hop N f l = md_ho N f
  · rw [if_pos e] at kk
    rw [md_ix, if_pos e]
    exact wp_ifF (by decide) (wp_rt kk)
  · rw [if_neg e] at kk
    rw [md_ixn (by omega)]
    refine wp_ifT (nI_pos' (by omega)) ?_
    by_cases e0 : md_hop N f l = 0
    · rw [if_pos e0] at kk
      rw [e0]
      exact wp_ifT rfl (wp_bd (tk_snds H (wp_bd (tk_snd H (by omega) (wp_bd (tk_gS 6 8 H hf (by decide) (wp_bd (wp_nz (by decide) (wp_rt kk)))))))))
    · rw [if_neg e0] at kk
      obtain ⟨j, hj⟩ : ∃ j, md_hop N f l = j + 1 := ⟨md_hop N f l - 1, by omega⟩
      rw [hj] at kk ⊢
      have hp := H.1.1.pa hf (show j < md_ho N f by omega)
      refine wp_ifF (nI_ne0 (by omega) (by omega)) ?_
      refine wp_bd (tk_ends H ?_)
      refine wp_bd (tk_t H ?_)
      refine wp_bd (tk_flows H ?_)
      refine wp_bd (tk_flow H hf ?_)
      refine wp_bd (tk_path H hf ?_)
      refine wp_bd (tk_pa (k := j) H hf (by omega) (nI_pred j) ?_)
      refine wp_bd (tk_end H (by omega) ?_)
      refine wp_bd (tk_cells H (by omega) ?_)
      refine wp_bd (tk_ldQ H hp (by omega) ?_)
      exact wp_rt kk
theorem tk_paused (H : TK o N tb la fa b F0 h0 R rd gv co ns h) (hl : l < md_nl N) (hfl : ∀ k, k < 5 → R.1 l (10 + k) = 0 ∨ R.1 l (10 + k) = 1) (kk : Q (if R.1 l (10 + N.2.1 l 2) = 0 then 0 else 1) h) : wp (gw_on 2 b (fx_X3_isPaused b (nI l))) Q h := by
  have hL := H.1.1.nl
  have hd := H.1.1.delay hl
  obtain ⟨F, e⟩ := H.st
  refine w_on e ?_
  unfold fx_X3_isPaused fx_X3_isPaused_J33
  refine wp_bd (tk_ends H ?_)
  refine wp_bd (tk_end H (by omega) ?_)
  refine wp_bd (tk_gA H hl ?_)
  refine wp_bd (tk_t H ?_)
  refine wp_bd (tk_links H ?_)
  refine wp_bd (tk_link H hl ?_)
  refine wp_bd (tk_gL (k := 2) H hl (by decide) ?_)
  obtain ⟨a0, a1, a2, a3, a4, ⟨l0, l1, l2, l3, l4⟩, ⟨e0, e1, e2, e3, e4⟩, ew⟩ := md_as_b hfl
  rw [ew, as_shr _ (by omega) _ (by omega)]
  have key : R.1 l (10 + N.2.1 l 2) = nI ((a0 + 2 * a1 + 4 * a2 + 8 * a3 + 16 * a4) / 2 ^ N.2.1 l 2 % 2) := by
    match N.2.1 l 2, hd with
    | 0, _ => rw [show 10 + 0 = 10 from rfl, e0]; congr 1; omega
    | 1, _ => rw [show 10 + 1 = 11 from rfl, e1]; congr 1; omega
    | 2, _ => rw [show 10 + 2 = 12 from rfl, e2]; congr 1; omega
    | 3, _ => rw [show 10 + 3 = 13 from rfl, e3]; congr 1; omega
    | 4, _ => rw [show 10 + 4 = 14 from rfl, e4]; congr 1; omega
    | d + 5, h => omega
  rw [key] at kk
  rcases Nat.mod_two_eq_zero_or_one ((a0 + 2 * a1 + 4 * a2 + 8 * a3 + 16 * a4) / 2 ^ N.2.1 l 2) with q | q
  · rw [q] at kk ⊢
    exact wp_ifF (by decide) (wp_rz (Or.inl rfl) (by rw [if_pos (by decide)] at kk; exact kk))
  · rw [q] at kk ⊢
    exact wp_ifT (by decide) (wp_rz (Or.inr rfl) (by rw [if_neg (by decide)] at kk; exact kk))
theorem tk_asks (H : TK o N tb la fa b F0 h0 R rd gv co ns h) (hl : l < md_nl N) (hfl : ∀ k, k < 5 → R.1 l (10 + k) = 0 ∨ R.1 l (10 + k) = 1) (kk : ∀ u, TK o N tb la fa b F0 h0 (md_ask l R) rd gv co ns u → P () u) : wp (gw_on 3 (b + 3 + 2 * l) (fx_X4_asks (b + 3 + 2 * l))) P h := by
  have hL := H.1.1.nl
  obtain ⟨F, e⟩ := H.end (show l < 10 by omega)
  refine w_on e ?_
  unfold fx_X4_asks
  obtain ⟨a0, a1, a2, a3, a4, ⟨l0, l1, l2, l3, l4⟩, ⟨e0, e1, e2, e3, e4⟩, ew⟩ := md_as_b hfl
  obtain ⟨k0, k1, k2, k3, k4⟩ := md_ask_at (l := l) (R := R)
  have fin : ∀ n, n < 2 → md_aw R l = nI n → wp (fx_X4_asks_J35 (b + 3 + 2 * l) (nI n)) P h := by
    intro n hn ea
    unfold fx_X4_asks_J35
    refine wp_bd (tk_gA H hl ?_)
    rw [ew, as_shl _ (by omega) _ hn]
    refine wp_bd (tk_pA (R' := md_ask l R) H hl (fun a k hk => md_ask_k hk) (fun a k ha => md_ask_a ha) rfl ?_ fun u hu => wp_rt (kk u hu))
    unfold md_as
    rw [k0, k1, k2, k3, k4, ea, e0, e1, e2, e3, show (2 : Int32) = nI 2 from rfl, show (4 : Int32) = nI 4 from rfl, show (8 : Int32) = nI 8 from rfl, show (16 : Int32) = nI 16 from rfl, pk_mul, pk_mul, pk_mul, pk_mul, nI_add, nI_add, nI_add, nI_add]
    congr 1
    omega
  refine wp_bd (tk_onq H hl ?_)
  refine wp_bd (tk_gE 1 0 H hl (by decide) ?_)
  refine wp_if (fun hc => ?_) (fun hc => fin 1 (by decide) (by rw [md_aw, if_neg hc]; rfl))
  refine wp_bd (tk_gE 2 1 H hl (by decide) ?_)
  refine wp_if (fun hc2 => ?_) (fun hc2 => fin 0 (by decide) (by rw [md_aw, if_pos hc, if_neg hc2]; rfl))
  refine wp_bd (tk_gA H hl ?_)
  rw [ew, as_low _ (by omega), show (a0 + 2 * a1 + 4 * a2 + 8 * a3 + 16 * a4) % 2 = a0 by omega]
  exact fin a0 l0 (by rw [md_aw, if_pos hc, if_pos hc2, e0])
end TKleaf
