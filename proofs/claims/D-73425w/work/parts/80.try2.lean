/-! THE COMPONENT: worst, leastSize -/
theorem wg_forBc {α : Type} {F : (Int32 → Int32 → gM α) → Int32 → Int32 → gM α} {z : Int32 → Int32 → gM α} {Q : α → Hp → Prop} {t : Hp} {v w : Int32} (C S C0 S0 : Nat) (J : Nat → Int32 → Hp → Prop) (n : Nat) (hn : n < 1000000) (h0 : J 0 w t) (hv : v = nI 0)
    (hs : ∀ (i : Nat) (f : Int32 → Int32 → gM α) (w : Int32) (t : Hp) (X Y : Nat), i < n → J i w t → (∀ w u, J (i + 1) w u → wg (f w (nI i + 1)) X Y Q u) → wg (F f w (nI i)) (C + X) (S + Y) Q t) (he : ∀ (f : Int32 → Int32 → gM α) (w : Int32) (t : Hp), J n w t → wg (F f w (nI n)) C0 S0 Q t) : wg (tw_lp F z tw_fu w v) (n * C + C0) (n * S + S0) Q t := by
  rw [hv]
  refine lp_run (ι := Int32 × Int32 × Hp × Nat) (G := fun (f : Int32 → Int32 → gM α) x => wg (f x.1 x.2.1) (x.2.2.2 * C + C0) (x.2.2.2 * S + S0) Q x.2.2.1) (fun k x => k = x.2.2.2 ∧ ∃ i, i + k = n ∧ x.2.1 = nI i ∧ J i x.1 x.2.2.1) (fun k f x hI hy => ?_) tw_fu n (w, nI 0, t, n) (tw_fu_lt hn) ⟨rfl, 0, Nat.zero_add n, rfl, h0⟩
  obtain ⟨hk, i, hi, hx, hJ⟩ := hI
  rw [hx, ← hk]
  by_cases hc : i < n
  · obtain ⟨j, rfl⟩ : ∃ j, k = j + 1 := ⟨k - 1, by omega⟩
    have e1 : (j + 1) * C + C0 = C + (j * C + C0) := by rw [Nat.succ_mul]; omega
    have e2 : (j + 1) * S + S0 = S + (j * S + S0) := by rw [Nat.succ_mul]; omega
    rw [e1, e2]
    exact hs i f x.1 x.2.2.1 _ _ hc hJ (fun w u hu => by rw [nI_1]; exact hy j (w, nI (i + 1), u, j) (by omega) ⟨rfl, i + 1, by omega, rfl, hu⟩)
  · have e : i = n := by omega
    subst e
    have e : k = 0 := by omega
    subst e
    have h := he f x.1 x.2.2.1 hJ
    rw [Nat.zero_mul, Nat.zero_mul, Nat.zero_add, Nat.zero_add]
    exact h
theorem wg_forCc {α : Type} {F : (Int32 → Int32 → Int32 → gM α) → Int32 → Int32 → Int32 → gM α} {z : Int32 → Int32 → Int32 → gM α} {Q : α → Hp → Prop} {t : Hp} {v w y : Int32} (C S C0 S0 : Nat) (J : Nat → Int32 → Int32 → Hp → Prop) (n : Nat) (hn : n < 1000000) (h0 : J 0 w y t) (hv : v = nI 0)
    (hs : ∀ (i : Nat) (f : Int32 → Int32 → Int32 → gM α) (w y : Int32) (t : Hp) (X Y : Nat), i < n → J i w y t → (∀ w y u, J (i + 1) w y u → wg (f w y (nI i + 1)) X Y Q u) → wg (F f w y (nI i)) (C + X) (S + Y) Q t) (he : ∀ (f : Int32 → Int32 → Int32 → gM α) (w y : Int32) (t : Hp), J n w y t → wg (F f w y (nI n)) C0 S0 Q t) : wg (tw_lp F z tw_fu w y v) (n * C + C0) (n * S + S0) Q t := by
  rw [hv]
  refine lp_run (ι := (Int32 × Int32) × Int32 × Hp × Nat) (G := fun (f : Int32 → Int32 → Int32 → gM α) x => wg (f x.1.1 x.1.2 x.2.1) (x.2.2.2 * C + C0) (x.2.2.2 * S + S0) Q x.2.2.1) (fun k x => k = x.2.2.2 ∧ ∃ i, i + k = n ∧ x.2.1 = nI i ∧ J i x.1.1 x.1.2 x.2.2.1) (fun k f x hI hy => ?_) tw_fu n ((w, y), nI 0, t, n) (tw_fu_lt hn) ⟨rfl, 0, Nat.zero_add n, rfl, h0⟩
  obtain ⟨hk, i, hi, hx, hJ⟩ := hI
  rw [hx, ← hk]
  by_cases hc : i < n
  · obtain ⟨j, rfl⟩ : ∃ j, k = j + 1 := ⟨k - 1, by omega⟩
    have e1 : (j + 1) * C + C0 = C + (j * C + C0) := by rw [Nat.succ_mul]; omega
    have e2 : (j + 1) * S + S0 = S + (j * S + S0) := by rw [Nat.succ_mul]; omega
    rw [e1, e2]
    exact hs i f x.1.1 x.1.2 x.2.2.1 _ _ hc hJ (fun w y u hu => by rw [nI_1]; exact hy j ((w, y), nI (i + 1), u, j) (by omega) ⟨rfl, i + 1, by omega, rfl, hu⟩)
  · have e : i = n := by omega
    subst e
    have e : k = 0 := by omega
    subst e
    have h := he f x.1.1 x.1.2 x.2.2.1 hJ
    rw [Nat.zero_mul, Nat.zero_mul, Nat.zero_add, Nat.zero_add]
    exact h
theorem wo_eq (a b c d : Int32) : ((a - b) - c) + d = (a - b) - (c - d) := by
  rw [Int32.sub_eq_add_neg (a := a - b) (b := c - d), Int32.neg_sub, Int32.sub_eq_add_neg (a := a - b) (b := c), Int32.sub_eq_add_neg (a := d) (b := c), Int32.add_assoc, Int32.add_comm (-c) d]
section Ct
variable {o q5 : Nat} {U : (Nat → Nat) × Nat × Int32 × Int32} {N : Nt} {R X : Rw} {P : Nat × (Nat → Rw)} {I : Bool × Rw} {tb : Nat} {la fa : Nat → Nat} {ka : Nat} {kb : Nat → Nat} {h u : Hp} {Q : Int32 → Hp → Prop} {V : Unit → Hp → Prop} {A : Nat → Hp → Prop} {m l f : Nat} {a b c x : Int32}
theorem ct_all (H : CoT o q5 U N R P I tb la fa ka kb X h) (kk : Q (md_on N X 5) h) : wp (gw_on 2 (o + 88) (fx_X3_all (o + 88) (1 : Int32))) Q h := by
  have hF := H.1.1.nf
  obtain ⟨F0, R0, rd, gv, co, ns, ev, HT⟩ := H.now
  obtain ⟨F, e⟩ := HT.st
  refine w_on e ?_
  refine wp_forB (J := fun i w u => w = md_sum (fun f => X.2.1 f 5) i ∧ u = h) (md_nf N) (by omega) ⟨rfl, rfl⟩ rfl ?_ ?_
  · rintro i f w u hi ⟨rfl, rfl⟩ hk'
    rw [fx_X3_all_L4]
    unfold fx_X3_all_J67
    refine wp_bd (tk_t HT ?_)
    refine wp_bd (tk_num (k := 1) HT (by decide) ?_)
    refine wp_ifF (nI_ge (by omega) (show md_nf N < 2 ^ 31 by omega)) ?_
    refine wp_bd (tk_snds HT ?_)
    refine wp_bd (tk_snd HT (by omega) ?_)
    exact wp_ifF (by decide) (wp_ifT rfl (wp_bd (tk_gS 3 5 HT hi (by decide) (hk' _ _ ⟨by rw [ev.2.2 _ _ (by decide)]; rfl, rfl⟩))))
  · rintro f w u ⟨rfl, rfl⟩
    rw [fx_X3_all_L4]
    refine wp_bd (tk_t HT ?_)
    refine wp_bd (tk_num (k := 1) HT (by decide) ?_)
    exact wp_ifT (Int32.le_refl _) (wp_rt kk)
theorem cq_least (hI : md_iv N m R) (hm : m ≤ 9999) (H : CoD o q5 U N R P I tb la fa ka kb h) : wg (fx_X1_leastSize o a b) 2001 3001 (fun r u => r = an_least N R a b ∧ CoD o q5 U N R P I tb la fa ka kb u) h := by
  have hF := H.1.nf
  have hL := H.1.nl
  unfold fx_X1_leastSize fx_X1_leastSize_J20 an_least
  refine wg_bc 1 1 (by decide) (by decide) (co_isLink (by decide) (by decide) H (fun u H e => ?_) (fun u l H hl ea e => ?_))
  · rw [e]
    exact wg_ifT rfl (wg_rc ⟨rfl, H⟩)
  rw [e, ea]
  refine wg_ifF (by decide) ?_
  refine wg_b0 (w_isIn (b := 1) (c := 100) rfl rfl ?_)
  rcases md_op_1 b (n := 100) (by decide) with ⟨e1, e2⟩ | ⟨j, hj, rfl, e1⟩
  · rw [if_pos (show b < 1 ∨ 100 < b from e2), e1]
    exact wg_ifT rfl (wg_rc ⟨rfl, H⟩)
  have hn : ¬ (nI (j + 1) < 1 ∨ 100 < nI (j + 1)) := by
    rintro (q | q)
    · exact nI_nlt (b := 1) (by omega) (by omega) q
    · exact i32_nlt.mpr (nI_le (b := 100) (by omega) (by decide)) q
  rw [if_neg hn, e1]
  dsimp only
  refine wg_ifF (by decide) ?_
  refine wg_bc 0 0 (by decide) (by decide) (ct_tried (n := 0) hI (by omega) (by decide) H fun u H => ?_)
  refine ct_end H hl ?_
  refine wg_b0 (ct_pE 3 2 H hl (by decide) fun u H => ?_)
  have H : CoT o q5 U N R P I tb la fa ka kb (md_E R l 2 1999) u := H
  have hI' : md_iv N m (md_E R l 2 1999) := hI.E2 (n := 1999) (by decide) (by decide)
  refine (wg_forBc 20 30 0 0 (J := fun i y u => y = md_it (md_l1 N (md_E R l 2 1999) l) i 1 ∧ CoT o q5 U N R P I tb la fa ka kb (md_tn N i (md_E R l 2 1999)) u) (j + 1) (by omega) ⟨rfl, H⟩ rfl ?_ ?_).mono (by omega) (by omega) fun a u q => q
  · rintro i g y u X Y hi ⟨rfl, H⟩ hk
    rw [fx_X1_leastSize_L51]
    refine wg_ifF (nI_ge hi (by omega)) ?_
    refine wg_b0 (co_try H.1 ?_)
    refine wg_bc 20 30 (by omega) (by omega) (ct_tick (m := m + i) (hI'.tn H.1.1 (by omega)) (by omega) H fun u co H hc7 hco => ?_)
    have H : CoT o q5 U N R P I tb la fa ka kb (md_tn N (i + 1) (md_E R l 2 1999)) u := H
    rw [show 20 + X - 20 = X by omega, show 30 + Y - 30 = Y by omega]
    rw [md_it] at hk
    generalize md_it (md_l1 N (md_E R l 2 1999) l) i 1 = y at hk
    rw [md_l1] at hk
    obtain ⟨F0, R0, rd, gv, co', ns, ev, HT⟩ := H.1.now
    refine wg_forB (J := fun f w v => w = md_sum (fun f => md_tc N (md_tn N i (md_E R l 2 1999)) l f) f ∧ v = u) (md_nf N) (by omega) ⟨rfl, rfl⟩ rfl ?_ ?_
    · rintro f g' w v hf ⟨rfl, rfl⟩ hk'
      rw [fx_X1_leastSize_L71]
      refine wg_b0 (tk_told HT ?_)
      refine wg_b0 (tk_num (k := 1) HT (by decide) ?_)
      refine wg_ifF (nI_ge hf (show md_nf N < 2 ^ 31 by omega)) ?_
      refine wg_b0 (tk_co HT ?_)
      refine wg_b0 (w_ld hc7 (ix_8 l f) (by omega) (by decide) ?_)
      rw [hco l f hl hf]
      exact hk' _ _ ⟨rfl, rfl⟩
    · rintro g' w v ⟨rfl, rfl⟩
      rw [fx_X1_leastSize_L71]
      unfold fx_X1_leastSize_J122
      refine wg_b0 (tk_told HT ?_)
      refine wg_b0 (tk_num (k := 1) HT (by decide) ?_)
      refine wg_ifT (Int32.le_refl _) ?_
      refine wg_if (fun hc => hk _ _ ⟨?_, H⟩) (fun hc => wg_b0 (ct_q H hl (hk _ _ ⟨?_, H⟩)))
      · rw [if_neg (i32_nlt.mpr hc)]
      · rw [if_pos (i32_nle.mp hc), md_mx]
  · rintro g y u ⟨rfl, H⟩
    rw [fx_X1_leastSize_L51]
    unfold fx_X1_leastSize_J154
    refine wg_ifT (Int32.le_refl _) ?_
    refine wg_b0 (ct_gE 5 3 H hl (by decide) ?_)
    refine co_end H.1 hl ?_
    refine wg_b0 (co_gE 5 3 H.1 hl (by decide) ?_)
    sorry
end Ct
